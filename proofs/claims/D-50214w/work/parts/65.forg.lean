/-! a state: one cabin changes; forgetting -/
set_option maxRecDepth 100000
set_option maxHeartbeats 2000000
section G1
variable {S : Nat → Prop} {b c t o : Nat} {G : GG} {N : Nat} {nl : Nat → List Nat} {h h' : Hp} {w w' y : Nat → Nat} {st : Nat} {R R' : Row} {mt cl se bu rd gr : Nat} {cb ru mp sp nn : Nat → Nat} {es : Nat → List En}
/-- a step that changes one cabin's map -/
theorem StX.map {nn' : Nat} {es' : List En} (A : StX b h w y st R nl mt cl se bu rd gr cb ru mp sp nn es) (Y : TG y) (T : Tr (fun t => t = y (2 * o + 2)) c h w h' w') (H' : ROK R') (c1 : cN R' = cN R) (c2 : sN R' = sN R) (e0 : ∀ j, j < 258 → R' j = R j) (hc : ∀ k, k < cN R → k ≠ o → ∀ p, p < 80 → R' (258 + 80 * k + p) = R (258 + 80 * k + p)) (n4 : o < cN R → MR b h' w' (y (2 * o + 2)) true (mp o) nn' es' ∧ VoR h' w' R' o es') (n5 : ∀ j, 258 + 80 * cN R ≤ j → j < 1058 → R' j = nI 0) :
    StX b h' w' y st R' nl mt cl se bu rd gr cb ru mp sp (va_up nn o nn') (va_up es o es') := by
  have A' := A
  obtain ⟨a1, a2, ⟨a3, f, a4, a5⟩, a6, a7, a8, a9, a10, H, a12⟩ := A
  obtain ⟨h6, h7, h8, h9, l6, l7, l8, l9, hv⟩ := H
  have ny : ∀ k, k ≠ 2 * o + 2 → ¬ (y k = y (2 * o + 2)) := fun k hk => Y.ne hk
  have n0 : ∀ k, k ≤ 3 → ¬ (k = y (2 * o + 2)) := fun k hk q => by have := Y.2 (2 * o + 2); omega
  have y1 : ∀ k, y k ≠ 1 := fun k => by have := Y.2 k; omega
  have row : ∀ k, k < cN R → (∀ p, p < 80 → R' (258 + 80 * k + p) = R (258 + 80 * k + p)) → CRow R R' k := fun k hk e => ⟨fun i hi => e0 _ (by omega), e0 _ (by omega), e0 _ (by omega), e0 _ (by omega), e0 _ (by omega), fun s hs => e0 _ (by omega), e⟩
  refine A'.step (o := o) Y (T.mono (fun t ht => Or.inr (Or.inr ht)) (Nat.le_refl _)) H' c1 c2 (fun j hj => e0 j (by omega)) ?_ ⟨f, T.own a3 (ny 0 (by omega)) (y1 0) a4 nar, fun k hk => by rw [e0 k (by omega)]; exact a5 k hk⟩ ((a6.keep T (n0 0 (by omega)) (ny 0 (by omega)) (y1 0)).row (fun j h1 h2 _ _ => e0 j (by omega))) (fun k hk hko => row k hk (hc k hk hko)) (fun ho => ?_) n5
  · have := T.own a2 (ny 0 (by omega)) (y1 0) a1 (ncl (by decide))
    unfold StC
    rw [e0 90 (by omega), e0 91 (by omega), e0 92 (by omega), e0 93 (by omega), e0 94 (by omega), e0 95 (by omega), e0 96 (by omega), e0 97 (by omega)]
    exact this
  · obtain ⟨b1, b2, ⟨b3, g, b4, b5⟩, b6, b7⟩ := a10 o ho
    obtain ⟨m1, m2⟩ := n4 ho
    refine ⟨b1.keep T, ?_, ⟨b3.keep T, g, T.own b3 (ny _ (by omega)) (y1 _) b4 nar, fun s hs => by rw [e0 _ (by omega)]; exact b5 s hs⟩, m1, m2⟩
    have := T.own b1 (ny _ (by omega)) (y1 _) b2 (ncl (by decide))
    unfold CabAt
    rw [e0 (10 + 3 * o) (by omega), e0 (10 + 3 * o + 1) (by omega), e0 (148 + o) (by omega), e0 (158 + o) (by omega), e0 (168 + o) (by omega), e0 (138 + o) (by omega), e0 (10 + 3 * o + 2) (by omega)]
    exact this
theorem vote_ok {R : Row} (H : ROK R) {j m : Nat} {v : Int32} (hj : 258 ≤ j) (hv : v = nI m) (hm : m < 20000) : ROK (upd R j v) ∧ cN (upd R j v) = cN R ∧ sN (upd R j v) = sN R ∧ rN (upd R j v) = rN R ∧ fN (upd R j v) = fN R :=
  H.of (l_upd_ne (by omega)) (l_upd_ne (by omega)) (l_upd_ne (by omega)) (l_upd_ne (by omega)) (fun i h1 h2 => by
    rw [l_upd]
    by_cases hq : i = j
    · rw [if_pos hq]; exact Or.inr ⟨m, hm, hv⟩
    · rw [if_neg hq]; exact Or.inl rfl)
/-- one vote forgotten, if it is old -/
noncomputable def fFg (R : Row) (j : Nat) : Row := @ite Row (goes R j) (Classical.propDecidable _) (upd R j (nI 0)) R
theorem c_forget1 {p k : Nat} (A : StX G.1 h w y st R nl mt cl se bu rd gr cb ru mp sp nn es) (Y : TG y) (ho : o < cN R) (hp : p < 80) (K : KeyAt h true k p) (hN : 400 < N) : ∃ h' es', sX12_forgets G N (some (cb o)) (some k) (R 90) (R 1) h = some (.inl (), h') ∧ h'.1 = h.1 ∧ h'.2.1 = h.2.1 ∧ (∀ q, q < h.1 → w q ≠ y (2 * o + 2) → h'.2.2 q = h.2.2 q) ∧ StX G.1 h' w y st (fFg R (258 + 80 * o + p)) nl mt cl se bu rd gr cb ru mp sp nn (va_up es o es') := by
  classical
  have A' := A
  obtain ⟨a1, a2, a3, a6, a7, a8, a9, a10, H, a12⟩ := A
  have OK0 := H
  obtain ⟨h6, h7, h8, h9, l6, l7, l8, l9, hv⟩ := H
  obtain ⟨b1, b2, b3, b6, b7⟩ := a10 o ho
  have hlen : (es o).length ≤ 128 := by
    obtain ⟨tab, mc, th, lf, ve, vk, vv, kk, X⟩ := b6
    exact X.len
  have same : ¬ goes R (258 + 80 * o + p) → StX G.1 h w y st (fFg R (258 + 80 * o + p)) nl mt cl se bu rd gr cb ru mp sp nn (va_up es o (es o)) := fun q => by
    unfold fFg
    rw [if_neg q, va_self]
    exact A'
  unfold sX12_forgets
  rw [l_Fr b2 rfl, m_bV b6.lhm, m_get b6.lhm (by omega) K (by omega), l_bnd]
  rcases b7.1 p hp with ⟨q1, q2⟩ | ⟨e, rd, tm, q1, q2, q3, q4⟩
  · refine ⟨h, es o, ?_, rfl, rfl, fun _ _ _ => rfl, same (fun q => ?_)⟩
    · rw [q1]
      refine l_Ckn.trans ?_
      rw [if_pos (show Option.map (fun e : En => e.2.2.2) none = none from rfl)]
    · have := q.1
      rw [vo_of q2 (by omega)] at this
      omega
  · have hvo : vo R (258 + 80 * o + p) = mv tm rd := vo_of q4 (by have := @mv_lt tm rd; omega)
    by_cases hg : goes R (258 + 80 * o + p)
    · have hle : R 1 ≤ R 90 - nI tm := by
        have := hg.2
        rw [hvo, mv_time] at this
        exact Int32.not_lt.mp this
      obtain ⟨h2, r1, r2, r3, r4, r5⟩ := m_remove (N := N) b6 (show y (2 * o + 2) ≠ 0 by have := Y.2 (2 * o + 2); omega) (show p < 128 by omega) K (by omega)
      refine ⟨h2, rmv (es o) p, ?_, r2, r3, r4, ?_⟩
      · rw [q1]
        refine (l_Ck q2.2.2 (show 17 ∈ [17] by decide)).trans ?_
        rw [if_neg (by simp)]
        refine (l_Fi q2.2.2 rfl).trans ?_
        rw [if_pos hle, l_Fr b2 rfl, m_bV b6.lhm, r1, l_bnd, q1]
        have hE : h2.2.2 e.2.2.2 = some (.inr (17, [.int (bZ rd), .int (nI tm)])) := by rw [r4 _ q2.1 (by rw [q2.2.1]; have := Y.2 (2 * o + 2); omega)]; exact q2.2.2
        exact l_Ck hE (show 17 ∈ [17] by decide)
      · have T : Tr (fun t => t = y (2 * o + 2)) 0 h w h2 w := Tr.ex r2 r3 r4
        have e9 : fFg R (258 + 80 * o + p) = upd R (258 + 80 * o + p) (nI 0) := by unfold fFg; rw [if_pos hg]
        have OK := vote_ok OK0 (j := 258 + 80 * o + p) (v := nI 0) (m := 0) (by omega) rfl (by omega)
        rw [e9]
        have X := A'.map (o := o) (nn' := nn o) (es' := rmv (es o) p) Y T OK.1 OK.2.1 OK.2.2.1 (fun j hj => l_upd_ne (by omega)) (fun k hk hko q hq => l_upd_ne (by omega)) (fun _ => ⟨r5, ?_, ?_⟩) (fun j j1 j2 => by
          rw [l_upd]
          by_cases hq : j = 258 + 80 * o + p
          · rw [if_pos hq]
          · rw [if_neg hq]; exact a12 j j1 j2)
        · rw [va_self] at X
          exact X
        · intro q hq
          rw [look_rmv]
          by_cases hqp : q = p
          · subst hqp
            exact Or.inl ⟨if_pos rfl, l_upd_eq⟩
          · rw [if_neg hqp, l_upd_ne (by omega)]
            rcases b7.1 q hq with c1 | ⟨e2, rd2, tm2, c1, c2, c3⟩
            · exact Or.inl c1
            · exact Or.inr ⟨e2, rd2, tm2, c1, c2.keep T (by have := Y.2 (2 * o + 2); omega) (ncl (by decide)), c3⟩
        · intro e2 he2
          rw [OK.2.1, OK.2.2.1]
          exact b7.2 e2 (List.mem_filter.mp he2).1
    · have hle : ¬ R 1 ≤ R 90 - nI tm := fun q => hg ⟨by rw [hvo]; exact mv_pos, by rw [hvo, mv_time]; exact Int32.not_lt.mpr q⟩
      refine ⟨h, es o, ?_, rfl, rfl, fun _ _ _ => rfl, same hg⟩
      rw [q1]
      refine (l_Ck q2.2.2 (show 17 ∈ [17] by decide)).trans ?_
      rw [if_neg (by simp)]
      refine (l_Fi q2.2.2 rfl).trans ?_
      rw [if_neg hle]
end G1
