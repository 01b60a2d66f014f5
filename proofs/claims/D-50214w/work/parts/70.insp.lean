/-! a state: a cabin's own cell changes; an inspection -/
set_option maxRecDepth 100000
set_option maxHeartbeats 2000000
noncomputable def isF (R : Row) (o s c : Nat) : Prop := ¬ (vo R (258 + 80 * o + 8 * c + s) % 2 = 0 ↔ hasB (R 97) (nI s))
/-- what an inspection does to trust and votes -/
noncomputable def fIns (R : Row) (o s : Nat) : Nat → Row
  | 0 => R
  | c + 1 => if 0 < vo R (258 + 80 * o + 8 * c + s) then
      (@ite Row (isF R o s c) (Classical.propDecidable _) (upd (upd (fIns R o s c) (158 + c) (imax 0 (R (158 + c) - R 5))) (258 + 80 * o + 8 * c + s) (nI 0)) (upd (fIns R o s c) (158 + c) (imin (nI 100) (R (158 + c) + nI 1))))
      else fIns R o s c
noncomputable def nIns (R : Row) (o s n : Nat) : Int32 := sm n (fun c => pz (0 < vo R (258 + 80 * o + 8 * c + s) ∧ isF R o s c) (nI 1))
theorem fIns_ne {R : Row} {o s n j : Nat} (h : ∀ k, k < n → j ≠ 158 + k ∧ j ≠ 258 + 80 * o + 8 * k + s) : fIns R o s n j = R j := by
  induction n with
  | zero => rfl
  | succ n ih =>
    have h1 := ih (fun k hk => h k (by omega))
    have h2 := h n (by omega)
    unfold fIns
    split
    · split
      · rw [l_upd_ne h2.2, l_upd_ne h2.1, h1]
      · rw [l_upd_ne h2.1, h1]
    · exact h1
theorem fIns_v {R : Row} {o s n j : Nat} (hn : n ≤ 10) (hj : 258 ≤ j) : fIns R o s n j = R j ∨ fIns R o s n j = nI 0 := by
  induction n with
  | zero => exact Or.inl rfl
  | succ n ih =>
    have h1 := ih (by omega)
    unfold fIns
    split
    · split
      · rw [l_upd]
        by_cases hq : j = 258 + 80 * o + 8 * n + s
        · rw [if_pos hq]; exact Or.inr rfl
        · rw [if_neg hq, l_upd_ne (by omega)]; exact h1
      · rw [l_upd_ne (by omega)]; exact h1
    · exact h1
theorem fIns_ok {R : Row} (H : ROK R) {o s n : Nat} (hn : n ≤ 10) : ROK (fIns R o s n) ∧ cN (fIns R o s n) = cN R ∧ sN (fIns R o s n) = sN R ∧ rN (fIns R o s n) = rN R ∧ fN (fIns R o s n) = fN R :=
  H.of (fIns_ne (fun k _ => by omega)) (fIns_ne (fun k _ => by omega)) (fIns_ne (fun k _ => by omega)) (fIns_ne (fun k _ => by omega)) (fun j h1 h2 => by
    rcases fIns_v (R := R) (o := o) (s := s) hn h1 with e | e
    · exact Or.inl e
    · exact Or.inr ⟨0, by omega, e⟩)
def TruB (R : Row) : Prop := (∀ k, k < 10 → ∃ u, u ≤ 100 ∧ R (158 + k) = nI u) ∧ ∃ d, d ≤ 50 ∧ R 5 = nI d
theorem tru_dn : ∀ u, u ≤ 100 → ∀ d, d ≤ 50 → imax 0 (imin (nI 100) (nI u + -nI d)) = imax 0 (nI u - nI d) ∧ imax 0 (nI u - nI d) = nI (u - d) := by
  intro u hu d hd
  have key : ∀ u, u < 101 → ∀ d, d < 51 → imax 0 (imin (nI 100) (nI u + -nI d)) = imax 0 (nI u - nI d) ∧ imax 0 (nI u - nI d) = nI (u - d) := by decide +kernel
  exact key u (by omega) d (by omega)
theorem tru_up : ∀ u, u ≤ 100 → imax 0 (imin (nI 100) (nI u + 1)) = imin (nI 100) (nI u + nI 1) ∧ imin (nI 100) (nI u + nI 1) = nI (min 100 (u + 1)) := by
  intro u hu
  have key : ∀ u, u < 101 → imax 0 (imin (nI 100) (nI u + 1)) = imin (nI 100) (nI u + nI 1) ∧ imin (nI 100) (nI u + nI 1) = nI (min 100 (u + 1)) := by decide +kernel
  exact key u (by omega)
section M1
variable {S : Nat → Prop} {b c t o : Nat} {G : GG} {N : Nat} {nl : Nat → List Nat} {h h' : Hp} {w w' y : Nat → Nat} {st : Nat} {R R' : Row} {mt cl se bu rd gr : Nat} {cb ru mp sp nn : Nat → Nat} {es : Nat → List En}
/-- a step that changes one cabin's own cell -/
theorem StX.cell (A : StX b h w y st R nl mt cl se bu rd gr cb ru mp sp nn es) (Y : TG y) (T : Tr (fun t => t = y (2 * o + 1)) c h w h' w') (H' : ROK R') (c1 : cN R' = cN R) (c2 : sN R' = sN R) (e0 : ∀ j, (j < 10 ∨ (40 ≤ j ∧ j < 138) ∨ 178 ≤ j) → R' j = R j) (hc : ∀ k, k < cN R → k ≠ o → (∀ i, i < 3 → R' (10 + 3 * k + i) = R (10 + 3 * k + i)) ∧ R' (148 + k) = R (148 + k) ∧ R' (158 + k) = R (158 + k) ∧ R' (168 + k) = R (168 + k) ∧ R' (138 + k) = R (138 + k))
    (n4 : o < cN R → CabAt h' (cb o) (R' (10 + 3 * o)) (R' (10 + 3 * o + 1)) (R' (148 + o)) (R' (158 + o)) (R' (168 + o)) (R' (138 + o)) (R' (10 + 3 * o + 2)) (ru o) (mp o) ∧ h'.2.2 (ru o) = h.2.2 (ru o)) : StX b h' w' y st R' nl mt cl se bu rd gr cb ru mp sp nn es := by
  have A' := A
  obtain ⟨a1, a2, ⟨a3, f, a4, a5⟩, a6, a7, a8, a9, a10, H, a12⟩ := A
  obtain ⟨h6, h7, h8, h9, l6, l7, l8, l9, hv⟩ := H
  have ny : ∀ k, k ≠ 2 * o + 1 → ¬ (y k = y (2 * o + 1)) := fun k hk => Y.ne hk
  have n0 : ∀ k, k ≤ 3 → ¬ (k = y (2 * o + 1)) := fun k hk q => by have := Y.2 (2 * o + 1); omega
  have y1 : ∀ k, y k ≠ 1 := fun k => by have := Y.2 k; omega
  have X := A'.step (o := o) (nn' := nn o) (es' := es o) Y (T.mono (fun t ht => Or.inr (Or.inl ht)) (Nat.le_refl _)) H' c1 c2 (fun j hj => e0 j (by omega)) ?_ ⟨f, T.own a3 (ny 0 (by omega)) (y1 0) a4 nar, fun k hk => by rw [e0 k (by omega)]; exact a5 k hk⟩ ((a6.keep T (n0 0 (by omega)) (ny 0 (by omega)) (y1 0)).row (fun j h1 h2 _ _ => e0 j (by omega))) (fun k hk hko => by
    obtain ⟨d1, d2, d3, d4, d5⟩ := hc k hk hko
    exact ⟨d1, d2, d3, d4, d5, fun s hs => e0 _ (by omega), fun p hp => e0 _ (by omega)⟩) (fun ho => ?_) (fun j j1 j2 => by rw [e0 j (by omega)]; exact a12 j j1 j2)
  · rw [va_self, va_self] at X
    exact X
  · have := T.own a2 (ny 0 (by omega)) (y1 0) a1 (ncl (by decide))
    unfold StC
    rw [e0 90 (by omega), e0 91 (by omega), e0 92 (by omega), e0 93 (by omega), e0 94 (by omega), e0 95 (by omega), e0 96 (by omega), e0 97 (by omega)]
    exact this
  · obtain ⟨b1, b2, ⟨b3, g, b4, b5⟩, b6, b7⟩ := a10 o ho
    obtain ⟨m1, m2⟩ := n4 ho
    exact ⟨b1.keep T, m1, ⟨b3.keep T, g, by rw [m2]; exact b4, fun s hs => by rw [e0 _ (by omega)]; exact b5 s hs⟩, b6.keep T (ny _ (by omega)) (n0 0 (by omega)), (b7.keep T (n0 0 (by omega))).row c1 c2 (fun p hp => e0 _ (by omega))⟩
theorem c_trusts {by' : Int32} (A : StX G.1 h w y st R nl mt cl se bu rd gr cb ru mp sp nn es) (Y : TG y) (ho : o < cN R) : ∃ h', sX12_trusts G N (some (cb o)) by' h = some (.inl (), h') ∧ Tr (fun t => t = y (2 * o + 1)) 0 h w h' w ∧ h'.1 = h.1 ∧ h'.2.1 = h.2.1 ∧ (∀ q, q ≠ cb o → h'.2.2 q = h.2.2 q) ∧ StX G.1 h' w y st (upd R (158 + o) (imax 0 (imin (nI 100) (R (158 + o) + by')))) nl mt cl se bu rd gr cb ru mp sp nn es := by
  have A0 := A
  obtain ⟨a1, a2, a3, a6, a7, a8, a9, a10, H, a12⟩ := A
  have OK0 := H
  obtain ⟨h6, h7, h8, h9, l6, l7, l8, l9, hv⟩ := H
  obtain ⟨b1, b2, ⟨b3, g, b4, b5⟩, b6, b7⟩ := a10 o ho
  unfold sX12_trusts
  rw [l_Fi b2 rfl, p_min, l_bnd, p_max, l_bnd, l_P b2 b1.1 (by (show 3 < 9; omega))]
  have T : Tr (fun t => t = y (2 * o + 1)) 0 h w (hup h (cb o) (.inr (7, ([.int (R (10 + 3 * o)), .int (R (10 + 3 * o + 1)), .int (R (148 + o)), .int (R (158 + o)), .int (R (168 + o)), .int (R (138 + o)), .int (R (10 + 3 * o + 2)), .ref (ru o), .ref (mp o)].set 3 (.int (imax 0 (imin 100 (R (158 + o) + by')))))))) w := Tr.ex rfl rfl (fun q _ q2 => hup_ne (fun e => q2 (by rw [e]; exact b1.2.2)))
  have OK : ROK (upd R (158 + o) (imax 0 (imin (nI 100) (R (158 + o) + by')))) ∧ cN (upd R (158 + o) (imax 0 (imin (nI 100) (R (158 + o) + by')))) = cN R ∧ sN (upd R (158 + o) (imax 0 (imin (nI 100) (R (158 + o) + by')))) = sN R ∧ rN (upd R (158 + o) (imax 0 (imin (nI 100) (R (158 + o) + by')))) = rN R ∧ fN (upd R (158 + o) (imax 0 (imin (nI 100) (R (158 + o) + by')))) = fN R :=
    OK0.of (l_upd_ne (by omega)) (l_upd_ne (by omega)) (l_upd_ne (by omega)) (l_upd_ne (by omega)) (fun j _ _ => Or.inl (l_upd_ne (by omega)))
  refine ⟨_, rfl, T, rfl, rfl, fun q hq => hup_ne hq, A0.cell (o := o) Y T OK.1 OK.2.1 OK.2.2.1 (fun j hj => l_upd_ne (by omega)) (fun k hk hko => ⟨fun i hi => l_upd_ne (by omega), l_upd_ne (by omega), l_upd_ne (by omega), l_upd_ne (by omega), l_upd_ne (by omega)⟩) (fun _ => ⟨?_, hup_ne (mc_ne b4 b2)⟩)⟩
  unfold CabAt
  rw [hup_at, l_upd_eq]
  repeat rw [l_upd_ne (by omega)]
  rfl
theorem c_isFalse {v tm : Nat} {rdp p : Prop} (e : h.2.2 v = some (.inr (17, [.int (bZ rdp), .int (nI tm)]))) : sX17_isFalse G N (some v) (bZ p) h = some (.inl (bZ (¬ (rdp ↔ p))), h) := by
  unfold sX17_isFalse
  rw [l_Fi e rfl]
  by_cases hq : rdp ↔ p
  · rw [if_pos (bZ_e.mpr hq), bZ_f (fun q => q hq)]; rfl
  · rw [if_neg (fun q => hq (bZ_e.mp q)), bZ_t hq]; rfl
end M1
