/-! a state: deciding -/
set_option maxRecDepth 100000
set_option maxHeartbeats 2000000
section F1
variable {G : GG} {N : Nat} {nl : Nat → List Nat} {h : Hp} {w y : Nat → Nat} {st o : Nat} {R : Row} {mt cl se bu rd gr : Nat} {cb ru mp sp nn : Nat → Nat} {es : Nat → List En}
theorem l_road {α : Type} {F : Int32 → Hp → Out α} {a b v : Int32} {h : Hp} (e : (if a = 0 then (0 : Int32) else if a * b ≤ 0 then a else b + a) = v) : gJ F (fun j7 => if a = 0 then j7 0 h else if a * b ≤ 0 then j7 a h else j7 (b + a) h) = F v h := by
  rw [l_J, ← e]
  by_cases c1 : a = 0
  · rw [if_pos c1, if_pos c1]
  · rw [if_neg c1, if_neg c1]
    by_cases c2 : a * b ≤ 0
    · rw [if_pos c2, if_pos c2]
    · rw [if_neg c2, if_neg c2]
/-- an exact step -/
theorem Tr.ex {S : Nat → Prop} {h' : Hp} (h1 : h'.1 = h.1) (h2 : h'.2.1 = h.2.1) (h3 : ∀ q, q < h.1 → ¬ S (w q) → h'.2.2 q = h.2.2 q) : Tr S 0 h w h' w := Tr.exact (by omega) (by omega) (by omega) (fun _ _ => rfl) h3
theorem fJudge_C {R : Row} {o s k : Nat} (hk : k ≠ o) (hk9 : k < 10) (hs : s < 8) (ho : o < 10) : CRow R (fJudge R o s) k := by
  refine ⟨fun i hi => fJudge_ne (by omega) (by omega) (by omega) (by omega), fJudge_ne (by omega) (by omega) (by omega) (by omega), fJudge_ne (by omega) (by omega) (by omega) (by omega), fJudge_ne (by omega) (by omega) (by omega) (by omega), fJudge_ne (by omega) (by omega) (by omega) (by omega), fun s' hs' => fJudge_ne (by omega) (by omega) (by omega) (by omega), fun p hp => fJudge_ne (by omega) (by omega) (by omega) (by omega)⟩
theorem fJudge_ok1 {R : Row} (H : ROK R) {o s : Nat} (ho : o < 10) (hs : s < 8) : ROK (fJudge R o s) ∧ cN (fJudge R o s) = cN R ∧ sN (fJudge R o s) = sN R ∧ rN (fJudge R o s) = rN R ∧ fN (fJudge R o s) = fN R :=
  H.of (fJudge_ne (by omega) (by omega) (by omega) (by omega)) (fJudge_ne (by omega) (by omega) (by omega) (by omega)) (fJudge_ne (by omega) (by omega) (by omega) (by omega)) (fJudge_ne (by omega) (by omega) (by omega) (by omega)) (fun j h1 h2 => Or.inl (fJudge_ne (by omega) (by omega) (by omega) (by omega)))
theorem c_decides {s u : Nat} {f g : Nat → Int32} (A : StX G.1 h w y st R nl mt cl se bu rd gr cb ru mp sp nn es) (Y : TG y) (B : RunB u R) (hu : u < 2 ^ 30) (B2 : HelB R) (ho : o < cN R) (hs : s < sN R) (er : h.2.2 rd = some (.inl (0, 8, .inl f))) (eg : h.2.2 gr = some (.inl (0, 8, .inl g))) (h1 : f s = qSum R o s True) (h2 : g s = qSum R o s False) :
    ∃ h', sX3_decides G N (some st) (some (cb o)) (nI s) h = some (.inl (), h') ∧ h'.1 = h.1 ∧ h'.2.1 = h.2.1 ∧ (∀ q, q < h.1 → ¬ (w q = y 0 ∨ w q = y (2 * o + 1)) → h'.2.2 q = h.2.2 q) ∧ StX G.1 h' w y st (fJudge R o s) nl mt cl se bu rd gr cb ru mp sp nn es := by
  classical
  have A' := A
  obtain ⟨a1, a2, ⟨a3, a4⟩, a6, a7, a8, a9, a10, H, a12⟩ := A
  have OK0 := H
  obtain ⟨h6, h7, h8, h9, l6, l7, l8, l9, hv⟩ := H
  have hs8 : s < 8 := by omega
  have ho10 : o < 10 := by omega
  obtain ⟨b1, b2, ⟨b3, fr, b4, b5⟩, b6, b7⟩ := a10 o ho
  obtain ⟨fe, e1, e2⟩ := a4
  have rT := (runThen_is hu B ho10 hs8).1
  -- kinds of cells
  have ruC : ru o ≠ cb o := mc_ne b4 b2
  have ruS : ru o ≠ st := mc_ne b4 a1
  have cbS : cb o ≠ st := cl_ne b2 a1 (by decide)
  have wst := a2.2.2
  have wcb := b1.2.2
  have wru := b3.2.2
  have y1 : ∀ i, y i ≠ 1 := fun i => by have := Y.2 i; omega
  have OK := fJudge_ok1 OK0 ho10 hs8
  -- the run is written
  obtain ⟨u1, hu1⟩ : ∃ u1, u1 = hup h (ru o) (.inl (0, 8, .inl (upd fr s (runThen R o s)))) := ⟨_, rfl⟩
  have u1st : u1.2.2 st = h.2.2 st := by rw [hu1, hup_ne (Ne.symm ruS)]
  have u1cb : u1.2.2 (cb o) = h.2.2 (cb o) := by rw [hu1, hup_ne (Ne.symm ruC)]
  have seRu : se ≠ ru o := fun q => by
    have := a3.2.2
    rw [q, wru] at this
    exact Y.ne (show 2 * o + 1 ≠ 0 by omega) this
  have seCb : se ≠ cb o := mc_ne e1 b2
  have seSt : se ≠ st := mc_ne e1 a1
  have u1se : u1.2.2 se = h.2.2 se := by rw [hu1, hup_ne seRu]
  -- the end, whatever is written in the cells of the cabin and the state
  have fin : ∀ (h' : Hp), h'.1 = h.1 → h'.2.1 = h.2.1 → StC h' st (fJudge R o s) mt cl se bu rd gr → CabAt h' (cb o) (R (10 + 3 * o)) (R (10 + 3 * o + 1)) (R (148 + o)) (R (158 + o)) (R (168 + o)) (fJudge R o s (138 + o)) (R (10 + 3 * o + 2)) (ru o) (mp o) → h'.2.2 (ru o) = some (.inl (0, 8, .inl (upd fr s (runThen R o s)))) → (∀ q, q ≠ ru o → q ≠ cb o → q ≠ st → h'.2.2 q = h.2.2 q) → h'.1 = h.1 ∧ h'.2.1 = h.2.1 ∧ (∀ q, q < h.1 → ¬ (w q = y 0 ∨ w q = y (2 * o + 1)) → h'.2.2 q = h.2.2 q) ∧ StX G.1 h' w y st (fJudge R o s) nl mt cl se bu rd gr cb ru mp sp nn es := by
    intro h' f1 f2 f3 f4 f5 f6
    have fr9 : ∀ q, q < h.1 → ¬ (w q = y 0 ∨ w q = y (2 * o + 1)) → h'.2.2 q = h.2.2 q := fun q _ q2 => f6 q (fun e => q2 (by rw [e]; exact Or.inr wru)) (fun e => q2 (by rw [e]; exact Or.inr wcb)) (fun e => q2 (by rw [e]; exact Or.inl wst))
    refine ⟨f1, f2, fr9, ?_⟩
    have T : Tr (fun t => t = y 0 ∨ t = y (2 * o + 1) ∨ t = y (2 * o + 2)) 0 h w h' w := Tr.ex f1 f2 (fun q q1 q2 => fr9 q q1 (fun q3 => q2 (q3.elim Or.inl (fun e => Or.inr (Or.inl e)))))
    have X := A'.step (nn' := nn o) (es' := es o) Y T OK.1 OK.2.1 OK.2.2.1 (fun j hj => fJudge_ne (by omega) (by omega) (by omega) (by omega)) f3 ⟨fe, by rw [f6 se seRu seCb seSt]; exact e1, fun k hk => by rw [fJudge_ne (by omega) (by omega) (by omega) (by omega)]; exact e2 k hk⟩ ?_ (fun k hk hko => fJudge_C hko (by omega) hs8 ho10) (fun _ => ?_) (fun j h1 h2 => by rw [fJudge_ne (by omega) (by omega) (by omega) (by omega)]; exact a12 j h1 h2)
    · rw [va_self, va_self] at X
      exact X
    · -- the bulletins
      obtain ⟨el, hd, i, fb, c1, c2, c3, c4, c5⟩ := a6
      have w0 : ∀ q, w q = y 0 → q ≠ ru o ∧ q ≠ cb o := fun q hq => ⟨fun e => Y.ne (show 2 * o + 1 ≠ 0 by omega) (by rw [← hq, e]; exact wru.symm), fun e => Y.ne (show 2 * o + 1 ≠ 0 by omega) (by rw [← hq, e]; exact wcb.symm)⟩
      have B9 : BuR G.1 h' w (y 0) bu R := by
        refine ⟨el, hd, i, fb, c1.keep T, ?_, c3.keep T, ?_, c5.1, c5.2.1, c5.2.2.1, fun k hk => ?_⟩
        · rw [f6 bu (w0 _ c1.2.2).1 (w0 _ c1.2.2).2 (cl_ne c2 a1 (by decide))]; exact c2
        · rw [f6 el (w0 _ c3.2.2).1 (w0 _ c3.2.2).2 (mc_ne c4 a1)]; exact c4
        · obtain ⟨bl, d1, d2⟩ := c5.2.2.2 k hk
          exact ⟨bl, d1, d2.keep T (Y.lo (by omega)) (ncl (by decide))⟩
      exact B9.row (fun j j1 j2 j3 j4 => fJudge_ne (by omega) (by omega) (by omega) (by omega))
    · -- the cabin
      refine ⟨b1.keep T, ?_, ⟨b3.keep T, _, f5, fun s' hs' => ?_⟩, ?_, (b7.keep T (Y.lo (by omega))).row OK.2.1 OK.2.2.1 (fun p hp => fJudge_ne (by omega) (by omega) (by omega) (by omega))⟩
      · rw [fJudge_ne (j := 10 + 3 * o) (by omega) (by omega) (by omega) (by omega), fJudge_ne (j := 10 + 3 * o + 1) (by omega) (by omega) (by omega) (by omega), fJudge_ne (j := 148 + o) (by omega) (by omega) (by omega) (by omega), fJudge_ne (j := 158 + o) (by omega) (by omega) (by omega) (by omega), fJudge_ne (j := 168 + o) (by omega) (by omega) (by omega) (by omega), fJudge_ne (j := 10 + 3 * o + 2) (by omega) (by omega) (by omega) (by omega)]
        exact f4
      · have key : fJudge R o s (178 + 8 * o + s') = (if s' = s then runThen R o s else R (178 + 8 * o + s')) := by
          unfold fJudge
          have e9 : upd R (178 + 8 * o + s) (runThen R o s) (178 + 8 * o + s') = (if s' = s then runThen R o s else R (178 + 8 * o + s')) := by
            rw [l_upd]
            by_cases hq : s' = s
            · rw [if_pos (by omega), if_pos hq]
            · rw [if_neg (by omega), if_neg hq]
          by_cases c1 : ¬ hasB (R (138 + o)) (nI s) ∧ R 3 ≤ runThen R o s
          · rw [if_pos c1, l_upd_ne (by omega), l_upd_ne (by omega), e9]
          · rw [if_neg c1]
            by_cases c2 : hasB (R (138 + o)) (nI s) ∧ runThen R o s ≤ - R 4
            · rw [if_pos c2, l_upd_ne (by omega), l_upd_ne (by omega), e9]
            · rw [if_neg c2, e9]
        rw [key, l_upd]
        by_cases hq : s' = s
        · rw [if_pos hq, if_pos hq]
        · rw [if_neg hq, if_neg hq]; exact b5 s' hs'
      · -- its map is as it was
        obtain ⟨tab, mc, th, lf, ve, vk, vv, kk, m1, m2, m3, m4, m5, m6, m7, m8, m9, m10, m11, m12⟩ := b6
        have ko : ∀ (q c : Nat) (fs : List Value), c ≠ 7 → c ≠ 16 → h.2.2 q = some (.inr (c, fs)) → h'.2.2 q = some (.inr (c, fs)) := fun q c fs hc hc2 hq => by
          rw [f6 q (fun e => mc_ne b4 hq e.symm) (cl_ne hq b2 hc) (cl_ne hq a1 hc2)]; exact hq
        have vw : ∀ ci v, ci ≠ 7 → ci ≠ 16 → VwO h w (mp o) ci v → VwO h' w (mp o) ci v := fun ci v hc hc2 V a ha => by
          obtain ⟨p1, p2, p3⟩ := V a ha
          exact ⟨by omega, p2, ko _ _ _ hc hc2 p3⟩
        refine ⟨tab, mc, th, lf, ve, vk, vv, kk, m1, m2, m3, ko _ _ _ (by decide) (by decide) m4, vw _ _ (by decide) (by decide) m5, vw _ _ (by decide) (by decide) m6, vw _ _ (by decide) (by decide) m7, ?_, fun e he => ?_, m10, m11, m12.keep T⟩
        · rcases m8 with ⟨a, f, d1, d2, d3, d4, d5⟩ | m8
          · refine Or.inl ⟨a, f, d1, d2.keep T, d3, ?_, d5⟩
            rw [f6 a (fun e => ?_) (mc_ne d4 b2) (mc_ne d4 a1)]
            · exact d4
            · rw [e, b4] at d4
              injection d4 with d4
              injection d4 with d4
              exact absurd (Prod.mk.inj d4).1 (by decide)
          · exact Or.inr m8
        · obtain ⟨d1, d2, d3, d4, d5, d6⟩ := m9 e he
          exact ⟨ko _ _ _ (by decide) (by decide) d1, keyAt_keep d2 d5 T (Y.lo (by omega)), d3, d4.keep T, d5.keep T, d6.keep T⟩
  unfold sX3_decides
  rw [st_bV a1, c_rules a1 ⟨fe, e1, e2⟩ er eg hs8 h1 h2, l_bnd, l_Fr b2 rfl, l_Ai b4 hs8 (by omega), b5 s hs8, l_road rT]
  rw [l_Fr b2 rfl, l_Si b4 b3.1 hs8 (by omega), ← hu1]
  have C1 : CabAt u1 (cb o) (R (10 + 3 * o)) (R (10 + 3 * o + 1)) (R (148 + o)) (R (158 + o)) (R (168 + o)) (R (138 + o)) (R (10 + 3 * o + 2)) (ru o) (mp o) := by unfold CabAt; rw [u1cb]; exact b2
  have S1 : StC u1 st R mt cl se bu rd gr := by unfold StC; rw [u1st]; exact a1
  have holds : sX12_holdsClosed G N (some (cb o)) (nI s) u1 = some (.inl (bZ (hasB (R (138 + o)) (nI s))), u1) := by
    unfold sX12_holdsClosed
    rw [l_Fi C1 rfl, c_has, l_bnd, l_RZb]
  have e1' : u1.2.2 se = some (.inl (0, 6, .inl fe)) := by rw [u1se]; exact e1
  obtain ⟨m, m1, m2⟩ := B2 o ho10
  have q0 : ∀ q, q ≠ ru o → q ≠ cb o → q ≠ st → u1.2.2 q = h.2.2 q := fun q q1 _ _ => by rw [hu1, hup_ne q1]
  have ru1 : u1.2.2 (ru o) = some (.inl (0, 8, .inl (upd fr s (runThen R o s)))) := by rw [hu1]; exact hup_at
  -- nothing more
  have stay : ¬ (¬ hasB (R (138 + o)) (nI s) ∧ R 3 ≤ runThen R o s) → ¬ (hasB (R (138 + o)) (nI s) ∧ runThen R o s ≤ - R 4) → ∃ h', (some (.inl (), u1) : Out Unit) = some (.inl (), h') ∧ h'.1 = h.1 ∧ h'.2.1 = h.2.1 ∧ (∀ q, q < h.1 → ¬ (w q = y 0 ∨ w q = y (2 * o + 1)) → h'.2.2 q = h.2.2 q) ∧ StX G.1 h' w y st (fJudge R o s) nl mt cl se bu rd gr cb ru mp sp nn es := fun c1 c2 => by
    have eJ : fJudge R o s = upd R (178 + 8 * o + s) (runThen R o s) := by unfold fJudge; rw [if_neg c1, if_neg c2]
    refine ⟨u1, rfl, fin u1 (by rw [hu1]; rfl) (by rw [hu1]; rfl) ?_ ?_ ru1 q0⟩
    · rw [eJ]
      unfold StC
      rw [l_upd_ne (by omega), l_upd_ne (by omega), l_upd_ne (by omega), l_upd_ne (by omega), l_upd_ne (by omega), l_upd_ne (by omega), l_upd_ne (by omega), l_upd_ne (by omega)]
      exact S1
    · rw [eJ, l_upd_ne (by omega)]
      exact C1
  rw [l_bV C1, holds, l_bnd, l_J]
  by_cases hh : hasB (R (138 + o)) (nI s)
  · -- it is closed
    rw [if_neg (fun q => bZ_0.mp q hh)]
    dsimp only
    rw [l_bV C1, holds, l_bnd, if_neg (fun q => bZ_0.mp q hh), l_Fr S1 rfl, n_4, l_Ai e1' (by omega) (by omega), e2 4 (by omega)]
    by_cases hc : - R 4 < runThen R o s
    · rw [if_pos hc]
      exact stay (fun q => q.1 hh) (fun q => Int32.not_le.mpr hc q.2)
    · have c1 : ¬ (¬ hasB (R (138 + o)) (nI s) ∧ R 3 ≤ runThen R o s) := fun q => q.1 hh
      have c2 : hasB (R (138 + o)) (nI s) ∧ runThen R o s ≤ - R 4 := ⟨hh, Int32.not_lt.mp hc⟩
      have eJ : fJudge R o s = upd (upd (upd R (178 + 8 * o + s) (runThen R o s)) (138 + o) (R (138 + o) - (nI 1 <<< (nI s &&& nI 31)))) 93 (R 93 + nI 1) := by unfold fJudge; rw [if_neg c1, if_pos c2]
      have ob := openB m m1 s hs8 (by rw [← m2]; exact hh)
      rw [← m2] at ob
      rw [if_neg hc, l_Fi C1 rfl, l_P C1 b1.1 (by (show 5 < 9; omega)), l_Fi (by rw [hup_ne (Ne.symm cbS)]; exact S1) rfl, l_P (by rw [hup_ne (Ne.symm cbS)]; exact S1) a2.1 (by (show 7 < 14; omega)), ob.1]
      refine ⟨_, rfl, fin _ (by rw [hu1]; rfl) (by rw [hu1]; rfl) ?_ ?_ ?_ (fun q q1 q2 q3 => by rw [hup_ne q3, hup_ne q2]; exact q0 q q1 q2 q3)⟩
      · rw [eJ]
        unfold StC
        rw [hup_at, l_upd_eq]
        repeat rw [l_upd_ne (by omega)]
        rfl
      · rw [eJ, l_upd_ne (by omega), l_upd_eq]
        unfold CabAt
        rw [hup_ne cbS]
        exact hup_at
      · rw [hup_ne ruS, hup_ne ruC]
        exact ru1
  · -- it is open
    have back : (bV u1 (some (cb o)) 7 (fun q23 => sX12_holdsClosed G N (some q23) (nI s) u1) fun v15 h16 => if v15 = 0 then (some (.inl (), h16) : Out Unit) else gFr h16 (some st) 16 2 fun v17 => gAi h16 v17 0 (4) fun v18 => if (-v18) < runThen R o s then (some (.inl (), h16)) else gFi h16 (some (cb o)) 7 5 fun v19 => gP G h16 (some (cb o)) 7 5 (.int (v19 &&& (((1 : Int32) <<< (nI s &&& 31)) ^^^ (-1)))) fun h20 => gFi h20 (some st) 16 7 fun v21 => gP G h20 (some st) 16 7 (.int (v21 + (1))) fun h22 => some (.inl (), h22)) = some (.inl (), u1) := by
      rw [l_bV C1, holds, l_bnd, if_pos (bZ_0.mpr hh)]
    rw [if_pos (bZ_0.mpr hh), l_Fr S1 rfl, n_3, l_Ai e1' (by omega) (by omega), e2 3 (by omega)]
    by_cases hc : runThen R o s < R 3
    · rw [if_pos hc]
      refine Exists.imp (fun h' q => ⟨(show _ = some (.inl (), h') from back.trans q.1), q.2⟩) (stay (fun q => Int32.not_le.mpr hc q.2) (fun q => hh q.1))
    · have c1 : ¬ hasB (R (138 + o)) (nI s) ∧ R 3 ≤ runThen R o s := ⟨hh, Int32.not_lt.mp hc⟩
      have eJ : fJudge R o s = upd (upd (upd R (178 + 8 * o + s) (runThen R o s)) (138 + o) (R (138 + o) + (nI 1 <<< (nI s &&& nI 31)))) 92 (R 92 + nI 1) := by unfold fJudge; rw [if_pos c1]
      have ob := closeB m m1 s hs8 (by rw [← m2]; exact hh)
      rw [← m2] at ob
      rw [if_neg hc, l_Fi C1 rfl, l_P C1 b1.1 (by (show 5 < 9; omega)), l_Fi (by rw [hup_ne (Ne.symm cbS)]; exact S1) rfl, l_P (by rw [hup_ne (Ne.symm cbS)]; exact S1) a2.1 (by (show 6 < 14; omega)), ob.1]
      refine ⟨_, rfl, fin _ (by rw [hu1]; rfl) (by rw [hu1]; rfl) ?_ ?_ ?_ (fun q q1 q2 q3 => by rw [hup_ne q3, hup_ne q2]; exact q0 q q1 q2 q3)⟩
      · rw [eJ]
        unfold StC
        rw [hup_at, l_upd_eq]
        repeat rw [l_upd_ne (by omega)]
        rfl
      · rw [eJ, l_upd_ne (by omega), l_upd_eq]
        unfold CabAt
        rw [hup_ne cbS]
        exact hup_at
      · rw [hup_ne ruS, hup_ne ruC]
        exact ru1
end F1
