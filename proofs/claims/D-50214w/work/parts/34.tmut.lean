/-! the twin's changes of the row -/
set_option maxRecDepth 100000
set_option maxHeartbeats 1000000
theorem l_upd_ne {f : Nat → Int32} {i j : Nat} {v : Int32} (h : j ≠ i) : upd f i v j = f j := if_neg h
theorem l_upd_eq {f : Nat → Int32} {i : Nat} {v : Int32} : upd f i v i = v := if_pos rfl
theorem tA_eq {T : TS} {a i : Nat} {v : Int32} : tA T a i v = tF T a (upd (T.2.2.1 a) i v) := rfl
theorem tF_at {T : TS} {a : Nat} {f : Nat → Int32} : (tF T a f).2.2.1 a = f := if_pos rfl
theorem tF_ne {T : TS} {a a' : Nat} {f : Nat → Int32} (h : a' ≠ a) : (tF T a f).2.2.1 a' = T.2.2.1 a' := if_neg h
theorem tF_tF {T : TS} {a : Nat} {f g : Nat → Int32} : tF (tF T a f) a g = tF T a g := by
  unfold tF
  refine congrArg (fun z => (T.1, T.2.1, z, T.2.2.2)) (funext fun a' => ?_)
  by_cases h : a' = a
  · simp only [h, if_true]
  · simp only [h, if_false]
theorem tF_self {T : TS} {a : Nat} {f : Nat → Int32} (h : f = T.2.2.1 a) : tF T a f = T := by
  subst h
  unfold tF
  refine congrArg (fun z => (T.1, T.2.1, z, T.2.2.2)) (funext fun a' => ?_)
  by_cases h : a' = a
  · rw [if_pos h, h]
  · rw [if_neg h]
theorem tF_I {T : TS} {a : Nat} {f : Nat → Int32} : (tF T a f).1 = T.1 := rfl
theorem tF_W {T : TS} {a : Nat} {f : Nat → Int32} : (tF T a f).2.1 = T.2.1 := rfl
theorem tF_L {T : TS} {a : Nat} {f : Nat → Int32} : (tF T a f).2.2.2 = T.2.2.2 := rfl
theorem tI_A {T : TS} {k : Nat} {v : Int32} : (tI T k v).2 = T.2 := rfl
theorem tI_at {T : TS} {k : Nat} {v : Int32} : (tI T k v).1 k = v := if_pos rfl
theorem tI_ne {T : TS} {k k' : Nat} {v : Int32} (h : k' ≠ k) : (tI T k v).1 k' = T.1 k' := if_neg h
theorem ROK.of {R R' : Row} (H : ROK R) (e6 : R' 6 = R 6) (e7 : R' 7 = R 7) (e8 : R' 8 = R 8) (e9 : R' 9 = R 9) (ev : ∀ j, 258 ≤ j → j < 1058 → R' j = R j ∨ ∃ v, v < 20000 ∧ R' j = nI v) : ROK R' ∧ cN R' = cN R ∧ sN R' = sN R ∧ rN R' = rN R ∧ fN R' = fN R := by
  obtain ⟨h6, h7, h8, h9, l6, l7, l8, l9, hv⟩ := H
  have c1 : cN R' = cN R := by unfold cN; rw [e6]
  have c2 : sN R' = sN R := by unfold sN; rw [e7]
  have c3 : rN R' = rN R := by unfold rN; rw [e8]
  have c4 : fN R' = fN R := by unfold fN; rw [e9]
  refine ⟨⟨by rw [c1, e6]; exact h6, by rw [c2, e7]; exact h7, by rw [c3, e8]; exact h8, by rw [c4, e9]; exact h9, by omega, by omega, by omega, by omega, fun j a1 a2 => ?_⟩, c1, c2, c3, c4⟩
  rcases ev j a1 a2 with e | ⟨v, e1, e2⟩
  · have := hv j a1 a2
    unfold vo
    rw [e]
    exact this
  · unfold vo
    rw [e2, nI_clamp (by omega)]
    exact ⟨rfl, e1⟩
/-- what is forgotten at a time -/
def goes (R : Row) (j : Nat) : Prop := 0 < vo R j ∧ ¬ (R 90 - nI ((vo R j - 1) / 2) < R 1)
noncomputable def fForget (R : Row) : Row := fun j => @ite Int32 (258 ≤ j ∧ j < 1058 ∧ goes R j) (Classical.propDecidable _) (nI 0) (R j)
noncomputable def runThen (R : Row) (o s : Nat) : Int32 := if qRule R o s = nI 0 then nI 0 else if qRule R o s ≤ nI 0 then imin (nI 0) (R (178 + 8 * o + s)) - nI 1 else imax (nI 0) (R (178 + 8 * o + s)) + nI 1
noncomputable def fJudge (R : Row) (o s : Nat) : Row :=
  @ite Row (¬ hasB (R (138 + o)) (nI s) ∧ R 3 ≤ runThen R o s) (Classical.propDecidable _) (upd (upd (upd R (178 + 8 * o + s) (runThen R o s)) (138 + o) (R (138 + o) + (nI 1 <<< (nI s &&& nI 31)))) 92 (R 92 + nI 1))
    (@ite Row (hasB (R (138 + o)) (nI s) ∧ runThen R o s ≤ - R 4) (Classical.propDecidable _) (upd (upd (upd R (178 + 8 * o + s) (runThen R o s)) (138 + o) (R (138 + o) - (nI 1 <<< (nI s &&& nI 31)))) 93 (R 93 + nI 1))
      (upd R (178 + 8 * o + s) (runThen R o s)))
theorem fJudge_ne {R : Row} {o s j : Nat} (h1 : j ≠ 178 + 8 * o + s) (h2 : j ≠ 138 + o) (h3 : j ≠ 92) (h4 : j ≠ 93) : fJudge R o s j = R j := by
  unfold fJudge
  by_cases c1 : ¬ hasB (R (138 + o)) (nI s) ∧ R 3 ≤ runThen R o s
  · rw [if_pos c1, l_upd_ne h3, l_upd_ne h2, l_upd_ne h1]
  · rw [if_neg c1]
    by_cases c2 : hasB (R (138 + o)) (nI s) ∧ runThen R o s ≤ - R 4
    · rw [if_pos c2, l_upd_ne h4, l_upd_ne h2, l_upd_ne h1]
    · rw [if_neg c2, l_upd_ne h1]
noncomputable def jS (R : Row) (o : Nat) : Nat → Row
  | 0 => R
  | n + 1 => fJudge (jS R o n) o n
noncomputable def jO (R : Row) (m : Nat) : Nat → Row
  | 0 => R
  | n + 1 => jS (jO R m n) n m
theorem jS_ne {R : Row} {o : Nat} {n j : Nat} (hn : n ≤ 8) (h1 : j < 138 ∨ 258 ≤ j) (h3 : j ≠ 92) (h4 : j ≠ 93) (ho : o < 10) : jS R o n j = R j := by
  induction n with
  | zero => rfl
  | succ n ih =>
    show fJudge (jS R o n) o n j = R j
    rw [fJudge_ne (by omega) (by omega) h3 h4]
    exact ih (by omega)
theorem jO_ne {R : Row} {m : Nat} {n j : Nat} (hn : n ≤ 10) (hm : m ≤ 8) (h1 : j < 138 ∨ 258 ≤ j) (h3 : j ≠ 92) (h4 : j ≠ 93) : jO R m n j = R j := by
  induction n with
  | zero => rfl
  | succ n ih =>
    show jS (jO R m n) n m j = R j
    rw [jS_ne hm h1 h3 h4 (by omega)]
    exact ih (by omega)
theorem jS_ok {R : Row} (H : ROK R) {o n : Nat} (hn : n ≤ 8) (ho : o < 10) : ROK (jS R o n) ∧ cN (jS R o n) = cN R ∧ sN (jS R o n) = sN R ∧ rN (jS R o n) = rN R ∧ fN (jS R o n) = fN R :=
  H.of (jS_ne hn (by omega) (by omega) (by omega) ho) (jS_ne hn (by omega) (by omega) (by omega) ho) (jS_ne hn (by omega) (by omega) (by omega) ho) (jS_ne hn (by omega) (by omega) (by omega) ho) (fun j a1 _ => Or.inl (jS_ne hn (by omega) (by omega) (by omega) ho))
theorem jO_ok {R : Row} (H : ROK R) {m n : Nat} (hn : n ≤ 10) (hm : m ≤ 8) : ROK (jO R m n) ∧ cN (jO R m n) = cN R ∧ sN (jO R m n) = sN R ∧ rN (jO R m n) = rN R ∧ fN (jO R m n) = fN R :=
  H.of (jO_ne hn hm (by omega) (by omega) (by omega)) (jO_ne hn hm (by omega) (by omega) (by omega)) (jO_ne hn hm (by omega) (by omega) (by omega)) (jO_ne hn hm (by omega) (by omega) (by omega)) (fun j a1 _ => Or.inl (jO_ne hn hm (by omega) (by omega) (by omega)))
theorem fForget_ne {R : Row} {j : Nat} (h : j < 258) : fForget R j = R j := if_neg (fun q => by omega)
theorem fForget_ok {R : Row} (H : ROK R) : ROK (fForget R) ∧ cN (fForget R) = cN R ∧ sN (fForget R) = sN R ∧ rN (fForget R) = rN R ∧ fN (fForget R) = fN R :=
  H.of (fForget_ne (by omega)) (fForget_ne (by omega)) (fForget_ne (by omega)) (fForget_ne (by omega)) (fun j _ _ => by
    unfold fForget
    by_cases hc : 258 ≤ j ∧ j < 1058 ∧ goes R j
    · rw [if_pos hc]; exact Or.inr ⟨0, by omega, rfl⟩
    · rw [if_neg hc]; exact Or.inl rfl)
noncomputable def fTick (R : Row) : Row := jO (fForget (upd R 90 (R 90 + nI 1))) (sN R) (cN R)
theorem fTime_ok {R : Row} (H : ROK R) {v : Int32} : ROK (upd R 90 v) ∧ cN (upd R 90 v) = cN R ∧ sN (upd R 90 v) = sN R ∧ rN (upd R 90 v) = rN R ∧ fN (upd R 90 v) = fN R :=
  H.of (l_upd_ne (by omega)) (l_upd_ne (by omega)) (l_upd_ne (by omega)) (l_upd_ne (by omega)) (fun j _ _ => Or.inl (l_upd_ne (by omega)))
theorem fTick_ok {R : Row} (H : ROK R) : ROK (fTick R) ∧ cN (fTick R) = cN R ∧ sN (fTick R) = sN R ∧ rN (fTick R) = rN R ∧ fN (fTick R) = fN R := by
  obtain ⟨a, a1, a2, a3, a4⟩ := fTime_ok H (v := R 90 + nI 1)
  obtain ⟨c, c1, c2, c3, c4⟩ := fForget_ok a
  have H' := H
  obtain ⟨h6, h7, h8, h9, l6, l7, l8, l9, hv⟩ := H
  obtain ⟨d, d1, d2, d3, d4⟩ := jO_ok c (m := sN R) (n := cN R) l6 l7
  exact ⟨d, d1.trans (c1.trans a1), d2.trans (c2.trans a2), d3.trans (c3.trans a3), d4.trans (c4.trans a4)⟩
noncomputable def fTicks (R : Row) : Nat → Row
  | 0 => R
  | n + 1 => fTick (fTicks R n)
theorem fTicks_ok {R : Row} (H : ROK R) (n : Nat) : ROK (fTicks R n) ∧ cN (fTicks R n) = cN R ∧ sN (fTicks R n) = sN R ∧ rN (fTicks R n) = rN R ∧ fN (fTicks R n) = fN R := by
  induction n with
  | zero => exact ⟨H, rfl, rfl, rfl, rfl⟩
  | succ n ih =>
    obtain ⟨a, a1, a2, a3, a4⟩ := ih
    obtain ⟨d, d1, d2, d3, d4⟩ := fTick_ok a
    exact ⟨d, d1.trans a1, d2.trans a2, d3.trans a3, d4.trans a4⟩
noncomputable def fFk (R : Row) (k : Nat) : Row := fun j => if j < 258 + k then fForget R j else R j
theorem fFk_lo {R : Row} {k j : Nat} (h : j < 258 + k) : fFk R k j = fForget R j := if_pos h
theorem fFk_hi {R : Row} {k j : Nat} (h : 258 + k ≤ j) : fFk R k j = R j := if_neg (by omega)
theorem fFk_0 {R : Row} : fFk R 0 = R := funext fun j => by
  by_cases h : j < 258 + 0
  · rw [fFk_lo h, fForget_ne (by omega)]
  · rw [fFk_hi (by omega)]
theorem fFk_end {R : Row} : fFk R 800 = fForget R := funext fun j => by
  by_cases h : j < 258 + 800
  · rw [fFk_lo h]
  · rw [fFk_hi (by omega)]
    exact (if_neg (fun q => by omega)).symm
theorem fFk_keep {R : Row} {k : Nat} (h : fForget R (258 + k) = R (258 + k)) : fFk R k = fFk R (k + 1) := funext fun j => by
  by_cases hj : j < 258 + k
  · rw [fFk_lo hj, fFk_lo (by omega)]
  · by_cases hj2 : j = 258 + k
    · rw [fFk_hi (by omega), fFk_lo (by omega), hj2, h]
    · rw [fFk_hi (by omega), fFk_hi (by omega)]
theorem fFk_set {R : Row} {k : Nat} (hk : k < 800) (h : goes R (258 + k)) : upd (fFk R k) (258 + k) (nI 0) = fFk R (k + 1) := funext fun j => by
  by_cases hj2 : j = 258 + k
  · rw [hj2, l_upd_eq, fFk_lo (by omega)]
    exact (if_pos ⟨by omega, by omega, h⟩).symm
  · rw [l_upd_ne hj2]
    by_cases hj : j < 258 + k
    · rw [fFk_lo hj, fFk_lo (by omega)]
    · rw [fFk_hi (by omega), fFk_hi (by omega)]
section T4
variable {G : GG} {N b : Nat} {T : TS} {h : Hp}
theorem t_forgets (H : ROK (T.2.2.1 1)) (hb : G.1 ≤ b) (hN : 1000 < N) : sX2_forgets G N (some b) (hT b T h) = some (.inl (), hT b (tF T 1 (fForget (T.2.2.1 1))) h) := by
  classical
  have H' := H
  obtain ⟨h6, h7, h8, h9, l6, l7, l8, l9, hv⟩ := H
  unfold sX2_forgets
  refine lp_h 800 (fun k => nI (258 + k)) (fun k => hT b (tF T 1 (fFk (T.2.2.1 1) k)) h) (by omega) rfl ?_ ?_ ?_
  · exact congrArg (fun z => hT b z h) (tF_self fFk_0)
  · intro k hk self
    obtain ⟨hv1, hv2⟩ := hv (258 + k) (by omega) (by omega)
    have g1 := fFk_hi (R := T.2.2.1 1) (k := k) (j := 258 + k) (by omega)
    have g2 := (fFk_lo (R := T.2.2.1 1) (k := k) (j := 90) (by omega)).trans (fForget_ne (by omega))
    have g3 := (fFk_lo (R := T.2.2.1 1) (k := k) (j := 1) (by omega)).trans (fForget_ne (by omega))
    unfold bX2_forgets_4
    simp (disch := omega) only [Nat.one_ne_zero, Nat.reduceEqDiff, Nat.reduceLeDiff, l_J, l_let, l_bnd, l_bndx, l_bI, l_NN, bZ_0, bZ_0n, bZ_1n, l_RZb, l_RZ0n, l_RZ1n, ↓reduceIte, not_true, not_false_iff, and_true, true_and, and_false, false_and, pk_mul, nI_add, nI_leI, nI_ltI, nI_eq, ni_sub1, n_0, n_1, n_2, n_3, n_4, n_5, n_6, n_7, n_8, n_9, n_10, n_11, n_12, n_13, n_14, n_15, n_16, n_20, n_24, n_27, n_30, n_31, n_32, n_40, n_47, n_50, n_57, n_58, n_59, n_64, n_72, n_80, n_90, n_91, n_92, n_93, n_94, n_95, n_96, n_97, n_98, n_99, n_100, n_122, n_128, n_138, n_148, n_158, n_168, n_178, n_200, n_255, n_258, n_300, n_700, n_999, n_1058, n_2116, n_5000, n_8464, n_7406, t_bV, t_fr1, t_ai1, tF_at, g1, g2, g3, hv1, show ¬ (1058 ≤ 258 + k) by omega]
    by_cases hp : vo (T.2.2.1 1) (258 + k) ≤ 0
    · simp only [hp, ↓reduceIte]
      exact congrArg (fun z => self (nI (258 + k + 1)) (hT b (tF T 1 z) h)) (fFk_keep (if_neg (fun q => by have := q.2.2.1; omega)))
    · simp (disch := omega) only [hp, ↓reduceIte, p_timeOf, l_bnd, t_bV, t_fr1, t_ai1, tF_at, g2, g3]
      by_cases hc : T.2.2.1 1 90 - nI ((vo (T.2.2.1 1) (258 + k) - 1) / 2) < T.2.2.1 1 1
      · simp only [hc, ↓reduceIte]
        exact congrArg (fun z => self (nI (258 + k + 1)) (hT b (tF T 1 z) h)) (fFk_keep (if_neg (fun q => q.2.2.2 hc)))
      · simp only [hc, ↓reduceIte, t_fr1, t_si1 hb (show 258 + k < 1058 by omega), tA_eq, tF_at, tF_tF]
        exact congrArg (fun z => self (nI (258 + k + 1)) (hT b (tF T 1 z) h)) (fFk_set hk ⟨by omega, hc⟩)
  · intro self
    unfold bX2_forgets_4
    simp (disch := omega) only [Nat.one_ne_zero, Nat.reduceEqDiff, Nat.reduceLeDiff, l_J, l_let, l_bnd, l_bndx, l_bI, l_NN, bZ_0, bZ_0n, bZ_1n, l_RZb, l_RZ0n, l_RZ1n, ↓reduceIte, not_true, not_false_iff, and_true, true_and, and_false, false_and, pk_mul, nI_add, nI_leI, nI_ltI, nI_eq, ni_sub1, n_0, n_1, n_2, n_3, n_4, n_5, n_6, n_7, n_8, n_9, n_10, n_11, n_12, n_13, n_14, n_15, n_16, n_20, n_24, n_27, n_30, n_31, n_32, n_40, n_47, n_50, n_57, n_58, n_59, n_64, n_72, n_80, n_90, n_91, n_92, n_93, n_94, n_95, n_96, n_97, n_98, n_99, n_100, n_122, n_128, n_138, n_148, n_158, n_168, n_178, n_200, n_255, n_258, n_300, n_700, n_999, n_1058, n_2116, n_5000, n_8464, n_7406, show 1058 ≤ 258 + 800 by omega, fFk_end]
theorem t_judges {o s : Nat} (H : ROK (T.2.2.1 1)) (hb : G.1 ≤ b) (ho : o < 10) (hs : s < 8) (hN : 20 < N) : sX2_judges G N (some b) (nI o) (nI s) (hT b T h) = some (.inl (), hT b (tF T 1 (fJudge (T.2.2.1 1) o s)) h) := by
  classical
  unfold sX2_judges
  simp only [t_bV, l_bnd, t_ruling H ho hs hN, t_runOf ho hs]
  refine l_Jk (fun j hj => ?_)
  have key : ∀ v : Int32, v = runThen (T.2.2.1 1) o s → j v (hT b T h) = some (.inl (), hT b (tF T 1 (fJudge (T.2.2.1 1) o s)) h) := by
    intro v hv
    subst hj
    subst hv
    simp (disch := omega) only [pk_mul, nI_add, nI_leI, nI_ltI, nI_eq, ni_sub1, n_0, n_1, n_2, n_3, n_4, n_5, n_6, n_7, n_8, n_9, n_10, n_11, n_12, n_13, n_14, n_15, n_16, n_20, n_24, n_27, n_30, n_31, n_32, n_40, n_47, n_50, n_57, n_58, n_59, n_64, n_72, n_80, n_90, n_91, n_92, n_93, n_94, n_95, n_96, n_97, n_98, n_99, n_100, n_122, n_128, n_138, n_148, n_158, n_168, n_178, n_200, n_255, n_258, n_300, n_700, n_999, n_1058, n_2116, n_5000, n_8464, n_7406, t_bV, t_fr1, t_ai1, t_si1 hb, tA_eq, tF_at, tF_tF, t_holds ho, l_upd_ne, l_upd_eq, l_bnd]
    refine l_Jk (fun j2 hj2 => ?_)
    have e2 : j2 () (hT b (tF T 1 (upd (T.2.2.1 1) (178 + 8 * o + s) (runThen (T.2.2.1 1) o s))) h) = some (.inl (), hT b (tF T 1 (@ite Row (hasB (T.2.2.1 1 (138 + o)) (nI s) ∧ runThen (T.2.2.1 1) o s ≤ - T.2.2.1 1 4) (Classical.propDecidable _) (upd (upd (upd (T.2.2.1 1) (178 + 8 * o + s) (runThen (T.2.2.1 1) o s)) (138 + o) (T.2.2.1 1 (138 + o) - (nI 1 <<< (nI s &&& nI 31)))) 93 (T.2.2.1 1 93 + nI 1)) (upd (T.2.2.1 1) (178 + 8 * o + s) (runThen (T.2.2.1 1) o s)))) h) := by
      subst hj2
      simp (disch := omega) only [Nat.one_ne_zero, Nat.reduceEqDiff, Nat.reduceLeDiff, l_let, l_bnd, l_bndx, l_bI, l_NN, bZ_0, bZ_0n, bZ_1n, l_RZb, l_RZ0n, l_RZ1n, ↓reduceIte, not_true, not_false_iff, and_true, true_and, and_false, false_and, pk_mul, nI_add, nI_leI, nI_ltI, nI_eq, ni_sub1, n_0, n_1, n_2, n_3, n_4, n_5, n_6, n_7, n_8, n_9, n_10, n_11, n_12, n_13, n_14, n_15, n_16, n_20, n_24, n_27, n_30, n_31, n_32, n_40, n_47, n_50, n_57, n_58, n_59, n_64, n_72, n_80, n_90, n_91, n_92, n_93, n_94, n_95, n_96, n_97, n_98, n_99, n_100, n_122, n_128, n_138, n_148, n_158, n_168, n_178, n_200, n_255, n_258, n_300, n_700, n_999, n_1058, n_2116, n_5000, n_8464, n_7406, t_bV, t_fr1, t_ai1, t_si1 hb, tA_eq, tF_at, tF_tF, t_holds ho, l_upd_ne, l_upd_eq]
      by_cases h1 : hasB (T.2.2.1 1 (138 + o)) (nI s) <;> by_cases h3 : - T.2.2.1 1 4 < runThen (T.2.2.1 1) o s <;>
        simp only [← Int32.not_lt, h1, h3, not_true, not_false_iff, ↓reduceIte, and_true, true_and, and_false, false_and, and_self]
    simp (disch := omega) only [Nat.one_ne_zero, Nat.reduceEqDiff, Nat.reduceLeDiff, l_let, l_bnd, l_bndx, l_bI, l_NN, bZ_0, bZ_0n, bZ_1n, l_RZb, l_RZ0n, l_RZ1n, ↓reduceIte, not_true, not_false_iff, and_true, true_and, and_false, false_and, pk_mul, nI_add, nI_leI, nI_ltI, nI_eq, ni_sub1, n_0, n_1, n_2, n_3, n_4, n_5, n_6, n_7, n_8, n_9, n_10, n_11, n_12, n_13, n_14, n_15, n_16, n_20, n_24, n_27, n_30, n_31, n_32, n_40, n_47, n_50, n_57, n_58, n_59, n_64, n_72, n_80, n_90, n_91, n_92, n_93, n_94, n_95, n_96, n_97, n_98, n_99, n_100, n_122, n_128, n_138, n_148, n_158, n_168, n_178, n_200, n_255, n_258, n_300, n_700, n_999, n_1058, n_2116, n_5000, n_8464, n_7406, t_bV, t_fr1, t_ai1, t_si1 hb, tA_eq, tF_at, tF_tF, l_upd_ne, l_upd_eq, e2]
    unfold fJudge
    by_cases h1 : hasB (T.2.2.1 1 (138 + o)) (nI s) <;> by_cases h2 : runThen (T.2.2.1 1) o s < T.2.2.1 1 3 <;>
      simp only [← Int32.not_lt, h1, h2, not_true, not_false_iff, ↓reduceIte, and_true, true_and, and_false, false_and, and_self]
  simp only [n_0, n_1]
  by_cases h1 : qRule (T.2.2.1 1) o s = nI 0
  · rw [if_pos h1]
    exact key _ (by unfold runThen; rw [if_pos h1])
  · rw [if_neg h1]
    by_cases h2 : qRule (T.2.2.1 1) o s ≤ nI 0
    · rw [if_pos h2, p_min, l_bnd]
      exact key _ (by unfold runThen; rw [if_neg h1, if_pos h2])
    · rw [if_neg h2, p_max, l_bnd]
      exact key _ (by unfold runThen; rw [if_neg h1, if_neg h2])
theorem t_ticks (H : ROK (T.2.2.1 1)) (hb : G.1 ≤ b) (hN : 1000 < N) : sX2_ticks G N (some b) (hT b T h) = some (.inl (), hT b (tF T 1 (fTick (T.2.2.1 1))) h) := by
  classical
  obtain ⟨a, a1, a2, a3, a4⟩ := fTime_ok H (v := T.2.2.1 1 90 + nI 1)
  obtain ⟨c, c1, c2, c3, c4⟩ := fForget_ok a
  have H' := H
  obtain ⟨h6, h7, h8, h9, l6, l7, l8, l9, hv⟩ := H
  unfold sX2_ticks fTick
  simp (disch := omega) only [Nat.one_ne_zero, Nat.reduceEqDiff, Nat.reduceLeDiff, l_J, l_let, l_bnd, l_bndx, l_bI, l_NN, bZ_0, bZ_0n, bZ_1n, l_RZb, l_RZ0n, l_RZ1n, ↓reduceIte, not_true, not_false_iff, and_true, true_and, and_false, false_and, pk_mul, nI_add, nI_leI, nI_ltI, nI_eq, ni_sub1, n_0, n_1, n_2, n_3, n_4, n_5, n_6, n_7, n_8, n_9, n_10, n_11, n_12, n_13, n_14, n_15, n_16, n_20, n_24, n_27, n_30, n_31, n_32, n_40, n_47, n_50, n_57, n_58, n_59, n_64, n_72, n_80, n_90, n_91, n_92, n_93, n_94, n_95, n_96, n_97, n_98, n_99, n_100, n_122, n_128, n_138, n_148, n_158, n_168, n_178, n_200, n_255, n_258, n_300, n_700, n_999, n_1058, n_2116, n_5000, n_8464, n_7406, t_bV, t_fr1, t_ai1, t_si1 hb, tA_eq, tF_at, tF_tF, t_forgets (T := tF T 1 (upd (T.2.2.1 1) 90 (T.2.2.1 1 90 + nI 1))) (by rw [tF_at]; exact a) hb hN]
  refine lp_h (cN (T.2.2.1 1)) (fun k => nI k) (fun k => hT b (tF T 1 (jO (fForget (upd (T.2.2.1 1) 90 (T.2.2.1 1 90 + nI 1))) (sN (T.2.2.1 1)) k)) h) (by omega) rfl rfl ?_ ?_
  · intro o ho self
    obtain ⟨d, d1, d2, d3, d4⟩ := jO_ok c (m := sN (T.2.2.1 1)) (n := o) (by omega) l7
    have e6 := d.1
    rw [d1, c1, a1] at e6
    unfold bX2_ticks_17
    simp (disch := omega) only [Nat.one_ne_zero, Nat.reduceEqDiff, Nat.reduceLeDiff, l_J, l_let, l_bnd, l_bndx, l_bI, l_NN, bZ_0, bZ_0n, bZ_1n, l_RZb, l_RZ0n, l_RZ1n, ↓reduceIte, not_true, not_false_iff, and_true, true_and, and_false, false_and, pk_mul, nI_add, nI_leI, nI_ltI, nI_eq, ni_sub1, n_0, n_1, n_2, n_3, n_4, n_5, n_6, n_7, n_8, n_9, n_10, n_11, n_12, n_13, n_14, n_15, n_16, n_20, n_24, n_27, n_30, n_31, n_32, n_40, n_47, n_50, n_57, n_58, n_59, n_64, n_72, n_80, n_90, n_91, n_92, n_93, n_94, n_95, n_96, n_97, n_98, n_99, n_100, n_122, n_128, n_138, n_148, n_158, n_168, n_178, n_200, n_255, n_258, n_300, n_700, n_999, n_1058, n_2116, n_5000, n_8464, n_7406, t_bV, t_fr1, t_ai1, tF_at, e6, Nat.not_le.mpr ho]
    refine lp_h (sN (T.2.2.1 1)) (fun k => nI k) (fun k => hT b (tF T 1 (jS (jO (fForget (upd (T.2.2.1 1) 90 (T.2.2.1 1 90 + nI 1))) (sN (T.2.2.1 1)) o) o k)) h) (by omega) rfl rfl ?_ ?_
    · intro s hs self
      obtain ⟨f, f1, f2, f3, f4⟩ := jS_ok d (o := o) (n := s) (by omega) (by omega)
      have e7 := f.2.1
      rw [f2, d2, c2, a2] at e7
      unfold bX2_ticks_30
      simp (disch := omega) only [Nat.one_ne_zero, Nat.reduceEqDiff, Nat.reduceLeDiff, l_J, l_let, l_bnd, l_bndx, l_bI, l_NN, bZ_0, bZ_0n, bZ_1n, l_RZb, l_RZ0n, l_RZ1n, ↓reduceIte, not_true, not_false_iff, and_true, true_and, and_false, false_and, pk_mul, nI_add, nI_leI, nI_ltI, nI_eq, ni_sub1, n_0, n_1, n_2, n_3, n_4, n_5, n_6, n_7, n_8, n_9, n_10, n_11, n_12, n_13, n_14, n_15, n_16, n_20, n_24, n_27, n_30, n_31, n_32, n_40, n_47, n_50, n_57, n_58, n_59, n_64, n_72, n_80, n_90, n_91, n_92, n_93, n_94, n_95, n_96, n_97, n_98, n_99, n_100, n_122, n_128, n_138, n_148, n_158, n_168, n_178, n_200, n_255, n_258, n_300, n_700, n_999, n_1058, n_2116, n_5000, n_8464, n_7406, t_bV, t_fr1, t_ai1, tF_at, tF_tF, e7, Nat.not_le.mpr hs, t_judges (T := tF T 1 (jS (jO (fForget (upd (T.2.2.1 1) 90 (T.2.2.1 1 90 + nI 1))) (sN (T.2.2.1 1)) o) o s)) (o := o) (s := s) (by rw [tF_at]; exact f) hb (show o < 10 by omega) (show s < 8 by omega) (show 20 < N by omega)]
      rfl
    · intro self
      obtain ⟨f, f1, f2, f3, f4⟩ := jS_ok d (o := o) (n := sN (T.2.2.1 1)) (by omega) (by omega)
      have e7 := f.2.1
      rw [f2, d2, c2, a2] at e7
      unfold bX2_ticks_30
      simp (disch := omega) only [Nat.one_ne_zero, Nat.reduceEqDiff, Nat.reduceLeDiff, l_J, l_let, l_bnd, l_bndx, l_bI, l_NN, bZ_0, bZ_0n, bZ_1n, l_RZb, l_RZ0n, l_RZ1n, ↓reduceIte, not_true, not_false_iff, and_true, true_and, and_false, false_and, pk_mul, nI_add, nI_leI, nI_ltI, nI_eq, ni_sub1, n_0, n_1, n_2, n_3, n_4, n_5, n_6, n_7, n_8, n_9, n_10, n_11, n_12, n_13, n_14, n_15, n_16, n_20, n_24, n_27, n_30, n_31, n_32, n_40, n_47, n_50, n_57, n_58, n_59, n_64, n_72, n_80, n_90, n_91, n_92, n_93, n_94, n_95, n_96, n_97, n_98, n_99, n_100, n_122, n_128, n_138, n_148, n_158, n_168, n_178, n_200, n_255, n_258, n_300, n_700, n_999, n_1058, n_2116, n_5000, n_8464, n_7406, t_bV, t_fr1, t_ai1, tF_at, e7, Nat.le_refl]
      rfl
  · intro self
    obtain ⟨d, d1, d2, d3, d4⟩ := jO_ok c (m := sN (T.2.2.1 1)) (n := cN (T.2.2.1 1)) (by omega) l7
    have e6 := d.1
    rw [d1, c1, a1] at e6
    unfold bX2_ticks_17
    simp (disch := omega) only [Nat.one_ne_zero, Nat.reduceEqDiff, Nat.reduceLeDiff, l_J, l_let, l_bnd, l_bndx, l_bI, l_NN, bZ_0, bZ_0n, bZ_1n, l_RZb, l_RZ0n, l_RZ1n, ↓reduceIte, not_true, not_false_iff, and_true, true_and, and_false, false_and, pk_mul, nI_add, nI_leI, nI_ltI, nI_eq, ni_sub1, n_0, n_1, n_2, n_3, n_4, n_5, n_6, n_7, n_8, n_9, n_10, n_11, n_12, n_13, n_14, n_15, n_16, n_20, n_24, n_27, n_30, n_31, n_32, n_40, n_47, n_50, n_57, n_58, n_59, n_64, n_72, n_80, n_90, n_91, n_92, n_93, n_94, n_95, n_96, n_97, n_98, n_99, n_100, n_122, n_128, n_138, n_148, n_158, n_168, n_178, n_200, n_255, n_258, n_300, n_700, n_999, n_1058, n_2116, n_5000, n_8464, n_7406, t_bV, t_fr1, t_ai1, tF_at, e6, Nat.le_refl]
theorem t_passes {n : Nat} (H : ROK (T.2.2.1 1)) (hb : G.1 ≤ b) (hn : n < 1000) (hN : 1000 < N) : sX2_passes G N (some b) (nI n) (hT b T h) = some (.inl (), hT b (tF T 1 (fTicks (T.2.2.1 1) n)) h) := by
  classical
  unfold sX2_passes
  refine lp_h n (fun k => nI k) (fun k => hT b (tF T 1 (fTicks (T.2.2.1 1) k)) h) (by omega) rfl (congrArg (fun z => hT b z h) (tF_self rfl)) ?_ ?_
  · intro k hk self
    unfold bX2_passes_2
    simp (disch := omega) only [Nat.one_ne_zero, Nat.reduceEqDiff, Nat.reduceLeDiff, l_J, l_let, l_bnd, l_bndx, l_bI, l_NN, bZ_0, bZ_0n, bZ_1n, l_RZb, l_RZ0n, l_RZ1n, ↓reduceIte, not_true, not_false_iff, and_true, true_and, and_false, false_and, pk_mul, nI_add, nI_leI, nI_ltI, nI_eq, ni_sub1, n_0, n_1, n_2, n_3, n_4, n_5, n_6, n_7, n_8, n_9, n_10, n_11, n_12, n_13, n_14, n_15, n_16, n_20, n_24, n_27, n_30, n_31, n_32, n_40, n_47, n_50, n_57, n_58, n_59, n_64, n_72, n_80, n_90, n_91, n_92, n_93, n_94, n_95, n_96, n_97, n_98, n_99, n_100, n_122, n_128, n_138, n_148, n_158, n_168, n_178, n_200, n_255, n_258, n_300, n_700, n_999, n_1058, n_2116, n_5000, n_8464, n_7406, t_bV, t_fr1, t_ai1, Nat.not_le.mpr hk, t_ticks (T := tF T 1 (fTicks (T.2.2.1 1) k)) (by rw [tF_at]; exact (fTicks_ok H k).1) hb hN, tF_at, tF_tF]
    rfl
  · intro self
    unfold bX2_passes_2
    simp (disch := omega) only [Nat.one_ne_zero, Nat.reduceEqDiff, Nat.reduceLeDiff, l_J, l_let, l_bnd, l_bndx, l_bI, l_NN, bZ_0, bZ_0n, bZ_1n, l_RZb, l_RZ0n, l_RZ1n, ↓reduceIte, not_true, not_false_iff, and_true, true_and, and_false, false_and, pk_mul, nI_add, nI_leI, nI_ltI, nI_eq, ni_sub1, n_0, n_1, n_2, n_3, n_4, n_5, n_6, n_7, n_8, n_9, n_10, n_11, n_12, n_13, n_14, n_15, n_16, n_20, n_24, n_27, n_30, n_31, n_32, n_40, n_47, n_50, n_57, n_58, n_59, n_64, n_72, n_80, n_90, n_91, n_92, n_93, n_94, n_95, n_96, n_97, n_98, n_99, n_100, n_122, n_128, n_138, n_148, n_158, n_168, n_178, n_200, n_255, n_258, n_300, n_700, n_999, n_1058, n_2116, n_5000, n_8464, n_7406, Nat.le_refl]
end T4
