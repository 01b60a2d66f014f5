/-! the twin's queries, the second half -/
set_option maxRecDepth 100000
set_option maxHeartbeats 1000000
noncomputable def qClosers (R : Row) (s : Nat) : Int32 := om (cN R) (fun o => pz (hasB (R (138 + o)) (nI s)) (1 <<< (nI o &&& 31)))
noncomputable def qRule (R : Row) (o s : Nat) : Int32 := if nI 0 < qSum R o s True ∧ R 2 * (qSum R o s True + qSum R o s False) ≤ nI 100 * qSum R o s True then nI 1 else if nI 0 < qSum R o s False then -nI 1 else nI 0
def qBits (n : Nat) (x : Int32) : Int32 := sm n (fun k => (x >>> (nI k &&& 31)) &&& 1)
noncomputable def qVotesBy (R : Row) (o : Nat) : Int32 := sm 80 (fun k => bZ (0 < vo R (258 + 80 * o + k)))
noncomputable def qVotesOf (R : Row) (c : Nat) : Int32 := sm 10 (fun o => sm 8 (fun s => bZ (0 < vo R (258 + 80 * o + 8 * c + s))))
noncomputable def qAllVotes (R : Row) : Int32 := sm 10 (qVotesBy R)
noncomputable def qRedVotes (R : Row) : Int32 := sm 800 (fun k => bZ (0 < vo R (258 + k) ∧ vo R (258 + k) % 2 = 0))
noncomputable def qVotesOn (R : Row) (s : Nat) : Int32 := sm 100 (fun k => bZ (0 < vo R (258 + s + 8 * k)))
noncomputable def qPairs (R : Row) : Int32 := sm (cN R) (fun a => sm a (fun b => bZ (seeOne R a b)))
noncomputable def qWithout (R : Row) : Int32 := sm (cN R) (fun o => bZ (R (148 + o) = nI 0))
noncomputable def qSlopesSeen (R : Row) (o : Nat) : Int32 := sm (sN R) (fun s => bZ (isSee R (10 + 3 * o) (40 + 3 * s)))
noncomputable def qSeers0 (R : Row) (s : Nat) : Int32 := sm (cN R) (fun o => bZ (isSee R (10 + 3 * o) (40 + 3 * s)))
def hasV (R : Row) (n o s : Nat) (p : Prop) : Prop := ∃ c, c < n ∧ isVote R (258 + 80 * o + 8 * c + s) p
noncomputable def qKnown (R : Row) (o : Nat) : Int32 := sm (sN R) (fun s => bZ (hasV R (cN R) o s True ∨ hasV R (cN R) o s False))
noncomputable def qAllWeights (R : Row) (s : Nat) (p : Prop) : Int32 := sm (cN R) (fun o => qSum R o s p)
noncomputable def qSpread (R : Row) (set : Int32) : Int32 := og set (cN R) (fun k => pz (hasB set (nI k)) (qSeen R k))
def tells (R : Row) (o s : Nat) : Prop := hasB (R (138 + o)) (nI s) ∨ qBits 10 (qSeen R o) < nI 2 * qBits 10 (qSeen R o &&& qClosers R s)
theorem hasV_succ {R : Row} {n o s : Nat} {p : Prop} : hasV R (n + 1) o s p ↔ (hasV R n o s p ∨ isVote R (258 + 80 * o + 8 * n + s) p) := by
  constructor
  · rintro ⟨c, h1, h2⟩
    by_cases hc : c < n
    · exact Or.inl ⟨c, hc, h2⟩
    · have : c = n := by omega
      subst this
      exact Or.inr h2
  · rintro (⟨c, h1, h2⟩ | h2)
    · exact ⟨c, by omega, h2⟩
    · exact ⟨n, by omega, h2⟩
section T2
variable {G : GG} {N b : Nat} {T : TS} {h : Hp}
theorem t_holds {o s : Nat} (ho : o < 10) : sX2_holds G N (some b) (nI o) (nI s) (hT b T h) = some (.inl (bZ (hasB (T.2.2.1 1 (138 + o)) (nI s))), hT b T h) := by
  classical
  unfold sX2_holds
  simp (disch := omega) only [Nat.one_ne_zero, Nat.reduceEqDiff, Nat.reduceLeDiff, l_J, l_let, l_bnd, l_bndx, l_bI, l_NN, bZ_0, bZ_0n, bZ_1n, l_RZb, l_RZ0n, l_RZ1n, ↓reduceIte, not_true, not_false_iff, and_true, true_and, and_false, false_and, pk_mul, nI_add, nI_leI, nI_ltI, nI_eq, ni_sub1, n_0, n_1, n_2, n_3, n_4, n_5, n_6, n_7, n_8, n_9, n_10, n_11, n_12, n_13, n_14, n_15, n_16, n_20, n_24, n_27, n_30, n_31, n_32, n_40, n_47, n_50, n_57, n_58, n_59, n_64, n_72, n_80, n_90, n_91, n_92, n_93, n_94, n_95, n_96, n_97, n_98, n_99, n_100, n_122, n_128, n_138, n_148, n_158, n_168, n_178, n_200, n_255, n_258, n_300, n_700, n_999, n_1058, n_2116, n_5000, n_8464, n_7406, t_bV, t_fr1, t_ai1, p_in, p_max, p_min, p_abs, p_cabinAt, p_slopeAt, p_voteAt, p_has]
theorem t_runOf {o s : Nat} (ho : o < 10) (hs : s < 8) : sX2_runOf G N (some b) (nI o) (nI s) (hT b T h) = some (.inl (T.2.2.1 1 (178 + 8 * o + s)), hT b T h) := by
  classical
  unfold sX2_runOf
  simp (disch := omega) only [Nat.one_ne_zero, Nat.reduceEqDiff, Nat.reduceLeDiff, l_J, l_let, l_bnd, l_bndx, l_bI, l_NN, bZ_0, bZ_0n, bZ_1n, l_RZb, l_RZ0n, l_RZ1n, ↓reduceIte, not_true, not_false_iff, and_true, true_and, and_false, false_and, pk_mul, nI_add, nI_leI, nI_ltI, nI_eq, ni_sub1, n_0, n_1, n_2, n_3, n_4, n_5, n_6, n_7, n_8, n_9, n_10, n_11, n_12, n_13, n_14, n_15, n_16, n_20, n_24, n_27, n_30, n_31, n_32, n_40, n_47, n_50, n_57, n_58, n_59, n_64, n_72, n_80, n_90, n_91, n_92, n_93, n_94, n_95, n_96, n_97, n_98, n_99, n_100, n_122, n_128, n_138, n_148, n_158, n_168, n_178, n_200, n_255, n_258, n_300, n_700, n_999, n_1058, n_2116, n_5000, n_8464, n_7406, t_bV, t_fr1, t_ai1, p_in, p_max, p_min, p_abs, p_cabinAt, p_slopeAt, p_voteAt]
theorem t_isCabin {x : Int32} : sX2_isCabin G N (some b) x (hT b T h) = some (.inl (bZ (0 ≤ x ∧ x ≤ T.2.2.1 1 6 - 1)), hT b T h) := by
  classical
  unfold sX2_isCabin
  simp (disch := omega) only [Nat.one_ne_zero, Nat.reduceEqDiff, Nat.reduceLeDiff, l_J, l_let, l_bnd, l_bndx, l_bI, l_NN, bZ_0, bZ_0n, bZ_1n, l_RZb, l_RZ0n, l_RZ1n, ↓reduceIte, not_true, not_false_iff, and_true, true_and, and_false, false_and, pk_mul, nI_add, nI_leI, nI_ltI, nI_eq, ni_sub1, n_0, n_1, n_2, n_3, n_4, n_5, n_6, n_7, n_8, n_9, n_10, n_11, n_12, n_13, n_14, n_15, n_16, n_20, n_24, n_27, n_30, n_31, n_32, n_40, n_47, n_50, n_57, n_58, n_59, n_64, n_72, n_80, n_90, n_91, n_92, n_93, n_94, n_95, n_96, n_97, n_98, n_99, n_100, n_122, n_128, n_138, n_148, n_158, n_168, n_178, n_200, n_255, n_258, n_300, n_700, n_999, n_1058, n_2116, n_5000, n_8464, n_7406, t_bV, t_fr1, t_ai1, p_in, p_max, p_min, p_abs, p_cabinAt, p_slopeAt, p_voteAt]
theorem t_isSlope {x : Int32} : sX2_isSlope G N (some b) x (hT b T h) = some (.inl (bZ (0 ≤ x ∧ x ≤ T.2.2.1 1 7 - 1)), hT b T h) := by
  classical
  unfold sX2_isSlope
  simp (disch := omega) only [Nat.one_ne_zero, Nat.reduceEqDiff, Nat.reduceLeDiff, l_J, l_let, l_bnd, l_bndx, l_bI, l_NN, bZ_0, bZ_0n, bZ_1n, l_RZb, l_RZ0n, l_RZ1n, ↓reduceIte, not_true, not_false_iff, and_true, true_and, and_false, false_and, pk_mul, nI_add, nI_leI, nI_ltI, nI_eq, ni_sub1, n_0, n_1, n_2, n_3, n_4, n_5, n_6, n_7, n_8, n_9, n_10, n_11, n_12, n_13, n_14, n_15, n_16, n_20, n_24, n_27, n_30, n_31, n_32, n_40, n_47, n_50, n_57, n_58, n_59, n_64, n_72, n_80, n_90, n_91, n_92, n_93, n_94, n_95, n_96, n_97, n_98, n_99, n_100, n_122, n_128, n_138, n_148, n_158, n_168, n_178, n_200, n_255, n_258, n_300, n_700, n_999, n_1058, n_2116, n_5000, n_8464, n_7406, t_bV, t_fr1, t_ai1, p_in, p_max, p_min, p_abs, p_cabinAt, p_slopeAt, p_voteAt]
theorem t_ruling {o s : Nat} (H : ROK (T.2.2.1 1)) (ho : o < 10) (hs : s < 8) (hN : 20 < N) : sX2_ruling G N (some b) (nI o) (nI s) (hT b T h) = some (.inl (qRule (T.2.2.1 1) o s), hT b T h) := by
  classical
  unfold sX2_ruling
  simp (disch := omega) only [Nat.one_ne_zero, Nat.reduceEqDiff, Nat.reduceLeDiff, l_J, l_let, l_bnd, l_bndx, l_bI, l_NN, bZ_0, bZ_0n, bZ_1n, l_RZb, l_RZ0n, l_RZ1n, ↓reduceIte, not_true, not_false_iff, and_true, true_and, and_false, false_and, pk_mul, nI_add, nI_leI, nI_ltI, nI_eq, ni_sub1, n_0, n_1, n_2, n_3, n_4, n_5, n_6, n_7, n_8, n_9, n_10, n_11, n_12, n_13, n_14, n_15, n_16, n_20, n_24, n_27, n_30, n_31, n_32, n_40, n_47, n_50, n_57, n_58, n_59, n_64, n_72, n_80, n_90, n_91, n_92, n_93, n_94, n_95, n_96, n_97, n_98, n_99, n_100, n_122, n_128, n_138, n_148, n_158, n_168, n_178, n_200, n_255, n_258, n_300, n_700, n_999, n_1058, n_2116, n_5000, n_8464, n_7406, t_bV, t_fr1, t_ai1, p_in, p_max, p_min, p_abs, p_cabinAt, p_slopeAt, p_voteAt, t_sum H ho hs bZ_T hN, t_sum H ho hs bZ_F hN]
  unfold qRule
  by_cases h1 : nI 0 < qSum (T.2.2.1 1) o s True <;> by_cases h2 : nI 100 * qSum (T.2.2.1 1) o s True < T.2.2.1 1 2 * (qSum (T.2.2.1 1) o s True + qSum (T.2.2.1 1) o s False) <;> by_cases h3 : nI 0 < qSum (T.2.2.1 1) o s False <;>
    simp only [← Int32.not_lt, h1, h2, h3, not_true, not_false_iff, ↓reduceIte, and_true, true_and, and_false, false_and, and_self]
end T2
section P3
variable {G : GG} {N : Nat} {h : Hp}
theorem p_bits {x : Int32} (hN : 20 < N) : sX2_bits G N x h = some (.inl (qBits 10 x), h) := by
  classical
  unfold sX2_bits qBits
  refine lp_q 10 (fun k => (sm k (fun k => (x >>> (nI k &&& 31)) &&& 1), nI k)) (by omega) rfl ?_ ?_
  · intro k hk self
    unfold bX2_bits_4
    simp (disch := omega) only [l_let, nI_leI, nI_add, n_10, n_1, Nat.not_le.mpr hk, ↓reduceIte]
    exact l_st rfl rfl
  · intro self
    unfold bX2_bits_4
    simp (disch := omega) only [nI_leI, n_10, Nat.le_refl, ↓reduceIte]
theorem p_bitsOfSlopes {x : Int32} (hN : 20 < N) : sX2_bitsOfSlopes G N x h = some (.inl (qBits 8 x), h) := by
  classical
  unfold sX2_bitsOfSlopes qBits
  refine lp_q 8 (fun k => (sm k (fun k => (x >>> (nI k &&& 31)) &&& 1), nI k)) (by omega) rfl ?_ ?_
  · intro k hk self
    unfold bX2_bitsOfSlopes_4
    simp (disch := omega) only [l_let, nI_leI, nI_add, n_8, n_1, Nat.not_le.mpr hk, ↓reduceIte]
    exact l_st rfl rfl
  · intro self
    unfold bX2_bitsOfSlopes_4
    simp (disch := omega) only [nI_leI, n_8, Nat.le_refl, ↓reduceIte]
end P3
section T3
variable {G : GG} {N b : Nat} {T : TS} {h : Hp}
theorem t_closersOf {s : Nat} (H : ROK (T.2.2.1 1)) (hN : 1000 < N) : sX2_closersOf G N (some b) (nI s) (hT b T h) = some (.inl (qClosers (T.2.2.1 1) s), hT b T h) := by
  classical
  have H' := H
  obtain ⟨h6, h7, h8, h9, l6, l7, l8, l9, hv⟩ := H
  unfold sX2_closersOf qClosers
  skip
  refine lp_q (cN (T.2.2.1 1)) (fun k => (om k (fun o => pz (hasB ((T.2.2.1 1) (138 + o)) (nI s)) (1 <<< (nI o &&& 31))), nI k)) (by omega) rfl ?_ ?_
  · intro k hk self
    unfold bX2_closersOf_4
    simp (disch := omega) only [Nat.one_ne_zero, Nat.reduceEqDiff, Nat.reduceLeDiff, l_J, l_let, l_bnd, l_bndx, l_bI, l_NN, bZ_0, bZ_0n, bZ_1n, l_RZb, l_RZ0n, l_RZ1n, ↓reduceIte, not_true, not_false_iff, and_true, true_and, and_false, false_and, pk_mul, nI_add, nI_leI, nI_ltI, nI_eq, ni_sub1, n_0, n_1, n_2, n_3, n_4, n_5, n_6, n_7, n_8, n_9, n_10, n_11, n_12, n_13, n_14, n_15, n_16, n_20, n_24, n_27, n_30, n_31, n_32, n_40, n_47, n_50, n_57, n_58, n_59, n_64, n_72, n_80, n_90, n_91, n_92, n_93, n_94, n_95, n_96, n_97, n_98, n_99, n_100, n_122, n_128, n_138, n_148, n_158, n_168, n_178, n_200, n_255, n_258, n_300, n_700, n_999, n_1058, n_2116, n_5000, n_8464, n_7406, t_bV, t_fr1, t_ai1, p_in, p_max, p_min, p_abs, p_cabinAt, p_slopeAt, p_voteAt, h6, h7, Nat.not_le.mpr hk, t_holds (show k < 10 by omega)]
    repeat' split
    all_goals first | exact l_ot (pz_f (by simp_all [← Int32.not_lt])) rfl | exact l_ot (pz_t (by simp_all [← Int32.not_lt])) rfl
  · intro self
    unfold bX2_closersOf_4
    simp (disch := omega) only [Nat.one_ne_zero, Nat.reduceEqDiff, Nat.reduceLeDiff, l_J, l_let, l_bnd, l_bndx, l_bI, l_NN, bZ_0, bZ_0n, bZ_1n, l_RZb, l_RZ0n, l_RZ1n, ↓reduceIte, not_true, not_false_iff, and_true, true_and, and_false, false_and, pk_mul, nI_add, nI_leI, nI_ltI, nI_eq, ni_sub1, n_0, n_1, n_2, n_3, n_4, n_5, n_6, n_7, n_8, n_9, n_10, n_11, n_12, n_13, n_14, n_15, n_16, n_20, n_24, n_27, n_30, n_31, n_32, n_40, n_47, n_50, n_57, n_58, n_59, n_64, n_72, n_80, n_90, n_91, n_92, n_93, n_94, n_95, n_96, n_97, n_98, n_99, n_100, n_122, n_128, n_138, n_148, n_158, n_168, n_178, n_200, n_255, n_258, n_300, n_700, n_999, n_1058, n_2116, n_5000, n_8464, n_7406, t_bV, t_fr1, t_ai1, p_in, p_max, p_min, p_abs, p_cabinAt, p_slopeAt, p_voteAt, h6, h7, Nat.le_refl]
theorem t_votesBy {o : Nat} (H : ROK (T.2.2.1 1)) (ho : o < 10) (hN : 1000 < N) : sX2_votesBy G N (some b) (nI o) (hT b T h) = some (.inl (qVotesBy (T.2.2.1 1) o), hT b T h) := by
  classical
  have H' := H
  obtain ⟨h6, h7, h8, h9, l6, l7, l8, l9, hv⟩ := H
  unfold sX2_votesBy qVotesBy
  simp (disch := omega) only [Nat.one_ne_zero, Nat.reduceEqDiff, Nat.reduceLeDiff, l_J, l_let, l_bnd, l_bndx, l_bI, l_NN, bZ_0, bZ_0n, bZ_1n, l_RZb, l_RZ0n, l_RZ1n, ↓reduceIte, not_true, not_false_iff, and_true, true_and, and_false, false_and, pk_mul, nI_add, nI_leI, nI_ltI, nI_eq, ni_sub1, n_0, n_1, n_2, n_3, n_4, n_5, n_6, n_7, n_8, n_9, n_10, n_11, n_12, n_13, n_14, n_15, n_16, n_20, n_24, n_27, n_30, n_31, n_32, n_40, n_47, n_50, n_57, n_58, n_59, n_64, n_72, n_80, n_90, n_91, n_92, n_93, n_94, n_95, n_96, n_97, n_98, n_99, n_100, n_122, n_128, n_138, n_148, n_158, n_168, n_178, n_200, n_255, n_258, n_300, n_700, n_999, n_1058, n_2116, n_5000, n_8464, n_7406, t_bV, t_fr1, t_ai1, p_in, p_max, p_min, p_abs, p_cabinAt, p_slopeAt, p_voteAt]
  refine lp_q (80) (fun k => (sm k (fun k => bZ (0 < vo (T.2.2.1 1) (258 + 80 * o + k))), nI (258 + 80 * o + k))) (by omega) rfl ?_ ?_
  · intro k hk self
    obtain ⟨hv1, hv2⟩ := hv (258 + 80 * o + k) (by omega) (by omega)
    unfold bX2_votesBy_9
    simp (disch := omega) only [Nat.one_ne_zero, Nat.reduceEqDiff, Nat.reduceLeDiff, l_J, l_let, l_bnd, l_bndx, l_bI, l_NN, bZ_0, bZ_0n, bZ_1n, l_RZb, l_RZ0n, l_RZ1n, ↓reduceIte, not_true, not_false_iff, and_true, true_and, and_false, false_and, pk_mul, nI_add, nI_leI, nI_ltI, nI_eq, ni_sub1, n_0, n_1, n_2, n_3, n_4, n_5, n_6, n_7, n_8, n_9, n_10, n_11, n_12, n_13, n_14, n_15, n_16, n_20, n_24, n_27, n_30, n_31, n_32, n_40, n_47, n_50, n_57, n_58, n_59, n_64, n_72, n_80, n_90, n_91, n_92, n_93, n_94, n_95, n_96, n_97, n_98, n_99, n_100, n_122, n_128, n_138, n_148, n_158, n_168, n_178, n_200, n_255, n_258, n_300, n_700, n_999, n_1058, n_2116, n_5000, n_8464, n_7406, t_bV, t_fr1, t_ai1, p_in, p_max, p_min, p_abs, p_cabinAt, p_slopeAt, p_voteAt, h6, h7, show ¬ (258 + 80 * (o + 1) + 8 * 0 + 0 ≤ 258 + 80 * o + k) by omega, hv1]
    repeat' split
    all_goals first | exact l_st (bZ_f (by omega)) rfl | exact l_st (bZ_t (by omega)) rfl
  · intro self
    unfold bX2_votesBy_9
    simp (disch := omega) only [Nat.one_ne_zero, Nat.reduceEqDiff, Nat.reduceLeDiff, l_J, l_let, l_bnd, l_bndx, l_bI, l_NN, bZ_0, bZ_0n, bZ_1n, l_RZb, l_RZ0n, l_RZ1n, ↓reduceIte, not_true, not_false_iff, and_true, true_and, and_false, false_and, pk_mul, nI_add, nI_leI, nI_ltI, nI_eq, ni_sub1, n_0, n_1, n_2, n_3, n_4, n_5, n_6, n_7, n_8, n_9, n_10, n_11, n_12, n_13, n_14, n_15, n_16, n_20, n_24, n_27, n_30, n_31, n_32, n_40, n_47, n_50, n_57, n_58, n_59, n_64, n_72, n_80, n_90, n_91, n_92, n_93, n_94, n_95, n_96, n_97, n_98, n_99, n_100, n_122, n_128, n_138, n_148, n_158, n_168, n_178, n_200, n_255, n_258, n_300, n_700, n_999, n_1058, n_2116, n_5000, n_8464, n_7406, t_bV, t_fr1, t_ai1, p_in, p_max, p_min, p_abs, p_cabinAt, p_slopeAt, p_voteAt, h6, h7, Nat.le_refl, show 258 + 80 * (o + 1) + 8 * 0 + 0 ≤ 258 + 80 * o + 80 by omega]
theorem t_redVotes (H : ROK (T.2.2.1 1)) (hN : 1000 < N) : sX2_redVotes G N (some b) (hT b T h) = some (.inl (qRedVotes (T.2.2.1 1)), hT b T h) := by
  classical
  have H' := H
  obtain ⟨h6, h7, h8, h9, l6, l7, l8, l9, hv⟩ := H
  unfold sX2_redVotes qRedVotes
  skip
  refine lp_q (800) (fun k => (sm k (fun k => bZ (0 < vo (T.2.2.1 1) (258 + k) ∧ vo (T.2.2.1 1) (258 + k) % 2 = 0)), nI (258 + k))) (by omega) rfl ?_ ?_
  · intro k hk self
    obtain ⟨hv1, hv2⟩ := hv (258 + k) (by omega) (by omega)
    unfold bX2_redVotes_6
    simp (disch := omega) only [Nat.one_ne_zero, Nat.reduceEqDiff, Nat.reduceLeDiff, l_J, l_let, l_bnd, l_bndx, l_bI, l_NN, bZ_0, bZ_0n, bZ_1n, l_RZb, l_RZ0n, l_RZ1n, ↓reduceIte, not_true, not_false_iff, and_true, true_and, and_false, false_and, pk_mul, nI_add, nI_leI, nI_ltI, nI_eq, ni_sub1, n_0, n_1, n_2, n_3, n_4, n_5, n_6, n_7, n_8, n_9, n_10, n_11, n_12, n_13, n_14, n_15, n_16, n_20, n_24, n_27, n_30, n_31, n_32, n_40, n_47, n_50, n_57, n_58, n_59, n_64, n_72, n_80, n_90, n_91, n_92, n_93, n_94, n_95, n_96, n_97, n_98, n_99, n_100, n_122, n_128, n_138, n_148, n_158, n_168, n_178, n_200, n_255, n_258, n_300, n_700, n_999, n_1058, n_2116, n_5000, n_8464, n_7406, t_bV, t_fr1, t_ai1, p_in, p_max, p_min, p_abs, p_cabinAt, p_slopeAt, p_voteAt, h6, h7, show ¬ (1058 ≤ 258 + k) by omega, p_isRed, hv1]
    repeat' split
    all_goals first | exact l_st (bZ_f (by omega)) rfl | exact l_st (bZ_t (by omega)) rfl
  · intro self
    unfold bX2_redVotes_6
    simp (disch := omega) only [Nat.one_ne_zero, Nat.reduceEqDiff, Nat.reduceLeDiff, l_J, l_let, l_bnd, l_bndx, l_bI, l_NN, bZ_0, bZ_0n, bZ_1n, l_RZb, l_RZ0n, l_RZ1n, ↓reduceIte, not_true, not_false_iff, and_true, true_and, and_false, false_and, pk_mul, nI_add, nI_leI, nI_ltI, nI_eq, ni_sub1, n_0, n_1, n_2, n_3, n_4, n_5, n_6, n_7, n_8, n_9, n_10, n_11, n_12, n_13, n_14, n_15, n_16, n_20, n_24, n_27, n_30, n_31, n_32, n_40, n_47, n_50, n_57, n_58, n_59, n_64, n_72, n_80, n_90, n_91, n_92, n_93, n_94, n_95, n_96, n_97, n_98, n_99, n_100, n_122, n_128, n_138, n_148, n_158, n_168, n_178, n_200, n_255, n_258, n_300, n_700, n_999, n_1058, n_2116, n_5000, n_8464, n_7406, t_bV, t_fr1, t_ai1, p_in, p_max, p_min, p_abs, p_cabinAt, p_slopeAt, p_voteAt, h6, h7, Nat.le_refl, show 1058 ≤ 258 + 800 by omega]
theorem t_votesOn {s : Nat} (H : ROK (T.2.2.1 1)) (hs : s < 8) (hN : 1000 < N) : sX2_votesOn G N (some b) (nI s) (hT b T h) = some (.inl (qVotesOn (T.2.2.1 1) s), hT b T h) := by
  classical
  have H' := H
  obtain ⟨h6, h7, h8, h9, l6, l7, l8, l9, hv⟩ := H
  unfold sX2_votesOn qVotesOn
  simp (disch := omega) only [Nat.one_ne_zero, Nat.reduceEqDiff, Nat.reduceLeDiff, l_J, l_let, l_bnd, l_bndx, l_bI, l_NN, bZ_0, bZ_0n, bZ_1n, l_RZb, l_RZ0n, l_RZ1n, ↓reduceIte, not_true, not_false_iff, and_true, true_and, and_false, false_and, pk_mul, nI_add, nI_leI, nI_ltI, nI_eq, ni_sub1, n_0, n_1, n_2, n_3, n_4, n_5, n_6, n_7, n_8, n_9, n_10, n_11, n_12, n_13, n_14, n_15, n_16, n_20, n_24, n_27, n_30, n_31, n_32, n_40, n_47, n_50, n_57, n_58, n_59, n_64, n_72, n_80, n_90, n_91, n_92, n_93, n_94, n_95, n_96, n_97, n_98, n_99, n_100, n_122, n_128, n_138, n_148, n_158, n_168, n_178, n_200, n_255, n_258, n_300, n_700, n_999, n_1058, n_2116, n_5000, n_8464, n_7406, t_bV, t_fr1, t_ai1, p_in, p_max, p_min, p_abs, p_cabinAt, p_slopeAt, p_voteAt]
  refine lp_q (100) (fun k => (sm k (fun k => bZ (0 < vo (T.2.2.1 1) (258 + s + 8 * k))), nI (258 + s + 8 * k))) (by omega) rfl ?_ ?_
  · intro k hk self
    obtain ⟨hv1, hv2⟩ := hv (258 + s + 8 * k) (by omega) (by omega)
    unfold bX2_votesOn_8
    simp (disch := omega) only [Nat.one_ne_zero, Nat.reduceEqDiff, Nat.reduceLeDiff, l_J, l_let, l_bnd, l_bndx, l_bI, l_NN, bZ_0, bZ_0n, bZ_1n, l_RZb, l_RZ0n, l_RZ1n, ↓reduceIte, not_true, not_false_iff, and_true, true_and, and_false, false_and, pk_mul, nI_add, nI_leI, nI_ltI, nI_eq, ni_sub1, n_0, n_1, n_2, n_3, n_4, n_5, n_6, n_7, n_8, n_9, n_10, n_11, n_12, n_13, n_14, n_15, n_16, n_20, n_24, n_27, n_30, n_31, n_32, n_40, n_47, n_50, n_57, n_58, n_59, n_64, n_72, n_80, n_90, n_91, n_92, n_93, n_94, n_95, n_96, n_97, n_98, n_99, n_100, n_122, n_128, n_138, n_148, n_158, n_168, n_178, n_200, n_255, n_258, n_300, n_700, n_999, n_1058, n_2116, n_5000, n_8464, n_7406, t_bV, t_fr1, t_ai1, p_in, p_max, p_min, p_abs, p_cabinAt, p_slopeAt, p_voteAt, h6, h7, show ¬ (1058 ≤ 258 + s + 8 * k) by omega, hv1]
    repeat' split
    all_goals first | exact l_st (bZ_f (by omega)) rfl | exact l_st (bZ_t (by omega)) rfl
  · intro self
    unfold bX2_votesOn_8
    simp (disch := omega) only [Nat.one_ne_zero, Nat.reduceEqDiff, Nat.reduceLeDiff, l_J, l_let, l_bnd, l_bndx, l_bI, l_NN, bZ_0, bZ_0n, bZ_1n, l_RZb, l_RZ0n, l_RZ1n, ↓reduceIte, not_true, not_false_iff, and_true, true_and, and_false, false_and, pk_mul, nI_add, nI_leI, nI_ltI, nI_eq, ni_sub1, n_0, n_1, n_2, n_3, n_4, n_5, n_6, n_7, n_8, n_9, n_10, n_11, n_12, n_13, n_14, n_15, n_16, n_20, n_24, n_27, n_30, n_31, n_32, n_40, n_47, n_50, n_57, n_58, n_59, n_64, n_72, n_80, n_90, n_91, n_92, n_93, n_94, n_95, n_96, n_97, n_98, n_99, n_100, n_122, n_128, n_138, n_148, n_158, n_168, n_178, n_200, n_255, n_258, n_300, n_700, n_999, n_1058, n_2116, n_5000, n_8464, n_7406, t_bV, t_fr1, t_ai1, p_in, p_max, p_min, p_abs, p_cabinAt, p_slopeAt, p_voteAt, h6, h7, Nat.le_refl, show 1058 ≤ 258 + s + 8 * 100 by omega]
theorem t_withoutFlares (H : ROK (T.2.2.1 1)) (hN : 1000 < N) : sX2_withoutFlares G N (some b) (hT b T h) = some (.inl (qWithout (T.2.2.1 1)), hT b T h) := by
  classical
  have H' := H
  obtain ⟨h6, h7, h8, h9, l6, l7, l8, l9, hv⟩ := H
  unfold sX2_withoutFlares qWithout
  skip
  refine lp_q (cN (T.2.2.1 1)) (fun k => (sm k (fun o => bZ ((T.2.2.1 1) (148 + o) = nI 0)), nI k)) (by omega) rfl ?_ ?_
  · intro k hk self
    unfold bX2_withoutFlares_4
    simp (disch := omega) only [Nat.one_ne_zero, Nat.reduceEqDiff, Nat.reduceLeDiff, l_J, l_let, l_bnd, l_bndx, l_bI, l_NN, bZ_0, bZ_0n, bZ_1n, l_RZb, l_RZ0n, l_RZ1n, ↓reduceIte, not_true, not_false_iff, and_true, true_and, and_false, false_and, pk_mul, nI_add, nI_leI, nI_ltI, nI_eq, ni_sub1, n_0, n_1, n_2, n_3, n_4, n_5, n_6, n_7, n_8, n_9, n_10, n_11, n_12, n_13, n_14, n_15, n_16, n_20, n_24, n_27, n_30, n_31, n_32, n_40, n_47, n_50, n_57, n_58, n_59, n_64, n_72, n_80, n_90, n_91, n_92, n_93, n_94, n_95, n_96, n_97, n_98, n_99, n_100, n_122, n_128, n_138, n_148, n_158, n_168, n_178, n_200, n_255, n_258, n_300, n_700, n_999, n_1058, n_2116, n_5000, n_8464, n_7406, t_bV, t_fr1, t_ai1, p_in, p_max, p_min, p_abs, p_cabinAt, p_slopeAt, p_voteAt, h6, h7, Nat.not_le.mpr hk]
    repeat' split
    all_goals first | exact l_st (bZ_f (by simp_all [← Int32.not_lt])) rfl | exact l_st (bZ_t (by simp_all [← Int32.not_lt])) rfl
  · intro self
    unfold bX2_withoutFlares_4
    simp (disch := omega) only [Nat.one_ne_zero, Nat.reduceEqDiff, Nat.reduceLeDiff, l_J, l_let, l_bnd, l_bndx, l_bI, l_NN, bZ_0, bZ_0n, bZ_1n, l_RZb, l_RZ0n, l_RZ1n, ↓reduceIte, not_true, not_false_iff, and_true, true_and, and_false, false_and, pk_mul, nI_add, nI_leI, nI_ltI, nI_eq, ni_sub1, n_0, n_1, n_2, n_3, n_4, n_5, n_6, n_7, n_8, n_9, n_10, n_11, n_12, n_13, n_14, n_15, n_16, n_20, n_24, n_27, n_30, n_31, n_32, n_40, n_47, n_50, n_57, n_58, n_59, n_64, n_72, n_80, n_90, n_91, n_92, n_93, n_94, n_95, n_96, n_97, n_98, n_99, n_100, n_122, n_128, n_138, n_148, n_158, n_168, n_178, n_200, n_255, n_258, n_300, n_700, n_999, n_1058, n_2116, n_5000, n_8464, n_7406, t_bV, t_fr1, t_ai1, p_in, p_max, p_min, p_abs, p_cabinAt, p_slopeAt, p_voteAt, h6, h7, Nat.le_refl]
theorem t_slopesSeen {o : Nat} (H : ROK (T.2.2.1 1)) (ho : o < 10) (hN : 1000 < N) : sX2_slopesSeen G N (some b) (nI o) (hT b T h) = some (.inl (qSlopesSeen (T.2.2.1 1) o), hT b T h) := by
  classical
  have H' := H
  obtain ⟨h6, h7, h8, h9, l6, l7, l8, l9, hv⟩ := H
  unfold sX2_slopesSeen qSlopesSeen
  skip
  refine lp_q (sN (T.2.2.1 1)) (fun k => (sm k (fun s => bZ (isSee (T.2.2.1 1) (10 + 3 * o) (40 + 3 * s))), nI k)) (by omega) rfl ?_ ?_
  · intro k hk self
    unfold bX2_slopesSeen_4
    simp (disch := omega) only [Nat.one_ne_zero, Nat.reduceEqDiff, Nat.reduceLeDiff, l_J, l_let, l_bnd, l_bndx, l_bI, l_NN, bZ_0, bZ_0n, bZ_1n, l_RZb, l_RZ0n, l_RZ1n, ↓reduceIte, not_true, not_false_iff, and_true, true_and, and_false, false_and, pk_mul, nI_add, nI_leI, nI_ltI, nI_eq, ni_sub1, n_0, n_1, n_2, n_3, n_4, n_5, n_6, n_7, n_8, n_9, n_10, n_11, n_12, n_13, n_14, n_15, n_16, n_20, n_24, n_27, n_30, n_31, n_32, n_40, n_47, n_50, n_57, n_58, n_59, n_64, n_72, n_80, n_90, n_91, n_92, n_93, n_94, n_95, n_96, n_97, n_98, n_99, n_100, n_122, n_128, n_138, n_148, n_158, n_168, n_178, n_200, n_255, n_258, n_300, n_700, n_999, n_1058, n_2116, n_5000, n_8464, n_7406, t_bV, t_fr1, t_ai1, p_in, p_max, p_min, p_abs, p_cabinAt, p_slopeAt, p_voteAt, h6, h7, Nat.not_le.mpr hk, t_see H' _ _ (show 20 < N by omega)]
    repeat' split
    all_goals first | exact l_st (bZ_f (by simp_all [← Int32.not_lt])) rfl | exact l_st (bZ_t (by simp_all [← Int32.not_lt])) rfl
  · intro self
    unfold bX2_slopesSeen_4
    simp (disch := omega) only [Nat.one_ne_zero, Nat.reduceEqDiff, Nat.reduceLeDiff, l_J, l_let, l_bnd, l_bndx, l_bI, l_NN, bZ_0, bZ_0n, bZ_1n, l_RZb, l_RZ0n, l_RZ1n, ↓reduceIte, not_true, not_false_iff, and_true, true_and, and_false, false_and, pk_mul, nI_add, nI_leI, nI_ltI, nI_eq, ni_sub1, n_0, n_1, n_2, n_3, n_4, n_5, n_6, n_7, n_8, n_9, n_10, n_11, n_12, n_13, n_14, n_15, n_16, n_20, n_24, n_27, n_30, n_31, n_32, n_40, n_47, n_50, n_57, n_58, n_59, n_64, n_72, n_80, n_90, n_91, n_92, n_93, n_94, n_95, n_96, n_97, n_98, n_99, n_100, n_122, n_128, n_138, n_148, n_158, n_168, n_178, n_200, n_255, n_258, n_300, n_700, n_999, n_1058, n_2116, n_5000, n_8464, n_7406, t_bV, t_fr1, t_ai1, p_in, p_max, p_min, p_abs, p_cabinAt, p_slopeAt, p_voteAt, h6, h7, Nat.le_refl]
theorem t_seers0 {s : Nat} (H : ROK (T.2.2.1 1)) (hs : s < 8) (hN : 1000 < N) : sX2_seers0 G N (some b) (nI s) (hT b T h) = some (.inl (qSeers0 (T.2.2.1 1) s), hT b T h) := by
  classical
  have H' := H
  obtain ⟨h6, h7, h8, h9, l6, l7, l8, l9, hv⟩ := H
  unfold sX2_seers0 qSeers0
  skip
  refine lp_q (cN (T.2.2.1 1)) (fun k => (sm k (fun o => bZ (isSee (T.2.2.1 1) (10 + 3 * o) (40 + 3 * s))), nI k)) (by omega) rfl ?_ ?_
  · intro k hk self
    unfold bX2_seers0_4
    simp (disch := omega) only [Nat.one_ne_zero, Nat.reduceEqDiff, Nat.reduceLeDiff, l_J, l_let, l_bnd, l_bndx, l_bI, l_NN, bZ_0, bZ_0n, bZ_1n, l_RZb, l_RZ0n, l_RZ1n, ↓reduceIte, not_true, not_false_iff, and_true, true_and, and_false, false_and, pk_mul, nI_add, nI_leI, nI_ltI, nI_eq, ni_sub1, n_0, n_1, n_2, n_3, n_4, n_5, n_6, n_7, n_8, n_9, n_10, n_11, n_12, n_13, n_14, n_15, n_16, n_20, n_24, n_27, n_30, n_31, n_32, n_40, n_47, n_50, n_57, n_58, n_59, n_64, n_72, n_80, n_90, n_91, n_92, n_93, n_94, n_95, n_96, n_97, n_98, n_99, n_100, n_122, n_128, n_138, n_148, n_158, n_168, n_178, n_200, n_255, n_258, n_300, n_700, n_999, n_1058, n_2116, n_5000, n_8464, n_7406, t_bV, t_fr1, t_ai1, p_in, p_max, p_min, p_abs, p_cabinAt, p_slopeAt, p_voteAt, h6, h7, Nat.not_le.mpr hk, t_see H' _ _ (show 20 < N by omega)]
    repeat' split
    all_goals first | exact l_st (bZ_f (by simp_all [← Int32.not_lt])) rfl | exact l_st (bZ_t (by simp_all [← Int32.not_lt])) rfl
  · intro self
    unfold bX2_seers0_4
    simp (disch := omega) only [Nat.one_ne_zero, Nat.reduceEqDiff, Nat.reduceLeDiff, l_J, l_let, l_bnd, l_bndx, l_bI, l_NN, bZ_0, bZ_0n, bZ_1n, l_RZb, l_RZ0n, l_RZ1n, ↓reduceIte, not_true, not_false_iff, and_true, true_and, and_false, false_and, pk_mul, nI_add, nI_leI, nI_ltI, nI_eq, ni_sub1, n_0, n_1, n_2, n_3, n_4, n_5, n_6, n_7, n_8, n_9, n_10, n_11, n_12, n_13, n_14, n_15, n_16, n_20, n_24, n_27, n_30, n_31, n_32, n_40, n_47, n_50, n_57, n_58, n_59, n_64, n_72, n_80, n_90, n_91, n_92, n_93, n_94, n_95, n_96, n_97, n_98, n_99, n_100, n_122, n_128, n_138, n_148, n_158, n_168, n_178, n_200, n_255, n_258, n_300, n_700, n_999, n_1058, n_2116, n_5000, n_8464, n_7406, t_bV, t_fr1, t_ai1, p_in, p_max, p_min, p_abs, p_cabinAt, p_slopeAt, p_voteAt, h6, h7, Nat.le_refl]
theorem t_allVotes (H : ROK (T.2.2.1 1)) (hN : 1000 < N) : sX2_allVotes G N (some b) (hT b T h) = some (.inl (qAllVotes (T.2.2.1 1)), hT b T h) := by
  classical
  have H' := H
  obtain ⟨h6, h7, h8, h9, l6, l7, l8, l9, hv⟩ := H
  unfold sX2_allVotes qAllVotes
  skip
  refine lp_q (10) (fun k => (sm k (qVotesBy (T.2.2.1 1)), nI k)) (by omega) rfl ?_ ?_
  · intro k hk self
    unfold bX2_allVotes_4
    simp (disch := omega) only [Nat.one_ne_zero, Nat.reduceEqDiff, Nat.reduceLeDiff, l_J, l_let, l_bnd, l_bndx, l_bI, l_NN, bZ_0, bZ_0n, bZ_1n, l_RZb, l_RZ0n, l_RZ1n, ↓reduceIte, not_true, not_false_iff, and_true, true_and, and_false, false_and, pk_mul, nI_add, nI_leI, nI_ltI, nI_eq, ni_sub1, n_0, n_1, n_2, n_3, n_4, n_5, n_6, n_7, n_8, n_9, n_10, n_11, n_12, n_13, n_14, n_15, n_16, n_20, n_24, n_27, n_30, n_31, n_32, n_40, n_47, n_50, n_57, n_58, n_59, n_64, n_72, n_80, n_90, n_91, n_92, n_93, n_94, n_95, n_96, n_97, n_98, n_99, n_100, n_122, n_128, n_138, n_148, n_158, n_168, n_178, n_200, n_255, n_258, n_300, n_700, n_999, n_1058, n_2116, n_5000, n_8464, n_7406, t_bV, t_fr1, t_ai1, p_in, p_max, p_min, p_abs, p_cabinAt, p_slopeAt, p_voteAt, h6, h7, Nat.not_le.mpr hk, t_votesBy H' hk hN]
    exact l_st rfl rfl
  · intro self
    unfold bX2_allVotes_4
    simp (disch := omega) only [Nat.one_ne_zero, Nat.reduceEqDiff, Nat.reduceLeDiff, l_J, l_let, l_bnd, l_bndx, l_bI, l_NN, bZ_0, bZ_0n, bZ_1n, l_RZb, l_RZ0n, l_RZ1n, ↓reduceIte, not_true, not_false_iff, and_true, true_and, and_false, false_and, pk_mul, nI_add, nI_leI, nI_ltI, nI_eq, ni_sub1, n_0, n_1, n_2, n_3, n_4, n_5, n_6, n_7, n_8, n_9, n_10, n_11, n_12, n_13, n_14, n_15, n_16, n_20, n_24, n_27, n_30, n_31, n_32, n_40, n_47, n_50, n_57, n_58, n_59, n_64, n_72, n_80, n_90, n_91, n_92, n_93, n_94, n_95, n_96, n_97, n_98, n_99, n_100, n_122, n_128, n_138, n_148, n_158, n_168, n_178, n_200, n_255, n_258, n_300, n_700, n_999, n_1058, n_2116, n_5000, n_8464, n_7406, t_bV, t_fr1, t_ai1, p_in, p_max, p_min, p_abs, p_cabinAt, p_slopeAt, p_voteAt, h6, h7, Nat.le_refl]
theorem t_spread {set : Int32} (H : ROK (T.2.2.1 1)) (hN : 1000 < N) : sX2_spread G N (some b) set (hT b T h) = some (.inl (qSpread (T.2.2.1 1) set), hT b T h) := by
  classical
  have H' := H
  obtain ⟨h6, h7, h8, h9, l6, l7, l8, l9, hv⟩ := H
  unfold sX2_spread qSpread
  skip
  refine lp_q (cN (T.2.2.1 1)) (fun k => (og set k (fun k => pz (hasB set (nI k)) (qSeen (T.2.2.1 1) k)), nI k)) (by omega) rfl ?_ ?_
  · intro k hk self
    unfold bX2_spread_4
    simp (disch := omega) only [Nat.one_ne_zero, Nat.reduceEqDiff, Nat.reduceLeDiff, l_J, l_let, l_bnd, l_bndx, l_bI, l_NN, bZ_0, bZ_0n, bZ_1n, l_RZb, l_RZ0n, l_RZ1n, ↓reduceIte, not_true, not_false_iff, and_true, true_and, and_false, false_and, pk_mul, nI_add, nI_leI, nI_ltI, nI_eq, ni_sub1, n_0, n_1, n_2, n_3, n_4, n_5, n_6, n_7, n_8, n_9, n_10, n_11, n_12, n_13, n_14, n_15, n_16, n_20, n_24, n_27, n_30, n_31, n_32, n_40, n_47, n_50, n_57, n_58, n_59, n_64, n_72, n_80, n_90, n_91, n_92, n_93, n_94, n_95, n_96, n_97, n_98, n_99, n_100, n_122, n_128, n_138, n_148, n_158, n_168, n_178, n_200, n_255, n_258, n_300, n_700, n_999, n_1058, n_2116, n_5000, n_8464, n_7406, t_bV, t_fr1, t_ai1, p_in, p_max, p_min, p_abs, p_cabinAt, p_slopeAt, p_voteAt, h6, h7, Nat.not_le.mpr hk, p_has, t_seen H' (show k < 100 by omega) (show 20 < N by omega)]
    repeat' split
    all_goals first | exact l_gt (pz_f (by simp_all)) rfl | exact l_gt (pz_t (by simp_all)) rfl
  · intro self
    unfold bX2_spread_4
    simp (disch := omega) only [Nat.one_ne_zero, Nat.reduceEqDiff, Nat.reduceLeDiff, l_J, l_let, l_bnd, l_bndx, l_bI, l_NN, bZ_0, bZ_0n, bZ_1n, l_RZb, l_RZ0n, l_RZ1n, ↓reduceIte, not_true, not_false_iff, and_true, true_and, and_false, false_and, pk_mul, nI_add, nI_leI, nI_ltI, nI_eq, ni_sub1, n_0, n_1, n_2, n_3, n_4, n_5, n_6, n_7, n_8, n_9, n_10, n_11, n_12, n_13, n_14, n_15, n_16, n_20, n_24, n_27, n_30, n_31, n_32, n_40, n_47, n_50, n_57, n_58, n_59, n_64, n_72, n_80, n_90, n_91, n_92, n_93, n_94, n_95, n_96, n_97, n_98, n_99, n_100, n_122, n_128, n_138, n_148, n_158, n_168, n_178, n_200, n_255, n_258, n_300, n_700, n_999, n_1058, n_2116, n_5000, n_8464, n_7406, t_bV, t_fr1, t_ai1, p_in, p_max, p_min, p_abs, p_cabinAt, p_slopeAt, p_voteAt, h6, h7, Nat.le_refl]
theorem t_hasVote {o s : Nat} {p : Prop} {rd : Int32} (H : ROK (T.2.2.1 1)) (ho : o < 10) (hs : s < 8) (hr : rd = bZ p) (hN : 20 < N) : sX2_hasVote G N (some b) (nI o) (nI s) rd (hT b T h) = some (.inl (bZ (hasV (T.2.2.1 1) (cN (T.2.2.1 1)) o s p)), hT b T h) := by
  classical
  have H' := H
  subst hr
  obtain ⟨h6, h7, h8, h9, l6, l7, l8, l9, hv⟩ := H
  unfold sX2_hasVote
  refine lp_q (cN (T.2.2.1 1)) (fun k => (bZ (hasV (T.2.2.1 1) k o s p), nI k)) (by omega) (Prod.ext (bZ_f (fun ⟨c, hc, _⟩ => by omega)) rfl) ?_ ?_
  · intro k hk self
    obtain ⟨hv1, hv2⟩ := hv (258 + 80 * o + 8 * k + s) (by omega) (by omega)
    unfold bX2_hasVote_6
    simp (disch := omega) only [Nat.one_ne_zero, Nat.reduceEqDiff, Nat.reduceLeDiff, l_J, l_let, l_bnd, l_bndx, l_bI, l_NN, bZ_0, bZ_0n, bZ_1n, l_RZb, l_RZ0n, l_RZ1n, ↓reduceIte, not_true, not_false_iff, and_true, true_and, and_false, false_and, pk_mul, nI_add, nI_leI, nI_ltI, nI_eq, ni_sub1, n_0, n_1, n_2, n_3, n_4, n_5, n_6, n_7, n_8, n_9, n_10, n_11, n_12, n_13, n_14, n_15, n_16, n_20, n_24, n_27, n_30, n_31, n_32, n_40, n_47, n_50, n_57, n_58, n_59, n_64, n_72, n_80, n_90, n_91, n_92, n_93, n_94, n_95, n_96, n_97, n_98, n_99, n_100, n_122, n_128, n_138, n_148, n_158, n_168, n_178, n_200, n_255, n_258, n_300, n_700, n_999, n_1058, n_2116, n_5000, n_8464, n_7406, t_bV, t_fr1, t_ai1, p_in, p_max, p_min, p_abs, p_cabinAt, p_slopeAt, p_voteAt, h6, Nat.not_le.mpr hk, t_voteOf ho _ hs, hv1, p_isRed, bZ_e]
    have e : ∀ v : Int32, v = bZ (isVote (T.2.2.1 1) (258 + 80 * o + 8 * k + s) p) → self (bZ (hasV (T.2.2.1 1) k o s p) ||| v, nI (k + 1)) (hT b T h) = self (bZ (hasV (T.2.2.1 1) (k + 1) o s p), nI (k + 1)) (hT b T h) := by
      intro v hv
      rw [hv, bZ_or, bZ_c hasV_succ]
    repeat' split
    all_goals first | exact e _ (bZ_f (by simp_all [isVote])).symm | exact e _ (bZ_t (by simp_all [isVote]; try omega)).symm
  · intro self
    unfold bX2_hasVote_6
    simp (disch := omega) only [Nat.one_ne_zero, Nat.reduceEqDiff, Nat.reduceLeDiff, l_J, l_let, l_bnd, l_bndx, l_bI, l_NN, bZ_0, bZ_0n, bZ_1n, l_RZb, l_RZ0n, l_RZ1n, ↓reduceIte, not_true, not_false_iff, and_true, true_and, and_false, false_and, pk_mul, nI_add, nI_leI, nI_ltI, nI_eq, ni_sub1, n_0, n_1, n_2, n_3, n_4, n_5, n_6, n_7, n_8, n_9, n_10, n_11, n_12, n_13, n_14, n_15, n_16, n_20, n_24, n_27, n_30, n_31, n_32, n_40, n_47, n_50, n_57, n_58, n_59, n_64, n_72, n_80, n_90, n_91, n_92, n_93, n_94, n_95, n_96, n_97, n_98, n_99, n_100, n_122, n_128, n_138, n_148, n_158, n_168, n_178, n_200, n_255, n_258, n_300, n_700, n_999, n_1058, n_2116, n_5000, n_8464, n_7406, t_bV, t_fr1, t_ai1, p_in, p_max, p_min, p_abs, p_cabinAt, p_slopeAt, p_voteAt, h6, Nat.le_refl]
theorem t_slopesKnown {o : Nat} (H : ROK (T.2.2.1 1)) (ho : o < 10) (hN : 1000 < N) : sX2_slopesKnown G N (some b) (nI o) (hT b T h) = some (.inl (qKnown (T.2.2.1 1) o), hT b T h) := by
  classical
  have H' := H
  obtain ⟨h6, h7, h8, h9, l6, l7, l8, l9, hv⟩ := H
  unfold sX2_slopesKnown qKnown
  skip
  refine lp_q (sN (T.2.2.1 1)) (fun k => (sm k (fun s => bZ (hasV (T.2.2.1 1) (cN (T.2.2.1 1)) o s True ∨ hasV (T.2.2.1 1) (cN (T.2.2.1 1)) o s False)), nI k)) (by omega) rfl ?_ ?_
  · intro k hk self
    unfold bX2_slopesKnown_4
    simp (disch := omega) only [Nat.one_ne_zero, Nat.reduceEqDiff, Nat.reduceLeDiff, l_J, l_let, l_bnd, l_bndx, l_bI, l_NN, bZ_0, bZ_0n, bZ_1n, l_RZb, l_RZ0n, l_RZ1n, ↓reduceIte, not_true, not_false_iff, and_true, true_and, and_false, false_and, pk_mul, nI_add, nI_leI, nI_ltI, nI_eq, ni_sub1, n_0, n_1, n_2, n_3, n_4, n_5, n_6, n_7, n_8, n_9, n_10, n_11, n_12, n_13, n_14, n_15, n_16, n_20, n_24, n_27, n_30, n_31, n_32, n_40, n_47, n_50, n_57, n_58, n_59, n_64, n_72, n_80, n_90, n_91, n_92, n_93, n_94, n_95, n_96, n_97, n_98, n_99, n_100, n_122, n_128, n_138, n_148, n_158, n_168, n_178, n_200, n_255, n_258, n_300, n_700, n_999, n_1058, n_2116, n_5000, n_8464, n_7406, t_bV, t_fr1, t_ai1, p_in, p_max, p_min, p_abs, p_cabinAt, p_slopeAt, p_voteAt, h6, h7, Nat.not_le.mpr hk, t_hasVote H' ho (show k < 8 by omega) bZ_T (show 20 < N by omega), t_hasVote H' ho (show k < 8 by omega) bZ_F (show 20 < N by omega)]
    repeat' split
    all_goals first | exact l_st (bZ_f (by simp_all [← Int32.not_lt])) rfl | exact l_st (bZ_t (by simp_all [← Int32.not_lt])) rfl
  · intro self
    unfold bX2_slopesKnown_4
    simp (disch := omega) only [Nat.one_ne_zero, Nat.reduceEqDiff, Nat.reduceLeDiff, l_J, l_let, l_bnd, l_bndx, l_bI, l_NN, bZ_0, bZ_0n, bZ_1n, l_RZb, l_RZ0n, l_RZ1n, ↓reduceIte, not_true, not_false_iff, and_true, true_and, and_false, false_and, pk_mul, nI_add, nI_leI, nI_ltI, nI_eq, ni_sub1, n_0, n_1, n_2, n_3, n_4, n_5, n_6, n_7, n_8, n_9, n_10, n_11, n_12, n_13, n_14, n_15, n_16, n_20, n_24, n_27, n_30, n_31, n_32, n_40, n_47, n_50, n_57, n_58, n_59, n_64, n_72, n_80, n_90, n_91, n_92, n_93, n_94, n_95, n_96, n_97, n_98, n_99, n_100, n_122, n_128, n_138, n_148, n_158, n_168, n_178, n_200, n_255, n_258, n_300, n_700, n_999, n_1058, n_2116, n_5000, n_8464, n_7406, t_bV, t_fr1, t_ai1, p_in, p_max, p_min, p_abs, p_cabinAt, p_slopeAt, p_voteAt, h6, h7, Nat.le_refl]
theorem t_allWeights {s : Nat} {p : Prop} {rd : Int32} (H : ROK (T.2.2.1 1)) (hs : s < 8) (hr : rd = bZ p) (hN : 20 < N) : sX2_allWeights G N (some b) (nI s) rd (hT b T h) = some (.inl (qAllWeights (T.2.2.1 1) s p), hT b T h) := by
  classical
  have H' := H
  obtain ⟨h6, h7, h8, h9, l6, l7, l8, l9, hv⟩ := H
  unfold sX2_allWeights qAllWeights
  refine lp_q (cN (T.2.2.1 1)) (fun k => (sm k (fun o => qSum (T.2.2.1 1) o s p), nI k)) (by omega) rfl ?_ ?_
  · intro k hk self
    unfold bX2_allWeights_5
    simp (disch := omega) only [Nat.one_ne_zero, Nat.reduceEqDiff, Nat.reduceLeDiff, l_J, l_let, l_bnd, l_bndx, l_bI, l_NN, bZ_0, bZ_0n, bZ_1n, l_RZb, l_RZ0n, l_RZ1n, ↓reduceIte, not_true, not_false_iff, and_true, true_and, and_false, false_and, pk_mul, nI_add, nI_leI, nI_ltI, nI_eq, ni_sub1, n_0, n_1, n_2, n_3, n_4, n_5, n_6, n_7, n_8, n_9, n_10, n_11, n_12, n_13, n_14, n_15, n_16, n_20, n_24, n_27, n_30, n_31, n_32, n_40, n_47, n_50, n_57, n_58, n_59, n_64, n_72, n_80, n_90, n_91, n_92, n_93, n_94, n_95, n_96, n_97, n_98, n_99, n_100, n_122, n_128, n_138, n_148, n_158, n_168, n_178, n_200, n_255, n_258, n_300, n_700, n_999, n_1058, n_2116, n_5000, n_8464, n_7406, t_bV, t_fr1, t_ai1, p_in, p_max, p_min, p_abs, p_cabinAt, p_slopeAt, p_voteAt, h6, Nat.not_le.mpr hk, t_sum H' (show k < 10 by omega) hs hr hN]
    exact l_st rfl rfl
  · intro self
    unfold bX2_allWeights_5
    simp (disch := omega) only [Nat.one_ne_zero, Nat.reduceEqDiff, Nat.reduceLeDiff, l_J, l_let, l_bnd, l_bndx, l_bI, l_NN, bZ_0, bZ_0n, bZ_1n, l_RZb, l_RZ0n, l_RZ1n, ↓reduceIte, not_true, not_false_iff, and_true, true_and, and_false, false_and, pk_mul, nI_add, nI_leI, nI_ltI, nI_eq, ni_sub1, n_0, n_1, n_2, n_3, n_4, n_5, n_6, n_7, n_8, n_9, n_10, n_11, n_12, n_13, n_14, n_15, n_16, n_20, n_24, n_27, n_30, n_31, n_32, n_40, n_47, n_50, n_57, n_58, n_59, n_64, n_72, n_80, n_90, n_91, n_92, n_93, n_94, n_95, n_96, n_97, n_98, n_99, n_100, n_122, n_128, n_138, n_148, n_158, n_168, n_178, n_200, n_255, n_258, n_300, n_700, n_999, n_1058, n_2116, n_5000, n_8464, n_7406, t_bV, t_fr1, t_ai1, p_in, p_max, p_min, p_abs, p_cabinAt, p_slopeAt, p_voteAt, h6, Nat.le_refl]
theorem t_votesOf {c : Nat} (H : ROK (T.2.2.1 1)) (hc : c < 10) (hN : 20 < N) : sX2_votesOf G N (some b) (nI c) (hT b T h) = some (.inl (qVotesOf (T.2.2.1 1) c), hT b T h) := by
  classical
  have H' := H
  obtain ⟨h6, h7, h8, h9, l6, l7, l8, l9, hv⟩ := H
  unfold sX2_votesOf qVotesOf
  refine lp_q 10 (fun o => (sm o (fun o => sm 8 (fun s => bZ (0 < vo (T.2.2.1 1) (258 + 80 * o + 8 * c + s)))), nI o)) (by omega) rfl ?_ ?_
  · intro o ho self
    unfold bX2_votesOf_4
    simp (disch := omega) only [Nat.one_ne_zero, Nat.reduceEqDiff, Nat.reduceLeDiff, l_J, l_let, l_bnd, l_bndx, l_bI, l_NN, bZ_0, bZ_0n, bZ_1n, l_RZb, l_RZ0n, l_RZ1n, ↓reduceIte, not_true, not_false_iff, and_true, true_and, and_false, false_and, pk_mul, nI_add, nI_leI, nI_ltI, nI_eq, ni_sub1, n_0, n_1, n_2, n_3, n_4, n_5, n_6, n_7, n_8, n_9, n_10, n_11, n_12, n_13, n_14, n_15, n_16, n_20, n_24, n_27, n_30, n_31, n_32, n_40, n_47, n_50, n_57, n_58, n_59, n_64, n_72, n_80, n_90, n_91, n_92, n_93, n_94, n_95, n_96, n_97, n_98, n_99, n_100, n_122, n_128, n_138, n_148, n_158, n_168, n_178, n_200, n_255, n_258, n_300, n_700, n_999, n_1058, n_2116, n_5000, n_8464, n_7406, t_bV, t_fr1, t_ai1, p_in, p_max, p_min, p_abs, p_cabinAt, p_slopeAt, p_voteAt, Nat.not_le.mpr ho]
    refine lp_q 8 (fun k => (sm o (fun o => sm 8 (fun s => bZ (0 < vo (T.2.2.1 1) (258 + 80 * o + 8 * c + s)))) + sm k (fun s => bZ (0 < vo (T.2.2.1 1) (258 + 80 * o + 8 * c + s))), nI k)) (by omega) (Prod.ext (Int32.add_zero _) rfl) ?_ ?_
    · intro k hk self
      obtain ⟨hv1, hv2⟩ := hv (258 + 80 * o + 8 * c + k) (by omega) (by omega)
      unfold bX2_votesOf_13
      simp (disch := omega) only [Nat.one_ne_zero, Nat.reduceEqDiff, Nat.reduceLeDiff, l_J, l_let, l_bnd, l_bndx, l_bI, l_NN, bZ_0, bZ_0n, bZ_1n, l_RZb, l_RZ0n, l_RZ1n, ↓reduceIte, not_true, not_false_iff, and_true, true_and, and_false, false_and, pk_mul, nI_add, nI_leI, nI_ltI, nI_eq, ni_sub1, n_0, n_1, n_2, n_3, n_4, n_5, n_6, n_7, n_8, n_9, n_10, n_11, n_12, n_13, n_14, n_15, n_16, n_20, n_24, n_27, n_30, n_31, n_32, n_40, n_47, n_50, n_57, n_58, n_59, n_64, n_72, n_80, n_90, n_91, n_92, n_93, n_94, n_95, n_96, n_97, n_98, n_99, n_100, n_122, n_128, n_138, n_148, n_158, n_168, n_178, n_200, n_255, n_258, n_300, n_700, n_999, n_1058, n_2116, n_5000, n_8464, n_7406, t_bV, t_fr1, t_ai1, p_in, p_max, p_min, p_abs, p_cabinAt, p_slopeAt, p_voteAt, Nat.not_le.mpr hk, t_voteOf ho hc hk, hv1]
      repeat' split
      all_goals first | exact l_st2 (bZ_f (by omega)) rfl | exact l_st2 (bZ_t (by omega)) rfl
    · intro self
      unfold bX2_votesOf_13
      simp (disch := omega) only [Nat.one_ne_zero, Nat.reduceEqDiff, Nat.reduceLeDiff, l_J, l_let, l_bnd, l_bndx, l_bI, l_NN, bZ_0, bZ_0n, bZ_1n, l_RZb, l_RZ0n, l_RZ1n, ↓reduceIte, not_true, not_false_iff, and_true, true_and, and_false, false_and, pk_mul, nI_add, nI_leI, nI_ltI, nI_eq, ni_sub1, n_0, n_1, n_2, n_3, n_4, n_5, n_6, n_7, n_8, n_9, n_10, n_11, n_12, n_13, n_14, n_15, n_16, n_20, n_24, n_27, n_30, n_31, n_32, n_40, n_47, n_50, n_57, n_58, n_59, n_64, n_72, n_80, n_90, n_91, n_92, n_93, n_94, n_95, n_96, n_97, n_98, n_99, n_100, n_122, n_128, n_138, n_148, n_158, n_168, n_178, n_200, n_255, n_258, n_300, n_700, n_999, n_1058, n_2116, n_5000, n_8464, n_7406, t_bV, t_fr1, t_ai1, p_in, p_max, p_min, p_abs, p_cabinAt, p_slopeAt, p_voteAt, Nat.le_refl]
      rfl
  · intro self
    unfold bX2_votesOf_4
    simp (disch := omega) only [Nat.one_ne_zero, Nat.reduceEqDiff, Nat.reduceLeDiff, l_J, l_let, l_bnd, l_bndx, l_bI, l_NN, bZ_0, bZ_0n, bZ_1n, l_RZb, l_RZ0n, l_RZ1n, ↓reduceIte, not_true, not_false_iff, and_true, true_and, and_false, false_and, pk_mul, nI_add, nI_leI, nI_ltI, nI_eq, ni_sub1, n_0, n_1, n_2, n_3, n_4, n_5, n_6, n_7, n_8, n_9, n_10, n_11, n_12, n_13, n_14, n_15, n_16, n_20, n_24, n_27, n_30, n_31, n_32, n_40, n_47, n_50, n_57, n_58, n_59, n_64, n_72, n_80, n_90, n_91, n_92, n_93, n_94, n_95, n_96, n_97, n_98, n_99, n_100, n_122, n_128, n_138, n_148, n_158, n_168, n_178, n_200, n_255, n_258, n_300, n_700, n_999, n_1058, n_2116, n_5000, n_8464, n_7406, t_bV, t_fr1, t_ai1, p_in, p_max, p_min, p_abs, p_cabinAt, p_slopeAt, p_voteAt, Nat.le_refl]
theorem t_pairs (H : ROK (T.2.2.1 1)) (hN : 20 < N) : sX2_pairs G N (some b) (hT b T h) = some (.inl (qPairs (T.2.2.1 1)), hT b T h) := by
  classical
  have H' := H
  obtain ⟨h6, h7, h8, h9, l6, l7, l8, l9, hv⟩ := H
  unfold sX2_pairs qPairs
  refine lp_q (cN (T.2.2.1 1)) (fun o => (sm o (fun a => sm a (fun b => bZ (seeOne (T.2.2.1 1) a b))), nI o)) (by omega) rfl ?_ ?_
  · intro o ho self
    unfold bX2_pairs_4
    simp (disch := omega) only [Nat.one_ne_zero, Nat.reduceEqDiff, Nat.reduceLeDiff, l_J, l_let, l_bnd, l_bndx, l_bI, l_NN, bZ_0, bZ_0n, bZ_1n, l_RZb, l_RZ0n, l_RZ1n, ↓reduceIte, not_true, not_false_iff, and_true, true_and, and_false, false_and, pk_mul, nI_add, nI_leI, nI_ltI, nI_eq, ni_sub1, n_0, n_1, n_2, n_3, n_4, n_5, n_6, n_7, n_8, n_9, n_10, n_11, n_12, n_13, n_14, n_15, n_16, n_20, n_24, n_27, n_30, n_31, n_32, n_40, n_47, n_50, n_57, n_58, n_59, n_64, n_72, n_80, n_90, n_91, n_92, n_93, n_94, n_95, n_96, n_97, n_98, n_99, n_100, n_122, n_128, n_138, n_148, n_158, n_168, n_178, n_200, n_255, n_258, n_300, n_700, n_999, n_1058, n_2116, n_5000, n_8464, n_7406, t_bV, t_fr1, t_ai1, p_in, p_max, p_min, p_abs, p_cabinAt, p_slopeAt, p_voteAt, h6, Nat.not_le.mpr ho]
    refine lp_q o (fun k => (sm o (fun a => sm a (fun b => bZ (seeOne (T.2.2.1 1) a b))) + sm k (fun b => bZ (seeOne (T.2.2.1 1) o b)), nI k)) (by omega) (Prod.ext (Int32.add_zero _) rfl) ?_ ?_
    · intro k hk self
      unfold bX2_pairs_17
      simp (disch := omega) only [Nat.one_ne_zero, Nat.reduceEqDiff, Nat.reduceLeDiff, l_J, l_let, l_bnd, l_bndx, l_bI, l_NN, bZ_0, bZ_0n, bZ_1n, l_RZb, l_RZ0n, l_RZ1n, ↓reduceIte, not_true, not_false_iff, and_true, true_and, and_false, false_and, pk_mul, nI_add, nI_leI, nI_ltI, nI_eq, ni_sub1, n_0, n_1, n_2, n_3, n_4, n_5, n_6, n_7, n_8, n_9, n_10, n_11, n_12, n_13, n_14, n_15, n_16, n_20, n_24, n_27, n_30, n_31, n_32, n_40, n_47, n_50, n_57, n_58, n_59, n_64, n_72, n_80, n_90, n_91, n_92, n_93, n_94, n_95, n_96, n_97, n_98, n_99, n_100, n_122, n_128, n_138, n_148, n_158, n_168, n_178, n_200, n_255, n_258, n_300, n_700, n_999, n_1058, n_2116, n_5000, n_8464, n_7406, t_bV, t_fr1, t_ai1, p_in, p_max, p_min, p_abs, p_cabinAt, p_slopeAt, p_voteAt, Nat.not_le.mpr hk, t_seeOne H' _ _ hN]
      repeat' split
      all_goals first | exact l_st2 (bZ_f (by simp_all)) rfl | exact l_st2 (bZ_t (by simp_all)) rfl
    · intro self
      unfold bX2_pairs_17
      simp (disch := omega) only [Nat.one_ne_zero, Nat.reduceEqDiff, Nat.reduceLeDiff, l_J, l_let, l_bnd, l_bndx, l_bI, l_NN, bZ_0, bZ_0n, bZ_1n, l_RZb, l_RZ0n, l_RZ1n, ↓reduceIte, not_true, not_false_iff, and_true, true_and, and_false, false_and, pk_mul, nI_add, nI_leI, nI_ltI, nI_eq, ni_sub1, n_0, n_1, n_2, n_3, n_4, n_5, n_6, n_7, n_8, n_9, n_10, n_11, n_12, n_13, n_14, n_15, n_16, n_20, n_24, n_27, n_30, n_31, n_32, n_40, n_47, n_50, n_57, n_58, n_59, n_64, n_72, n_80, n_90, n_91, n_92, n_93, n_94, n_95, n_96, n_97, n_98, n_99, n_100, n_122, n_128, n_138, n_148, n_158, n_168, n_178, n_200, n_255, n_258, n_300, n_700, n_999, n_1058, n_2116, n_5000, n_8464, n_7406, t_bV, t_fr1, t_ai1, p_in, p_max, p_min, p_abs, p_cabinAt, p_slopeAt, p_voteAt, Nat.le_refl]
      rfl
  · intro self
    unfold bX2_pairs_4
    simp (disch := omega) only [Nat.one_ne_zero, Nat.reduceEqDiff, Nat.reduceLeDiff, l_J, l_let, l_bnd, l_bndx, l_bI, l_NN, bZ_0, bZ_0n, bZ_1n, l_RZb, l_RZ0n, l_RZ1n, ↓reduceIte, not_true, not_false_iff, and_true, true_and, and_false, false_and, pk_mul, nI_add, nI_leI, nI_ltI, nI_eq, ni_sub1, n_0, n_1, n_2, n_3, n_4, n_5, n_6, n_7, n_8, n_9, n_10, n_11, n_12, n_13, n_14, n_15, n_16, n_20, n_24, n_27, n_30, n_31, n_32, n_40, n_47, n_50, n_57, n_58, n_59, n_64, n_72, n_80, n_90, n_91, n_92, n_93, n_94, n_95, n_96, n_97, n_98, n_99, n_100, n_122, n_128, n_138, n_148, n_158, n_168, n_178, n_200, n_255, n_258, n_300, n_700, n_999, n_1058, n_2116, n_5000, n_8464, n_7406, t_bV, t_fr1, t_ai1, p_in, p_max, p_min, p_abs, p_cabinAt, p_slopeAt, p_voteAt, h6, Nat.le_refl]
theorem t_tellsClosed {o s : Nat} (H : ROK (T.2.2.1 1)) (ho : o < 10) (hs : s < 8) (hN : 1000 < N) : sX2_tellsClosed G N (some b) (nI o) (nI s) (hT b T h) = some (.inl (bZ (tells (T.2.2.1 1) o s)), hT b T h) := by
  classical
  unfold sX2_tellsClosed
  simp (disch := omega) only [Nat.one_ne_zero, Nat.reduceEqDiff, Nat.reduceLeDiff, l_J, l_let, l_bnd, l_bndx, l_bI, l_NN, bZ_0, bZ_0n, bZ_1n, l_RZb, l_RZ0n, l_RZ1n, ↓reduceIte, not_true, not_false_iff, and_true, true_and, and_false, false_and, pk_mul, nI_add, nI_leI, nI_ltI, nI_eq, ni_sub1, n_0, n_1, n_2, n_3, n_4, n_5, n_6, n_7, n_8, n_9, n_10, n_11, n_12, n_13, n_14, n_15, n_16, n_20, n_24, n_27, n_30, n_31, n_32, n_40, n_47, n_50, n_57, n_58, n_59, n_64, n_72, n_80, n_90, n_91, n_92, n_93, n_94, n_95, n_96, n_97, n_98, n_99, n_100, n_122, n_128, n_138, n_148, n_158, n_168, n_178, n_200, n_255, n_258, n_300, n_700, n_999, n_1058, n_2116, n_5000, n_8464, n_7406, t_bV, t_fr1, t_ai1, p_in, p_max, p_min, p_abs, p_cabinAt, p_slopeAt, p_voteAt, t_seen H (show o < 100 by omega) (show 20 < N by omega), t_holds ho, t_closersOf H hN, p_bits (show 20 < N by omega)]
  unfold tells
  by_cases h1 : hasB (T.2.2.1 1 (138 + o)) (nI s)
  · simp only [h1, not_true, ↓reduceIte]
    rw [bZ_t (Or.inl trivial)]; rfl
  · simp only [h1, not_false_iff, ↓reduceIte, false_or]
    by_cases h2 : nI 2 * qBits 10 (qSeen (T.2.2.1 1) o &&& qClosers (T.2.2.1 1) s) ≤ qBits 10 (qSeen (T.2.2.1 1) o)
    · simp only [h2, ↓reduceIte]
      rw [bZ_f (fun q => Int32.not_lt.mpr h2 q)]; rfl
    · simp only [h2, ↓reduceIte]
      rw [bZ_t (Int32.not_le.mp h2)]; rfl
end T3
