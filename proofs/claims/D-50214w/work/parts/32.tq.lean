/-! the twin's queries -/
set_option maxRecDepth 100000
set_option maxHeartbeats 1000000
section P1
variable {G : GG} {N : Nat} {h : Hp}
theorem p_in {a b c : Int32} : sX2_in G N a b c h = some (.inl (bZ (b ≤ a ∧ a ≤ c)), h) := by
  classical
  unfold sX2_in
  simp only [l_J, l_RZ0, l_RZ1]
  split
  · rw [bZ_f (fun q => by have := Int32.not_lt.mpr q.1; contradiction)]
  · split
    · rw [bZ_f (fun q => by have := Int32.not_lt.mpr q.2; contradiction)]
    · rename_i h1 h2
      rw [bZ_t ⟨Int32.not_lt.mp h1, Int32.not_lt.mp h2⟩]
def imax (a b : Int32) : Int32 := if a < b then b else a
def imin (a b : Int32) : Int32 := if b < a then b else a
def iabs (a : Int32) : Int32 := if 0 ≤ a then a else -a
theorem p_max {a b : Int32} : sJ14_max G N a b h = some (.inl (imax a b), h) := by
  unfold sJ14_max imax; split <;> rfl
theorem p_min {a b : Int32} : sJ14_min G N a b h = some (.inl (imin a b), h) := by
  unfold sJ14_min imin; split <;> rfl
theorem p_abs {a : Int32} : sJ14_abs G N a h = some (.inl (iabs a), h) := by
  unfold sJ14_abs iabs; split <;> rfl
theorem p_cabinAt {a : Int32} : sX2_cabinAt G N a h = some (.inl (10 + 3 * a), h) := rfl
theorem p_slopeAt {a : Int32} : sX2_slopeAt G N a h = some (.inl (40 + 3 * a), h) := rfl
theorem p_voteAt {a b c : Int32} : sX2_voteAt G N a b c h = some (.inl (258 + 80 * a + 8 * b + c), h) := rfl
end P1
/-! what a row says -/
abbrev Row : Type := Nat → Int32
/-- how many cabins, slopes, ridges, fogs; a vote's number -/
def cN (R : Row) : Nat := (R 6).toNatClampNeg
def sN (R : Row) : Nat := (R 7).toNatClampNeg
def rN (R : Row) : Nat := (R 8).toNatClampNeg
def fN (R : Row) : Nat := (R 9).toNatClampNeg
def vo (R : Row) (j : Nat) : Nat := (R j).toNatClampNeg
def ROK (R : Row) : Prop := R 6 = nI (cN R) ∧ R 7 = nI (sN R) ∧ R 8 = nI (rN R) ∧ R 9 = nI (fN R) ∧ cN R ≤ 10 ∧ sN R ≤ 8 ∧ rN R ≤ 4 ∧ fN R ≤ 6 ∧ ∀ j, 258 ≤ j → j < 1058 → R j = nI (vo R j) ∧ vo R j < 20000
def fogAt (R : Row) (k : Nat) : Int32 := if R (72 + 3 * k) ≤ R 90 ∧ R 90 ≤ R (72 + 3 * k + 1) then R (72 + 3 * k + 2) else 0
def qSight (R : Row) : Int32 := imax 0 (R 0 - sm (fN R) (fogAt R))
/-- whether the k-th ridge parts what lies at a and b -/
def parts (R : Row) (a b k : Nat) : Prop := (R a < R (64 + 2 * k)) ≠ (R b < R (64 + 2 * k)) ∧ imax (R (a + 2)) (R (b + 2)) < R (64 + 2 * k + 1)
noncomputable def qPart (R : Row) (a b : Nat) : Int32 := sm (rN R) (fun k => bZ (parts R a b k))
def isSee (R : Row) (a b : Nat) : Prop := (R a - R b) * (R a - R b) + (R (a + 1) - R (b + 1)) * (R (a + 1) - R (b + 1)) ≤ qSight R * qSight R ∧ qPart R a b = nI 0
def seeOne (R : Row) (o k : Nat) : Prop := o = k ∨ isSee R (10 + 3 * o) (10 + 3 * k)
noncomputable def qSeen (R : Row) (o : Nat) : Int32 := om (cN R) (fun k => pz (seeOne R o k) (1 <<< (nI k &&& 31)))
def qFar (R : Row) (o s : Nat) : Int32 := iabs (R (10 + 3 * o) - R (40 + 3 * s)) + iabs (R (10 + 3 * o + 1) - R (40 + 3 * s + 1))
def qWeight (R : Row) (c s : Nat) : Int32 := R (158 + c) * (200 - qFar R c s) / 100
def vAt (o c s : Nat) : Nat := 258 + 80 * o + 8 * c + s
def isVote (R : Row) (j : Nat) (p : Prop) : Prop := 0 < vo R j ∧ (vo R j % 2 = 0 ↔ p)
noncomputable def qSum (R : Row) (o s : Nat) (p : Prop) : Int32 := sm (cN R) (fun c => pz (isVote R (258 + 80 * o + 8 * c + s) p) (qWeight R c s))
section P2
variable {G : GG} {N : Nat} {h : Hp}
def hasB (s k : Int32) : Prop := ((s >>> (k &&& 31)) &&& 1) = 1
theorem p_has {s k : Int32} : sX2_has G N s k h = some (.inl (bZ (hasB s k)), h) := by
  classical
  unfold sX2_has
  simp only [l_RZ0, l_RZ1]
  split
  · rename_i hc; rw [show bZ (hasB s k) = 1 from bZ_t hc]
  · rename_i hc; rw [show bZ (hasB s k) = 0 from bZ_f hc]
theorem p_isRed {v : Nat} (hv : v < 2 ^ 31) : sX2_isRed G N (nI v) h = some (.inl (bZ (v % 2 = 0)), h) := by
  classical
  unfold sX2_isRed gRm
  rw [if_neg (by decide), n_2, pk_rem hv (by omega) (by omega)]
  show (if nI (v % 2) = 0 then gRtZ 1 h else gRtZ 0 h) = _
  split
  · rename_i hc
    rw [bZ_t ((nI_eq (b := 0) (by omega) (by omega)).mp hc)]; rfl
  · rename_i hc
    rw [bZ_f (fun q => hc ((nI_eq (b := 0) (by omega) (by omega)).mpr q))]; rfl
theorem p_timeOf {v : Nat} (h0 : 0 < v) (hv : v < 2 ^ 31) : sX2_timeOf G N (nI v) h = some (.inl (nI ((v - 1) / 2)), h) := by
  classical
  unfold sX2_timeOf gDv
  rw [if_neg (by decide), n_2, n_1, pk_sub h0, pk_div (by omega) (by omega) (by omega)]
noncomputable def mv (t : Nat) (p : Prop) : Nat := 2 * t + 1 + @ite Nat p (Classical.propDecidable p) 1 0
theorem p_made {t : Nat} {p : Prop} : sX2_made G N (nI t) (bZ p) h = some (.inl (nI (mv t p)), h) := by
  classical
  unfold sX2_made mv
  simp only [l_J]
  by_cases hp : p
  · rw [bZ_t hp, if_neg (by decide), if_pos hp]
    simp only [n_2, pk_mul, nI_add]
  · rw [bZ_f hp, if_pos rfl, if_neg hp]
    simp only [n_2, n_1, pk_mul, nI_add]
end P2
section T1
variable {G : GG} {N b : Nat} {T : TS} {h : Hp}
theorem t_sightNow (H : ROK (T.2.2.1 1)) (hN : 20 < N) : sX2_sightNow G N (some b) (hT b T h) = some (.inl (qSight (T.2.2.1 1)), hT b T h) := by
  obtain ⟨h6, h7, h8, h9, l6, l7, l8, l9, hv⟩ := H
  classical
  unfold sX2_sightNow
  simp (disch := omega) only [Nat.one_ne_zero, Nat.reduceEqDiff, Nat.reduceLeDiff, l_J, l_let, l_bnd, l_bndx, l_bI, l_NN, bZ_0, bZ_0n, bZ_1n, l_RZb, l_RZ0n, l_RZ1n, ↓reduceIte, not_true, not_false_iff, and_true, true_and, and_false, false_and, pk_mul, nI_add, nI_leI, nI_ltI, nI_eq, ni_sub1, n_0, n_1, n_2, n_3, n_4, n_5, n_6, n_7, n_8, n_9, n_10, n_11, n_12, n_13, n_14, n_15, n_16, n_20, n_24, n_27, n_30, n_31, n_32, n_40, n_47, n_50, n_57, n_58, n_59, n_64, n_72, n_80, n_90, n_91, n_92, n_93, n_94, n_95, n_96, n_97, n_98, n_99, n_100, n_122, n_128, n_138, n_148, n_158, n_168, n_178, n_200, n_255, n_258, n_300, n_700, n_999, n_1058, n_2116, n_5000, n_8464, n_7406, t_bV, t_fr1, t_ai1, p_in, p_max, p_min, p_abs, p_cabinAt, p_slopeAt, p_voteAt]
  refine lp_q (fN (T.2.2.1 1)) (fun k => (T.2.2.1 1 0 - sm k (fogAt (T.2.2.1 1)), nI (72 + 3 * k))) (by omega) (Prod.ext (Int32.sub_zero _) rfl) ?_ ?_
  · intro k hk self
    unfold bX2_sightNow_10
    simp (disch := omega) only [Nat.one_ne_zero, Nat.reduceEqDiff, Nat.reduceLeDiff, l_J, l_let, l_bnd, l_bndx, l_bI, l_NN, bZ_0, bZ_0n, bZ_1n, l_RZb, l_RZ0n, l_RZ1n, ↓reduceIte, not_true, not_false_iff, and_true, true_and, and_false, false_and, pk_mul, nI_add, nI_leI, nI_ltI, nI_eq, ni_sub1, n_0, n_1, n_2, n_3, n_4, n_5, n_6, n_7, n_8, n_9, n_10, n_11, n_12, n_13, n_14, n_15, n_16, n_20, n_24, n_27, n_30, n_31, n_32, n_40, n_47, n_50, n_57, n_58, n_59, n_64, n_72, n_80, n_90, n_91, n_92, n_93, n_94, n_95, n_96, n_97, n_98, n_99, n_100, n_122, n_128, n_138, n_148, n_158, n_168, n_178, n_200, n_255, n_258, n_300, n_700, n_999, n_1058, n_2116, n_5000, n_8464, n_7406, t_bV, t_fr1, t_ai1, p_in, p_max, p_min, p_abs, p_cabinAt, p_slopeAt, p_voteAt, h9, show ¬ (72 + 3 * fN (T.2.2.1 1) ≤ 72 + 3 * k) by omega]
    rw [sm_succ, ← Int32.sub_sub]
    refine l_ii (fun hc => ?_) (fun hc => ?_)
    · rw [show fogAt (T.2.2.1 1) k = 0 from if_neg hc]
      rfl
    · rw [show fogAt (T.2.2.1 1) k = _ from if_pos (Classical.not_not.mp hc)]
      rfl
  · intro self
    unfold bX2_sightNow_10
    simp (disch := omega) only [Nat.one_ne_zero, Nat.reduceEqDiff, Nat.reduceLeDiff, l_J, l_let, l_bnd, l_bndx, l_bI, l_NN, bZ_0, bZ_0n, bZ_1n, l_RZb, l_RZ0n, l_RZ1n, ↓reduceIte, not_true, not_false_iff, and_true, true_and, and_false, false_and, pk_mul, nI_add, nI_leI, nI_ltI, nI_eq, ni_sub1, n_0, n_1, n_2, n_3, n_4, n_5, n_6, n_7, n_8, n_9, n_10, n_11, n_12, n_13, n_14, n_15, n_16, n_20, n_24, n_27, n_30, n_31, n_32, n_40, n_47, n_50, n_57, n_58, n_59, n_64, n_72, n_80, n_90, n_91, n_92, n_93, n_94, n_95, n_96, n_97, n_98, n_99, n_100, n_122, n_128, n_138, n_148, n_158, n_168, n_178, n_200, n_255, n_258, n_300, n_700, n_999, n_1058, n_2116, n_5000, n_8464, n_7406, t_bV, t_fr1, t_ai1, p_in, p_max, p_min, p_abs, p_cabinAt, p_slopeAt, p_voteAt, h9, Nat.le_refl]
    rfl
theorem t_parting {i j : Nat} (H : ROK (T.2.2.1 1)) (hi : i < 1000) (hj : j < 1000) (hN : 20 < N) : sX2_parting G N (some b) (nI i) (nI j) (hT b T h) = some (.inl (qPart (T.2.2.1 1) i j), hT b T h) := by
  obtain ⟨h6, h7, h8, h9, l6, l7, l8, l9, hv⟩ := H
  classical
  unfold sX2_parting qPart
  simp (disch := omega) only [Nat.one_ne_zero, Nat.reduceEqDiff, Nat.reduceLeDiff, l_J, l_let, l_bnd, l_bndx, l_bI, l_NN, bZ_0, bZ_0n, bZ_1n, l_RZb, l_RZ0n, l_RZ1n, ↓reduceIte, not_true, not_false_iff, and_true, true_and, and_false, false_and, pk_mul, nI_add, nI_leI, nI_ltI, nI_eq, ni_sub1, n_0, n_1, n_2, n_3, n_4, n_5, n_6, n_7, n_8, n_9, n_10, n_11, n_12, n_13, n_14, n_15, n_16, n_20, n_24, n_27, n_30, n_31, n_32, n_40, n_47, n_50, n_57, n_58, n_59, n_64, n_72, n_80, n_90, n_91, n_92, n_93, n_94, n_95, n_96, n_97, n_98, n_99, n_100, n_122, n_128, n_138, n_148, n_158, n_168, n_178, n_200, n_255, n_258, n_300, n_700, n_999, n_1058, n_2116, n_5000, n_8464, n_7406, t_bV, t_fr1, t_ai1, p_in, p_max, p_min, p_abs, p_cabinAt, p_slopeAt, p_voteAt]
  refine lp_q (rN (T.2.2.1 1)) (fun k => (sm k (fun k => bZ (parts (T.2.2.1 1) i j k)), nI (64 + 2 * k))) (by omega) rfl ?_ ?_
  · intro k hk self
    unfold bX2_parting_27
    simp (disch := omega) only [Nat.one_ne_zero, Nat.reduceEqDiff, Nat.reduceLeDiff, l_J, l_let, l_bnd, l_bndx, l_bI, l_NN, bZ_0, bZ_0n, bZ_1n, l_RZb, l_RZ0n, l_RZ1n, ↓reduceIte, not_true, not_false_iff, and_true, true_and, and_false, false_and, pk_mul, nI_add, nI_leI, nI_ltI, nI_eq, ni_sub1, n_0, n_1, n_2, n_3, n_4, n_5, n_6, n_7, n_8, n_9, n_10, n_11, n_12, n_13, n_14, n_15, n_16, n_20, n_24, n_27, n_30, n_31, n_32, n_40, n_47, n_50, n_57, n_58, n_59, n_64, n_72, n_80, n_90, n_91, n_92, n_93, n_94, n_95, n_96, n_97, n_98, n_99, n_100, n_122, n_128, n_138, n_148, n_158, n_168, n_178, n_200, n_255, n_258, n_300, n_700, n_999, n_1058, n_2116, n_5000, n_8464, n_7406, t_bV, t_fr1, t_ai1, p_in, p_max, p_min, p_abs, p_cabinAt, p_slopeAt, p_voteAt, h8, show ¬ (64 + 2 * rN (T.2.2.1 1) ≤ 64 + 2 * k) by omega, parts]
    repeat' split
    all_goals first | exact l_st (bZ_f (by simp_all [← Int32.not_lt])) rfl | exact l_st (bZ_t (by simp_all [← Int32.not_lt])) rfl
  · intro self
    unfold bX2_parting_27
    simp (disch := omega) only [Nat.one_ne_zero, Nat.reduceEqDiff, Nat.reduceLeDiff, l_J, l_let, l_bnd, l_bndx, l_bI, l_NN, bZ_0, bZ_0n, bZ_1n, l_RZb, l_RZ0n, l_RZ1n, ↓reduceIte, not_true, not_false_iff, and_true, true_and, and_false, false_and, pk_mul, nI_add, nI_leI, nI_ltI, nI_eq, ni_sub1, n_0, n_1, n_2, n_3, n_4, n_5, n_6, n_7, n_8, n_9, n_10, n_11, n_12, n_13, n_14, n_15, n_16, n_20, n_24, n_27, n_30, n_31, n_32, n_40, n_47, n_50, n_57, n_58, n_59, n_64, n_72, n_80, n_90, n_91, n_92, n_93, n_94, n_95, n_96, n_97, n_98, n_99, n_100, n_122, n_128, n_138, n_148, n_158, n_168, n_178, n_200, n_255, n_258, n_300, n_700, n_999, n_1058, n_2116, n_5000, n_8464, n_7406, t_bV, t_fr1, t_ai1, p_in, p_max, p_min, p_abs, p_cabinAt, p_slopeAt, p_voteAt, h8, Nat.le_refl]
theorem t_see {i j : Nat} (H : ROK (T.2.2.1 1)) (hi : i < 1000) (hj : j < 1000) (hN : 20 < N) : sX2_see G N (some b) (nI i) (nI j) (hT b T h) = some (.inl (bZ (isSee (T.2.2.1 1) i j)), hT b T h) := by
  classical
  unfold sX2_see
  simp (disch := omega) only [Nat.one_ne_zero, Nat.reduceEqDiff, Nat.reduceLeDiff, l_J, l_let, l_bnd, l_bndx, l_bI, l_NN, bZ_0, bZ_0n, bZ_1n, l_RZb, l_RZ0n, l_RZ1n, ↓reduceIte, not_true, not_false_iff, and_true, true_and, and_false, false_and, pk_mul, nI_add, nI_leI, nI_ltI, nI_eq, ni_sub1, n_0, n_1, n_2, n_3, n_4, n_5, n_6, n_7, n_8, n_9, n_10, n_11, n_12, n_13, n_14, n_15, n_16, n_20, n_24, n_27, n_30, n_31, n_32, n_40, n_47, n_50, n_57, n_58, n_59, n_64, n_72, n_80, n_90, n_91, n_92, n_93, n_94, n_95, n_96, n_97, n_98, n_99, n_100, n_122, n_128, n_138, n_148, n_158, n_168, n_178, n_200, n_255, n_258, n_300, n_700, n_999, n_1058, n_2116, n_5000, n_8464, n_7406, t_bV, t_fr1, t_ai1, p_in, p_max, p_min, p_abs, p_cabinAt, p_slopeAt, p_voteAt, t_sightNow H hN, t_parting H hi hj hN]
  unfold isSee
  split
  · rename_i hc
    rw [bZ_f (fun q => Int32.not_lt.mpr q.1 hc)]; rfl
  · rename_i hc
    by_cases hd : qPart (T.2.2.1 1) i j = nI 0
    · rw [if_pos hd, bZ_t ⟨Int32.not_lt.mp hc, hd⟩]; rfl
    · rw [if_neg hd, bZ_f (fun q => hd q.2)]; rfl
theorem t_seeOne {o k : Nat} (H : ROK (T.2.2.1 1)) (ho : o < 100) (hk : k < 100) (hN : 20 < N) : sX2_seeOneAnother G N (some b) (nI o) (nI k) (hT b T h) = some (.inl (bZ (seeOne (T.2.2.1 1) o k)), hT b T h) := by
  classical
  unfold sX2_seeOneAnother
  simp (disch := omega) only [Nat.one_ne_zero, Nat.reduceEqDiff, Nat.reduceLeDiff, l_J, l_let, l_bnd, l_bndx, l_bI, l_NN, bZ_0, bZ_0n, bZ_1n, l_RZb, l_RZ0n, l_RZ1n, ↓reduceIte, not_true, not_false_iff, and_true, true_and, and_false, false_and, pk_mul, nI_add, nI_leI, nI_ltI, nI_eq, ni_sub1, n_0, n_1, n_2, n_3, n_4, n_5, n_6, n_7, n_8, n_9, n_10, n_11, n_12, n_13, n_14, n_15, n_16, n_20, n_24, n_27, n_30, n_31, n_32, n_40, n_47, n_50, n_57, n_58, n_59, n_64, n_72, n_80, n_90, n_91, n_92, n_93, n_94, n_95, n_96, n_97, n_98, n_99, n_100, n_122, n_128, n_138, n_148, n_158, n_168, n_178, n_200, n_255, n_258, n_300, n_700, n_999, n_1058, n_2116, n_5000, n_8464, n_7406, t_bV, t_fr1, t_ai1, p_in, p_max, p_min, p_abs, p_cabinAt, p_slopeAt, p_voteAt, t_see H _ _ hN]
  unfold seeOne
  by_cases h1 : o = k
  · simp only [h1, ↓reduceIte, true_or]; rw [bZ_t trivial]; rfl
  · by_cases h2 : isSee (T.2.2.1 1) (10 + 3 * o) (10 + 3 * k)
    · simp only [h1, h2, ↓reduceIte, not_true, or_true]; rw [bZ_t trivial]; rfl
    · simp only [h1, h2, ↓reduceIte, not_false_iff, or_self]; rw [bZ_f id]; rfl
theorem t_seen {o : Nat} (H : ROK (T.2.2.1 1)) (ho : o < 100) (hN : 20 < N) : sX2_seen G N (some b) (nI o) (hT b T h) = some (.inl (qSeen (T.2.2.1 1) o), hT b T h) := by
  have H' := H
  obtain ⟨h6, h7, h8, h9, l6, l7, l8, l9, hv⟩ := H
  classical
  unfold sX2_seen qSeen
  refine lp_q (cN (T.2.2.1 1)) (fun k => (om k (fun k => pz (seeOne (T.2.2.1 1) o k) (1 <<< (nI k &&& 31))), nI k)) (by omega) rfl ?_ ?_
  · intro k hk self
    unfold bX2_seen_4
    simp (disch := omega) only [Nat.one_ne_zero, Nat.reduceEqDiff, Nat.reduceLeDiff, l_J, l_let, l_bnd, l_bndx, l_bI, l_NN, bZ_0, bZ_0n, bZ_1n, l_RZb, l_RZ0n, l_RZ1n, ↓reduceIte, not_true, not_false_iff, and_true, true_and, and_false, false_and, pk_mul, nI_add, nI_leI, nI_ltI, nI_eq, ni_sub1, n_0, n_1, n_2, n_3, n_4, n_5, n_6, n_7, n_8, n_9, n_10, n_11, n_12, n_13, n_14, n_15, n_16, n_20, n_24, n_27, n_30, n_31, n_32, n_40, n_47, n_50, n_57, n_58, n_59, n_64, n_72, n_80, n_90, n_91, n_92, n_93, n_94, n_95, n_96, n_97, n_98, n_99, n_100, n_122, n_128, n_138, n_148, n_158, n_168, n_178, n_200, n_255, n_258, n_300, n_700, n_999, n_1058, n_2116, n_5000, n_8464, n_7406, t_bV, t_fr1, t_ai1, p_in, p_max, p_min, p_abs, p_cabinAt, p_slopeAt, p_voteAt, h6, Nat.not_le.mpr hk, t_seeOne H' ho _ hN]
    repeat' split
    all_goals first | exact l_ot (pz_f (by simp_all [← Int32.not_lt])) rfl | exact l_ot (pz_t (by simp_all [← Int32.not_lt])) rfl
  · intro self
    unfold bX2_seen_4
    simp (disch := omega) only [Nat.one_ne_zero, Nat.reduceEqDiff, Nat.reduceLeDiff, l_J, l_let, l_bnd, l_bndx, l_bI, l_NN, bZ_0, bZ_0n, bZ_1n, l_RZb, l_RZ0n, l_RZ1n, ↓reduceIte, not_true, not_false_iff, and_true, true_and, and_false, false_and, pk_mul, nI_add, nI_leI, nI_ltI, nI_eq, ni_sub1, n_0, n_1, n_2, n_3, n_4, n_5, n_6, n_7, n_8, n_9, n_10, n_11, n_12, n_13, n_14, n_15, n_16, n_20, n_24, n_27, n_30, n_31, n_32, n_40, n_47, n_50, n_57, n_58, n_59, n_64, n_72, n_80, n_90, n_91, n_92, n_93, n_94, n_95, n_96, n_97, n_98, n_99, n_100, n_122, n_128, n_138, n_148, n_158, n_168, n_178, n_200, n_255, n_258, n_300, n_700, n_999, n_1058, n_2116, n_5000, n_8464, n_7406, t_bV, t_fr1, t_ai1, p_in, p_max, p_min, p_abs, p_cabinAt, p_slopeAt, p_voteAt, h6, Nat.le_refl]
theorem t_far {o s : Nat} (H : ROK (T.2.2.1 1)) (ho : o < 100) (hs : s < 100) : sX2_far G N (some b) (nI o) (nI s) (hT b T h) = some (.inl (qFar (T.2.2.1 1) o s), hT b T h) := by
  classical
  unfold sX2_far
  simp (disch := omega) only [Nat.one_ne_zero, Nat.reduceEqDiff, Nat.reduceLeDiff, l_J, l_let, l_bnd, l_bndx, l_bI, l_NN, bZ_0, bZ_0n, bZ_1n, l_RZb, l_RZ0n, l_RZ1n, ↓reduceIte, not_true, not_false_iff, and_true, true_and, and_false, false_and, pk_mul, nI_add, nI_leI, nI_ltI, nI_eq, ni_sub1, n_0, n_1, n_2, n_3, n_4, n_5, n_6, n_7, n_8, n_9, n_10, n_11, n_12, n_13, n_14, n_15, n_16, n_20, n_24, n_27, n_30, n_31, n_32, n_40, n_47, n_50, n_57, n_58, n_59, n_64, n_72, n_80, n_90, n_91, n_92, n_93, n_94, n_95, n_96, n_97, n_98, n_99, n_100, n_122, n_128, n_138, n_148, n_158, n_168, n_178, n_200, n_255, n_258, n_300, n_700, n_999, n_1058, n_2116, n_5000, n_8464, n_7406, t_bV, t_fr1, t_ai1, p_in, p_max, p_min, p_abs, p_cabinAt, p_slopeAt, p_voteAt]
  rfl
theorem t_weight {c s : Nat} (H : ROK (T.2.2.1 1)) (hc : c < 100) (hs : s < 100) : sX2_weight G N (some b) (nI c) (nI s) (hT b T h) = some (.inl (qWeight (T.2.2.1 1) c s), hT b T h) := by
  classical
  unfold sX2_weight
  simp (disch := omega) only [Nat.one_ne_zero, Nat.reduceEqDiff, Nat.reduceLeDiff, l_J, l_let, l_bnd, l_bndx, l_bI, l_NN, bZ_0, bZ_0n, bZ_1n, l_RZb, l_RZ0n, l_RZ1n, ↓reduceIte, not_true, not_false_iff, and_true, true_and, and_false, false_and, pk_mul, nI_add, nI_leI, nI_ltI, nI_eq, ni_sub1, n_0, n_1, n_2, n_3, n_4, n_5, n_6, n_7, n_8, n_9, n_10, n_11, n_12, n_13, n_14, n_15, n_16, n_20, n_24, n_27, n_30, n_31, n_32, n_40, n_47, n_50, n_57, n_58, n_59, n_64, n_72, n_80, n_90, n_91, n_92, n_93, n_94, n_95, n_96, n_97, n_98, n_99, n_100, n_122, n_128, n_138, n_148, n_158, n_168, n_178, n_200, n_255, n_258, n_300, n_700, n_999, n_1058, n_2116, n_5000, n_8464, n_7406, t_bV, t_fr1, t_ai1, p_in, p_max, p_min, p_abs, p_cabinAt, p_slopeAt, p_voteAt, t_far H hc hs]
  unfold gDv
  rw [if_neg (by decide)]
  rfl
theorem t_voteOf {o c s : Nat} (ho : o < 10) (hc : c < 10) (hs : s < 8) : sX2_voteOf G N (some b) (nI o) (nI c) (nI s) (hT b T h) = some (.inl (T.2.2.1 1 (258 + 80 * o + 8 * c + s)), hT b T h) := by
  classical
  unfold sX2_voteOf
  simp (disch := omega) only [Nat.one_ne_zero, Nat.reduceEqDiff, Nat.reduceLeDiff, l_J, l_let, l_bnd, l_bndx, l_bI, l_NN, bZ_0, bZ_0n, bZ_1n, l_RZb, l_RZ0n, l_RZ1n, ↓reduceIte, not_true, not_false_iff, and_true, true_and, and_false, false_and, pk_mul, nI_add, nI_leI, nI_ltI, nI_eq, ni_sub1, n_0, n_1, n_2, n_3, n_4, n_5, n_6, n_7, n_8, n_9, n_10, n_11, n_12, n_13, n_14, n_15, n_16, n_20, n_24, n_27, n_30, n_31, n_32, n_40, n_47, n_50, n_57, n_58, n_59, n_64, n_72, n_80, n_90, n_91, n_92, n_93, n_94, n_95, n_96, n_97, n_98, n_99, n_100, n_122, n_128, n_138, n_148, n_158, n_168, n_178, n_200, n_255, n_258, n_300, n_700, n_999, n_1058, n_2116, n_5000, n_8464, n_7406, t_bV, t_fr1, t_ai1, p_in, p_max, p_min, p_abs, p_cabinAt, p_slopeAt, p_voteAt]
theorem t_sum {o s : Nat} {p : Prop} {rd : Int32} (H : ROK (T.2.2.1 1)) (ho : o < 10) (hs : s < 8) (hr : rd = bZ p) (hN : 20 < N) : sX2_sum G N (some b) (nI o) (nI s) rd (hT b T h) = some (.inl (qSum (T.2.2.1 1) o s p), hT b T h) := by
  have H' := H
  subst hr
  obtain ⟨h6, h7, h8, h9, l6, l7, l8, l9, hv⟩ := H
  classical
  unfold sX2_sum qSum
  refine lp_q (cN (T.2.2.1 1)) (fun k => (sm k (fun c => pz (isVote (T.2.2.1 1) (258 + 80 * o + 8 * c + s) p) (qWeight (T.2.2.1 1) c s)), nI k)) (by omega) rfl ?_ ?_
  · intro k hk self
    obtain ⟨hv1, hv2⟩ := hv (258 + 80 * o + 8 * k + s) (by omega) (by omega)
    unfold bX2_sum_6
    simp (disch := omega) only [Nat.one_ne_zero, Nat.reduceEqDiff, Nat.reduceLeDiff, l_J, l_let, l_bnd, l_bndx, l_bI, l_NN, bZ_0, bZ_0n, bZ_1n, l_RZb, l_RZ0n, l_RZ1n, ↓reduceIte, not_true, not_false_iff, and_true, true_and, and_false, false_and, pk_mul, nI_add, nI_leI, nI_ltI, nI_eq, ni_sub1, n_0, n_1, n_2, n_3, n_4, n_5, n_6, n_7, n_8, n_9, n_10, n_11, n_12, n_13, n_14, n_15, n_16, n_20, n_24, n_27, n_30, n_31, n_32, n_40, n_47, n_50, n_57, n_58, n_59, n_64, n_72, n_80, n_90, n_91, n_92, n_93, n_94, n_95, n_96, n_97, n_98, n_99, n_100, n_122, n_128, n_138, n_148, n_158, n_168, n_178, n_200, n_255, n_258, n_300, n_700, n_999, n_1058, n_2116, n_5000, n_8464, n_7406, t_bV, t_fr1, t_ai1, p_in, p_max, p_min, p_abs, p_cabinAt, p_slopeAt, p_voteAt, h6, Nat.not_le.mpr hk, t_voteOf ho _ hs, hv1, t_weight H' _ _, p_isRed, bZ_e]
    repeat' split
    all_goals first | exact l_st (pz_f (by simp_all [isVote])) rfl | exact l_st (pz_t (by simp_all [isVote]; try omega)) rfl
  · intro self
    unfold bX2_sum_6
    simp (disch := omega) only [Nat.one_ne_zero, Nat.reduceEqDiff, Nat.reduceLeDiff, l_J, l_let, l_bnd, l_bndx, l_bI, l_NN, bZ_0, bZ_0n, bZ_1n, l_RZb, l_RZ0n, l_RZ1n, ↓reduceIte, not_true, not_false_iff, and_true, true_and, and_false, false_and, pk_mul, nI_add, nI_leI, nI_ltI, nI_eq, ni_sub1, n_0, n_1, n_2, n_3, n_4, n_5, n_6, n_7, n_8, n_9, n_10, n_11, n_12, n_13, n_14, n_15, n_16, n_20, n_24, n_27, n_30, n_31, n_32, n_40, n_47, n_50, n_57, n_58, n_59, n_64, n_72, n_80, n_90, n_91, n_92, n_93, n_94, n_95, n_96, n_97, n_98, n_99, n_100, n_122, n_128, n_138, n_148, n_158, n_168, n_178, n_200, n_255, n_258, n_300, n_700, n_999, n_1058, n_2116, n_5000, n_8464, n_7406, t_bV, t_fr1, t_ai1, p_in, p_max, p_min, p_abs, p_cabinAt, p_slopeAt, p_voteAt, h6, Nat.le_refl]
end T1
