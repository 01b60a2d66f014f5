/-! the twin: copies, what would be, what is shown, what is kept -/
set_option maxRecDepth 100000
set_option maxHeartbeats 1000000
def cpy (g f : Nat → Int32) (i j n : Nat) : Nat → Int32 := fun q => if j ≤ q ∧ q < j + n then f (i + (q - j)) else g q
theorem cpy_0 {g f : Nat → Int32} {i j : Nat} : cpy g f i j 0 = g := funext fun q => if_neg (by omega)
theorem cpy_s {g f : Nat → Int32} {i j n : Nat} : upd (cpy g f i j n) (j + n) (f (i + n)) = cpy g f i j (n + 1) := funext fun q => by
  unfold cpy
  by_cases h : q = j + n
  · rw [h, l_upd_eq, if_pos (by omega), Nat.add_sub_cancel_left]
  · rw [l_upd_ne h]
    by_cases h2 : j ≤ q ∧ q < j + n
    · rw [if_pos h2, if_pos (by omega)]
    · rw [if_neg h2, if_neg (by omega)]
theorem cpy_in {g f : Nat → Int32} {i j n q : Nat} (h : q < n) : cpy g f i j n (j + q) = f (i + q) := by
  unfold cpy
  rw [if_pos (by omega), Nat.add_sub_cancel_left]
theorem cpy_out {g f : Nat → Int32} {i j n q : Nat} (h : q < j ∨ j + n ≤ q) : cpy g f i j n q = g q := if_neg (by omega)
section T5
variable {G : GG} {N b : Nat} {T : TS} {h : Hp}
theorem t_cp12 {i j : Nat} (hi : i + 1058 ≤ 1058) (hj : j + 1058 ≤ 1058) (hb : G.1 ≤ b) (hN : 2000 < N) : sX2_copies G N (some (b + 1)) (nI i) (some (b + 2)) (nI j) (hT b T h) = some (.inl (), hT b (tF T 2 (cpy (T.2.2.1 2) (T.2.2.1 1) i j 1058)) h) := by
  unfold sX2_copies
  refine lp_h 1058 (fun k => nI k) (fun k => hT b (tF T 2 (cpy (T.2.2.1 2) (T.2.2.1 1) i j k)) h) (by omega) rfl (congrArg (fun z => hT b z h) (tF_self cpy_0)) ?_ ?_
  · intro k hk self
    unfold bX2_copies_3
    simp (disch := omega) only [nI_leI, nI_add, n_1058, n_1, Nat.not_le.mpr hk, ↓reduceIte, t_ai1 (show i + k < 1058 by omega), t_si2 hb (show j + k < 1058 by omega), tF_ne (show 1 ≠ 2 by omega), tF_at, tA_eq, tF_tF, cpy_s]
  · intro self
    unfold bX2_copies_3
    simp (disch := omega) only [nI_leI, n_1058, Nat.le_refl, ↓reduceIte]
theorem t_cp21 {i j : Nat} (hi : i + 1058 ≤ 1058) (hj : j + 1058 ≤ 1058) (hb : G.1 ≤ b) (hN : 2000 < N) : sX2_copies G N (some (b + 2)) (nI i) (some (b + 1)) (nI j) (hT b T h) = some (.inl (), hT b (tF T 1 (cpy (T.2.2.1 1) (T.2.2.1 2) i j 1058)) h) := by
  unfold sX2_copies
  refine lp_h 1058 (fun k => nI k) (fun k => hT b (tF T 1 (cpy (T.2.2.1 1) (T.2.2.1 2) i j k)) h) (by omega) rfl (congrArg (fun z => hT b z h) (tF_self cpy_0)) ?_ ?_
  · intro k hk self
    unfold bX2_copies_3
    simp (disch := omega) only [nI_leI, nI_add, n_1058, n_1, Nat.not_le.mpr hk, ↓reduceIte, t_ai2 (show i + k < 1058 by omega), t_si1 hb (show j + k < 1058 by omega), tF_ne (show 2 ≠ 1 by omega), tF_at, tA_eq, tF_tF, cpy_s]
  · intro self
    unfold bX2_copies_3
    simp (disch := omega) only [nI_leI, n_1058, Nat.le_refl, ↓reduceIte]
theorem t_cp13 {i j : Nat} (hi : i + 1058 ≤ 1058) (hj : j + 1058 ≤ 8464) (hb : G.1 ≤ b) (hN : 2000 < N) : sX2_copies G N (some (b + 1)) (nI i) (some (b + 3)) (nI j) (hT b T h) = some (.inl (), hT b (tF T 3 (cpy (T.2.2.1 3) (T.2.2.1 1) i j 1058)) h) := by
  unfold sX2_copies
  refine lp_h 1058 (fun k => nI k) (fun k => hT b (tF T 3 (cpy (T.2.2.1 3) (T.2.2.1 1) i j k)) h) (by omega) rfl (congrArg (fun z => hT b z h) (tF_self cpy_0)) ?_ ?_
  · intro k hk self
    unfold bX2_copies_3
    simp (disch := omega) only [nI_leI, nI_add, n_1058, n_1, Nat.not_le.mpr hk, ↓reduceIte, t_ai1 (show i + k < 1058 by omega), t_si3 hb (show j + k < 8464 by omega), tF_ne (show 1 ≠ 3 by omega), tF_at, tA_eq, tF_tF, cpy_s]
  · intro self
    unfold bX2_copies_3
    simp (disch := omega) only [nI_leI, n_1058, Nat.le_refl, ↓reduceIte]
theorem t_cp31 {i j : Nat} (hi : i + 1058 ≤ 8464) (hj : j + 1058 ≤ 1058) (hb : G.1 ≤ b) (hN : 2000 < N) : sX2_copies G N (some (b + 3)) (nI i) (some (b + 1)) (nI j) (hT b T h) = some (.inl (), hT b (tF T 1 (cpy (T.2.2.1 1) (T.2.2.1 3) i j 1058)) h) := by
  unfold sX2_copies
  refine lp_h 1058 (fun k => nI k) (fun k => hT b (tF T 1 (cpy (T.2.2.1 1) (T.2.2.1 3) i j k)) h) (by omega) rfl (congrArg (fun z => hT b z h) (tF_self cpy_0)) ?_ ?_
  · intro k hk self
    unfold bX2_copies_3
    simp (disch := omega) only [nI_leI, nI_add, n_1058, n_1, Nat.not_le.mpr hk, ↓reduceIte, t_ai3 (show i + k < 8464 by omega), t_si1 hb (show j + k < 1058 by omega), tF_ne (show 3 ≠ 1 by omega), tF_at, tA_eq, tF_tF, cpy_s]
  · intro self
    unfold bX2_copies_3
    simp (disch := omega) only [nI_leI, n_1058, Nat.le_refl, ↓reduceIte]
theorem t_cp14 {i j : Nat} (hi : i + 1058 ≤ 1058) (hj : j + 1058 ≤ 2116) (hb : G.1 ≤ b) (hN : 2000 < N) : sX2_copies G N (some (b + 1)) (nI i) (some (b + 4)) (nI j) (hT b T h) = some (.inl (), hT b (tF T 4 (cpy (T.2.2.1 4) (T.2.2.1 1) i j 1058)) h) := by
  unfold sX2_copies
  refine lp_h 1058 (fun k => nI k) (fun k => hT b (tF T 4 (cpy (T.2.2.1 4) (T.2.2.1 1) i j k)) h) (by omega) rfl (congrArg (fun z => hT b z h) (tF_self cpy_0)) ?_ ?_
  · intro k hk self
    unfold bX2_copies_3
    simp (disch := omega) only [nI_leI, nI_add, n_1058, n_1, Nat.not_le.mpr hk, ↓reduceIte, t_ai1 (show i + k < 1058 by omega), t_si4 hb (show j + k < 2116 by omega), tF_ne (show 1 ≠ 4 by omega), tF_at, tA_eq, tF_tF, cpy_s]
  · intro self
    unfold bX2_copies_3
    simp (disch := omega) only [nI_leI, n_1058, Nat.le_refl, ↓reduceIte]
theorem t_cp41 {i j : Nat} (hi : i + 1058 ≤ 2116) (hj : j + 1058 ≤ 1058) (hb : G.1 ≤ b) (hN : 2000 < N) : sX2_copies G N (some (b + 4)) (nI i) (some (b + 1)) (nI j) (hT b T h) = some (.inl (), hT b (tF T 1 (cpy (T.2.2.1 1) (T.2.2.1 4) i j 1058)) h) := by
  unfold sX2_copies
  refine lp_h 1058 (fun k => nI k) (fun k => hT b (tF T 1 (cpy (T.2.2.1 1) (T.2.2.1 4) i j k)) h) (by omega) rfl (congrArg (fun z => hT b z h) (tF_self cpy_0)) ?_ ?_
  · intro k hk self
    unfold bX2_copies_3
    simp (disch := omega) only [nI_leI, nI_add, n_1058, n_1, Nat.not_le.mpr hk, ↓reduceIte, t_ai4 (show i + k < 2116 by omega), t_si1 hb (show j + k < 1058 by omega), tF_ne (show 4 ≠ 1 by omega), tF_at, tA_eq, tF_tF, cpy_s]
  · intro self
    unfold bX2_copies_3
    simp (disch := omega) only [nI_leI, n_1058, Nat.le_refl, ↓reduceIte]
theorem t_thinks (hb : G.1 ≤ b) (hN : 2000 < N) : sX2_thinks G N (some b) (hT b T h) = some (.inl (), hT b (tF T 2 (cpy (T.2.2.1 2) (T.2.2.1 1) 0 0 1058)) h) := by
  unfold sX2_thinks
  simp only [t_fr1, t_fr2, n_0, t_cp12 (show 0 + 1058 ≤ 1058 by omega) (show 0 + 1058 ≤ 1058 by omega) hb hN, l_bnd]
theorem t_back {v : Int32} (hb : G.1 ≤ b) (hN : 2000 < N) : sX2_back G N (some b) v (hT b T h) = some (.inl v, hT b (tF T 1 (cpy (T.2.2.1 1) (T.2.2.1 2) 0 0 1058)) h) := by
  unfold sX2_back
  simp only [t_fr1, t_fr2, n_0, t_cp21 (show 0 + 1058 ≤ 1058 by omega) (show 0 + 1058 ≤ 1058 by omega) hb hN, l_bnd]
/-- a thought, and back: now is as it was, where nothing beyond the row changed -/
theorem t_there {A R R' : Row} (h : ∀ q, 1058 ≤ q → R' q = R q) : cpy R' (cpy A R 0 0 1058) 0 0 1058 = R := funext fun q => by
  by_cases hq : q < 1058
  · have h1 := cpy_in (g := R') (f := cpy A R 0 0 1058) (i := 0) (j := 0) (n := 1058) hq
    have h2 := cpy_in (g := A) (f := R) (i := 0) (j := 0) (n := 1058) hq
    simp only [Nat.zero_add] at h1 h2
    rw [h1, h2]
  · rw [cpy_out (by omega)]
    exact h q (by omega)
end T5
theorem fTick_far {R : Row} (H : ROK R) {q : Nat} (hq : 1058 ≤ q) : fTick R q = R q := by
  have H' := H
  obtain ⟨h6, h7, h8, h9, l6, l7, l8, l9, hv⟩ := H
  unfold fTick
  rw [jO_ne l6 l7 (by omega) (by omega) (by omega)]
  unfold fForget
  rw [if_neg (by omega), l_upd_ne (by omega)]
theorem fTicks_far {R : Row} (H : ROK R) {q : Nat} (hq : 1058 ≤ q) (n : Nat) : fTicks R n q = R q := by
  induction n with
  | zero => rfl
  | succ n ih => exact (fTick_far (fTicks_ok H n).1 hq).trans ih
theorem fTick_time {R : Row} (H : ROK R) : fTick R 90 = R 90 + nI 1 := by
  have H' := H
  obtain ⟨h6, h7, h8, h9, l6, l7, l8, l9, hv⟩ := H
  unfold fTick
  rw [jO_ne l6 l7 (by omega) (by omega) (by omega), fForget_ne (by omega), l_upd_eq]
theorem fTicks_time {R : Row} (H : ROK R) {t : Nat} (ht : R 90 = nI t) (n : Nat) : fTicks R n 90 = nI (t + n) := by
  induction n with
  | zero => exact ht
  | succ n ih =>
    show fTick (fTicks R n) 90 = _
    rw [fTick_time (fTicks_ok H n).1, ih, nI_add]
    rfl
/-- a flare is seen -/
noncomputable def voteMade (R : Row) (p : Prop) : Int32 := nI 2 * R 90 + @ite Int32 p (Classical.propDecidable p) (nI 2) (nI 1)
noncomputable def fShow (R : Row) (set : Int32) (c s : Nat) (v : Int32) : Nat → Row
  | 0 => R
  | n + 1 => @ite Row (hasB set (nI n)) (Classical.propDecidable _) (upd (fShow R set c s v n) (258 + 80 * n + 8 * c + s) v) (fShow R set c s v n)
theorem fShow_ne {R : Row} {set : Int32} {c s : Nat} {v : Int32} {n j : Nat} (h : ∀ k, k < n → j ≠ 258 + 80 * k + 8 * c + s) : fShow R set c s v n j = R j := by
  induction n with
  | zero => rfl
  | succ n ih =>
    unfold fShow
    by_cases hc : hasB set (nI n)
    · rw [if_pos hc, l_upd_ne (h n (by omega))]
      exact ih (fun k hk => h k (by omega))
    · rw [if_neg hc]
      exact ih (fun k hk => h k (by omega))
theorem fShow_or {R : Row} {set : Int32} {c s : Nat} {v : Int32} {n j : Nat} : fShow R set c s v n j = R j ∨ fShow R set c s v n j = v := by
  induction n with
  | zero => exact Or.inl rfl
  | succ n ih =>
    unfold fShow
    by_cases hc : hasB set (nI n)
    · rw [if_pos hc]
      by_cases hj : j = 258 + 80 * n + 8 * c + s
      · rw [hj, l_upd_eq]; exact Or.inr rfl
      · rw [l_upd_ne hj]; exact ih
    · rw [if_neg hc]; exact ih
theorem voteMade_nI {R : Row} {p : Prop} {t : Nat} (ht : R 90 = nI t) : voteMade R p = nI (mv t p) := by
  unfold voteMade mv
  rw [ht, pk_mul]
  by_cases hp : p
  · rw [if_pos hp, if_pos hp, nI_add]
  · rw [if_neg hp, if_neg hp, nI_add]
theorem mv_lt {t : Nat} {p : Prop} : mv t p ≤ 2 * t + 2 := by
  unfold mv
  by_cases hp : p
  · rw [if_pos hp]; omega
  · rw [if_neg hp]; omega
theorem fShow_ok {R : Row} (H : ROK R) {set : Int32} {c s n m : Nat} {v : Int32} (hv : v = nI m) (hm : m < 20000) : ROK (fShow R set c s v n) ∧ cN (fShow R set c s v n) = cN R ∧ sN (fShow R set c s v n) = sN R ∧ rN (fShow R set c s v n) = rN R ∧ fN (fShow R set c s v n) = fN R :=
  H.of (fShow_ne (fun k _ => by omega)) (fShow_ne (fun k _ => by omega)) (fShow_ne (fun k _ => by omega)) (fShow_ne (fun k _ => by omega)) (fun j _ _ => by
    rcases fShow_or (R := R) (set := set) (c := c) (s := s) (v := v) (n := n) (j := j) with e | e
    · exact Or.inl e
    · exact Or.inr ⟨m, hm, e.trans hv⟩)
section T6
variable {G : GG} {N b : Nat} {T : TS} {h : Hp}
theorem p_madeI {t : Int32} {p : Prop} : sX2_made G N t (bZ p) h = some (.inl (nI 2 * t + @ite Int32 p (Classical.propDecidable p) (nI 2) (nI 1)), h) := by
  unfold sX2_made
  simp only [l_J]
  by_cases hp : p
  · rw [bZ_t hp, if_neg (by decide), if_pos hp]; rfl
  · rw [bZ_f hp, if_pos rfl, if_neg hp]; rfl
theorem t_shows {c s : Nat} {p : Prop} {rd : Int32} (H : ROK (T.2.2.1 1)) (hb : G.1 ≤ b) (hc : c < 10) (hs : s < 8) (hr : rd = bZ p) (hN : 20 < N) : sX2_shows G N (some b) (nI c) (nI s) rd (hT b T h) = some (.inl (qSeen (T.2.2.1 1) c), hT b (tF T 1 (fShow (T.2.2.1 1) (qSeen (T.2.2.1 1) c) c s (voteMade (T.2.2.1 1) p) (cN (T.2.2.1 1)))) h) := by
  classical
  have H' := H
  subst hr
  obtain ⟨h6, h7, h8, h9, l6, l7, l8, l9, hv⟩ := H
  unfold sX2_shows
  simp only [t_bV, t_seen H' (show c < 100 by omega) hN, l_bnd]
  refine lp_h (cN (T.2.2.1 1)) (fun k => nI k) (fun k => hT b (tF T 1 (fShow (T.2.2.1 1) (qSeen (T.2.2.1 1) c) c s (voteMade (T.2.2.1 1) p) k)) h) (by omega) rfl (congrArg (fun z => hT b z h) (tF_self rfl)) ?_ ?_
  · intro k hk self
    have e6 := fShow_ne (R := T.2.2.1 1) (set := qSeen (T.2.2.1 1) c) (c := c) (s := s) (v := voteMade (T.2.2.1 1) p) (n := k) (j := 6) (fun k _ => by omega)
    have e90 := fShow_ne (R := T.2.2.1 1) (set := qSeen (T.2.2.1 1) c) (c := c) (s := s) (v := voteMade (T.2.2.1 1) p) (n := k) (j := 90) (fun k _ => by omega)
    unfold bX2_shows_10
    simp (disch := omega) only [Nat.one_ne_zero, Nat.reduceEqDiff, Nat.reduceLeDiff, l_J, l_let, l_bnd, l_bndx, l_bI, l_NN, bZ_0, bZ_0n, bZ_1n, l_RZb, l_RZ0n, l_RZ1n, ↓reduceIte, not_true, not_false_iff, and_true, true_and, and_false, false_and, pk_mul, nI_add, nI_leI, nI_ltI, nI_eq, ni_sub1, n_0, n_1, n_2, n_3, n_4, n_5, n_6, n_7, n_8, n_9, n_10, n_11, n_12, n_13, n_14, n_15, n_16, n_20, n_24, n_27, n_30, n_31, n_32, n_40, n_47, n_50, n_57, n_58, n_59, n_64, n_72, n_80, n_90, n_91, n_92, n_93, n_94, n_95, n_96, n_97, n_98, n_99, n_100, n_122, n_128, n_138, n_148, n_158, n_168, n_178, n_200, n_255, n_258, n_300, n_700, n_999, n_1058, n_2116, n_5000, n_8464, n_7406, t_bV, t_fr1, t_ai1, p_in, p_max, p_min, p_abs, p_cabinAt, p_slopeAt, p_voteAt, p_has, p_madeI, tF_at, e6, e90, h6, Nat.not_le.mpr hk, t_si1 hb, tA_eq, tF_tF]
    by_cases h1 : hasB (qSeen (T.2.2.1 1) c) (nI k)
    · simp only [h1, not_true, ↓reduceIte, fShow]; rfl
    · simp only [h1, not_false_iff, ↓reduceIte, fShow]
  · intro self
    have e6 := fShow_ne (R := T.2.2.1 1) (set := qSeen (T.2.2.1 1) c) (c := c) (s := s) (v := voteMade (T.2.2.1 1) p) (n := cN (T.2.2.1 1)) (j := 6) (fun k _ => by omega)
    unfold bX2_shows_10
    simp (disch := omega) only [Nat.one_ne_zero, Nat.reduceEqDiff, Nat.reduceLeDiff, l_J, l_let, l_bnd, l_bndx, l_bI, l_NN, bZ_0, bZ_0n, bZ_1n, l_RZb, l_RZ0n, l_RZ1n, ↓reduceIte, not_true, not_false_iff, and_true, true_and, and_false, false_and, pk_mul, nI_add, nI_leI, nI_ltI, nI_eq, ni_sub1, n_0, n_1, n_2, n_3, n_4, n_5, n_6, n_7, n_8, n_9, n_10, n_11, n_12, n_13, n_14, n_15, n_16, n_20, n_24, n_27, n_30, n_31, n_32, n_40, n_47, n_50, n_57, n_58, n_59, n_64, n_72, n_80, n_90, n_91, n_92, n_93, n_94, n_95, n_96, n_97, n_98, n_99, n_100, n_122, n_128, n_138, n_148, n_158, n_168, n_178, n_200, n_255, n_258, n_300, n_700, n_999, n_1058, n_2116, n_5000, n_8464, n_7406, t_bV, t_fr1, t_ai1, p_in, p_max, p_min, p_abs, p_cabinAt, p_slopeAt, p_voteAt, tF_at, e6, h6, Nat.le_refl]
/-- what was thrown -/
noncomputable def th3 (p q r : Prop) : Int32 := @ite Int32 p (Classical.propDecidable p) (@ite Int32 q (Classical.propDecidable q) (@ite Int32 r (Classical.propDecidable r) 0 3) 2) 1
theorem t_may {p q r : Prop} {x y z : Int32} (hb : G.1 ≤ b) (hx : x = bZ p) (hy : y = bZ q) (hz : z = bZ r) : sX2_may G N (some b) x y z (hT b T h) = some (.inl (bZ (p ∧ q ∧ r)), hT b (tI T 0 (th3 p q r)) h) := by
  subst hx
  subst hy
  subst hz
  unfold sX2_may th3
  simp only [l_J, t_pi0 hb, t_fi0, tI_at]
  by_cases hp : p
  · rw [bZ_t hp, if_neg (by decide), if_pos hp]
    by_cases hq : q
    · rw [bZ_t hq, if_neg (by decide), if_pos hq]
      by_cases hr : r
      · rw [bZ_t hr, if_neg (by decide), if_pos hr, if_pos trivial, bZ_t ⟨hp, hq, hr⟩]; rfl
      · rw [bZ_f hr, if_pos rfl, if_neg hr, if_neg (by decide), bZ_f (fun e => hr e.2.2)]; rfl
    · rw [bZ_f hq, if_pos rfl, if_neg hq, if_neg (by decide), bZ_f (fun e => hq e.2.1)]; rfl
  · rw [bZ_f hp, if_pos rfl, if_neg hp, if_neg (by decide), bZ_f (fun e => hp e.1)]; rfl
theorem t_mayTwo {p q : Prop} {x y : Int32} (hb : G.1 ≤ b) (hx : x = bZ p) (hy : y = bZ q) : sX2_mayTwo G N (some b) x y (hT b T h) = some (.inl (bZ (p ∧ q)), hT b (tI T 0 (th3 p q True)) h) := by
  unfold sX2_mayTwo
  simp only [t_bV, t_may hb hx hy (show (1 : Int32) = bZ True from bZ_T), l_bnd, and_true, l_RZb]
/-- whether there is a cabin, a slope so -/
def inC (R : Row) (x : Int32) : Prop := 0 ≤ x ∧ x ≤ R 6 - 1
def inS (R : Row) (x : Int32) : Prop := 0 ≤ x ∧ x ≤ R 7 - 1
theorem t_mayCabin {p : Prop} {x : Int32} (hb : G.1 ≤ b) (hp : T.1 8 = bZ p) : sX2_mayCabin G N (some b) x (hT b T h) = some (.inl (bZ (p ∧ inC (T.2.2.1 1) x)), hT b (tI T 0 (th3 p (inC (T.2.2.1 1) x) True)) h) := by
  unfold sX2_mayCabin
  simp only [t_fi8, t_bV, t_isCabin, l_bnd, t_mayTwo hb hp rfl, l_RZb]
  rfl
theorem t_maySlope {p : Prop} {x : Int32} (hb : G.1 ≤ b) (hp : T.1 8 = bZ p) : sX2_maySlope G N (some b) x (hT b T h) = some (.inl (bZ (p ∧ inS (T.2.2.1 1) x)), hT b (tI T 0 (th3 p (inS (T.2.2.1 1) x) True)) h) := by
  unfold sX2_maySlope
  simp only [t_fi8, t_bV, t_isSlope, l_bnd, t_mayTwo hb hp rfl, l_RZb]
  rfl
theorem t_mayBoth {p : Prop} {x y : Int32} (hb : G.1 ≤ b) (hp : T.1 8 = bZ p) : sX2_mayBoth G N (some b) x y (hT b T h) = some (.inl (bZ (p ∧ inC (T.2.2.1 1) x ∧ inS (T.2.2.1 1) y)), hT b (tI T 0 (th3 p (inC (T.2.2.1 1) x ∧ inS (T.2.2.1 1) y) True)) h) := by
  unfold sX2_mayBoth
  simp only [t_fi8, t_bV, t_isCabin, t_isSlope, l_bnd, l_J]
  by_cases h1 : inC (T.2.2.1 1) x
  · rw [show bZ (0 ≤ x ∧ x ≤ T.2.2.1 1 6 - 1) = 1 from bZ_t h1, if_neg (by decide)]
    by_cases h2 : inS (T.2.2.1 1) y
    · rw [show bZ (0 ≤ y ∧ y ≤ T.2.2.1 1 7 - 1) = 1 from bZ_t h2, if_neg (by decide)]
      simp only [t_mayTwo hb hp (bZ_t (⟨h1, h2⟩ : inC (T.2.2.1 1) x ∧ inS (T.2.2.1 1) y)).symm, l_bnd, l_RZb]
    · rw [show bZ (0 ≤ y ∧ y ≤ T.2.2.1 1 7 - 1) = 0 from bZ_f h2, if_pos rfl]
      simp only [t_mayTwo hb hp (bZ_f (fun e => h2 e.2) : bZ (inC (T.2.2.1 1) x ∧ inS (T.2.2.1 1) y) = 0).symm, l_bnd, l_RZb]
  · rw [show bZ (0 ≤ x ∧ x ≤ T.2.2.1 1 6 - 1) = 0 from bZ_f h1, if_pos rfl]
    simp only [t_mayTwo hb hp (bZ_f (fun e => h1 e.1) : bZ (inC (T.2.2.1 1) x ∧ inS (T.2.2.1 1) y) = 0).symm, l_bnd, l_RZb]
theorem t_mayCabins {p : Prop} {x y : Int32} (hb : G.1 ≤ b) (hp : T.1 8 = bZ p) : sX2_mayCabins G N (some b) x y (hT b T h) = some (.inl (bZ (p ∧ inC (T.2.2.1 1) x ∧ inC (T.2.2.1 1) y)), hT b (tI T 0 (th3 p (inC (T.2.2.1 1) x ∧ inC (T.2.2.1 1) y) True)) h) := by
  unfold sX2_mayCabins
  simp only [t_fi8, t_bV, t_isCabin, l_bnd, l_J]
  by_cases h1 : inC (T.2.2.1 1) x
  · rw [show bZ (0 ≤ x ∧ x ≤ T.2.2.1 1 6 - 1) = 1 from bZ_t h1, if_neg (by decide)]
    by_cases h2 : inC (T.2.2.1 1) y
    · rw [show bZ (0 ≤ y ∧ y ≤ T.2.2.1 1 6 - 1) = 1 from bZ_t h2, if_neg (by decide)]
      simp only [t_mayTwo hb hp (bZ_t (⟨h1, h2⟩ : inC (T.2.2.1 1) x ∧ inC (T.2.2.1 1) y)).symm, l_bnd, l_RZb]
    · rw [show bZ (0 ≤ y ∧ y ≤ T.2.2.1 1 6 - 1) = 0 from bZ_f h2, if_pos rfl]
      simp only [t_mayTwo hb hp (bZ_f (fun e => h2 e.2) : bZ (inC (T.2.2.1 1) x ∧ inC (T.2.2.1 1) y) = 0).symm, l_bnd, l_RZb]
  · rw [show bZ (0 ≤ x ∧ x ≤ T.2.2.1 1 6 - 1) = 0 from bZ_f h1, if_pos rfl]
    simp only [t_mayTwo hb hp (bZ_f (fun e => h1 e.1) : bZ (inC (T.2.2.1 1) x ∧ inC (T.2.2.1 1) y) = 0).symm, l_bnd, l_RZb]
end T6
