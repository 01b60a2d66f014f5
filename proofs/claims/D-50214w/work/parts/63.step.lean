/-! a state: one step of it; deciding -/
set_option maxRecDepth 100000
set_option maxHeartbeats 2000000
def RunB (u : Nat) (R : Row) : Prop := ∀ j, 178 ≤ j → j < 258 → -(u : Int) ≤ (R j).toInt ∧ (R j).toInt ≤ u
def HelB (R : Row) : Prop := ∀ k, k < 10 → ∃ m, m < 256 ∧ R (138 + k) = nI m
/-- tags that differ -/
def TG (y : Nat → Nat) : Prop := (∀ i j, y i = y j → i = j) ∧ ∀ i, 3 < y i
def CRow (R R' : Row) (k : Nat) : Prop := (∀ i, i < 3 → R' (10 + 3 * k + i) = R (10 + 3 * k + i)) ∧ R' (148 + k) = R (148 + k) ∧ R' (158 + k) = R (158 + k) ∧ R' (168 + k) = R (168 + k) ∧ R' (138 + k) = R (138 + k) ∧ (∀ s, s < 8 → R' (178 + 8 * k + s) = R (178 + 8 * k + s)) ∧ ∀ p, p < 80 → R' (258 + 80 * k + p) = R (258 + 80 * k + p)
/-- the same but for the votes -/
theorem neg_le {r : Int32} {u : Nat} (hu : u < 2 ^ 30) (h : -(u : Int) ≤ r.toInt ∧ r.toInt ≤ u) : (-1 : Int32) * r ≤ 0 ↔ 0 ≤ r := by
  rw [Int32.le_iff_toInt_le, Int32.le_iff_toInt_le, Int32.toInt_mul, show (-1 : Int32).toInt = -1 from rfl, show (0 : Int32).toInt = 0 from rfl]
  rw [Int.bmod_def]
  split <;> omega
theorem closeB : ∀ m, m < 256 → ∀ s, s < 8 → ¬ ((nI m >>> (nI s &&& 31)) &&& 1) = 1 → nI m ||| (1 <<< (nI s &&& 31)) = nI m + (nI 1 <<< (nI s &&& nI 31)) ∧ (m ||| 2 ^ s) < 256 ∧ nI m + (nI 1 <<< (nI s &&& nI 31)) = nI (m ||| 2 ^ s) := by decide +kernel
theorem openB : ∀ m, m < 256 → ∀ s, s < 8 → ((nI m >>> (nI s &&& 31)) &&& 1) = 1 → nI m &&& ((1 <<< (nI s &&& 31)) ^^^ (-1)) = nI m - (nI 1 <<< (nI s &&& nI 31)) ∧ (m - 2 ^ s) < 256 ∧ nI m - (nI 1 <<< (nI s &&& nI 31)) = nI (m - 2 ^ s) := by decide +kernel
section E1
variable {S : Nat → Prop} {b c t o : Nat} {G : GG} {N : Nat} {h h' : Hp} {w w' y : Nat → Nat} {st : Nat} {R R' : Row} {nl : Nat → List Nat} {mt cl se bu rd gr : Nat} {cb ru mp sp nn : Nat → Nat} {es : Nat → List En}
theorem CabO.row {t2 cb ru mp nn : Nat} {es : List En} (A : CabO b h w t t2 o R cb ru mp nn es) (C : CRow R R' o) (c1 : cN R' = cN R) (c2 : sN R' = sN R) : CabO b h w t t2 o R' cb ru mp nn es := by
  obtain ⟨a1, a2, ⟨a3, f, a4, a5⟩, a6, a7⟩ := A
  obtain ⟨d1, d2, d3, d4, d5, d6, d7⟩ := C
  have e0 := d1 0 (by omega)
  rw [Nat.add_zero] at e0
  refine ⟨a1, ?_, ⟨a3, f, a4, fun s hs => by rw [d6 s hs]; exact a5 s hs⟩, a6, a7.row c1 c2 d7⟩
  rw [e0, d1 1 (by omega), d1 2 (by omega), d2, d3, d4, d5]
  exact a2
theorem TG.ne {i j : Nat} (Y : TG y) (h : i ≠ j) : y i ≠ y j := fun e => h (Y.1 i j e)
theorem TG.nS {i j l k : Nat} (Y : TG y) (h1 : k ≠ i) (h2 : k ≠ j) (h3 : k ≠ l) : ¬ (y k = y i ∨ y k = y j ∨ y k = y l) := fun q => q.elim (Y.ne h1) (fun q => q.elim (Y.ne h2) (Y.ne h3))
theorem TG.lo {i j l k : Nat} (Y : TG y) (hk : k ≤ 3) : ¬ (k = y i ∨ k = y j ∨ k = y l) := fun q => by have := Y.2 i; have := Y.2 j; have := Y.2 l; omega
/-- a step that changes a state's own cells and those of one cabin -/
theorem StX.step {nn' : Nat} {es' : List En} (A : StX b h w y st R nl mt cl se bu rd gr cb ru mp sp nn es) (Y : TG y) (T : Tr (fun t => t = y 0 ∨ t = y (2 * o + 1) ∨ t = y (2 * o + 2)) c h w h' w') (H' : ROK R') (c1 : cN R' = cN R) (c2 : sN R' = sN R) (e1 : ∀ j, (6 ≤ j ∧ j ≤ 9) ∨ (40 ≤ j ∧ j < 90) → R' j = R j) (n1 : StC h' st R' mt cl se bu rd gr) (n2 : SetR h' se R') (n3 : BuR b h' w' (y 0) bu R') (hc : ∀ k, k < cN R → k ≠ o → CRow R R' k) (n4 : o < cN R → CabO b h' w' (y (2 * o + 1)) (y (2 * o + 2)) o R' (cb o) (ru o) (mp o) nn' es') (n5 : ∀ j, 258 + 80 * cN R ≤ j → j < 1058 → R' j = nI 0) :
    StX b h' w' y st R' nl mt cl se bu rd gr cb ru mp sp (va_up nn o nn') (va_up es o es') := by
  obtain ⟨a1, a2, ⟨a3, a4⟩, a6, a7, a8, a9, a10, a11, a12⟩ := A
  refine ⟨n1, a2.keep T, ⟨a3.keep T, n2⟩, n3, a7.keep T (Y.lo (by omega)), (a8.keep T (Y.lo (by omega))).row a11 e1, by rw [c1]; exact a9.keep T (Y.lo (by omega)), fun k hk => ?_, H', by rw [c1]; exact n5⟩
  rw [c1] at hk
  by_cases hq : k = o
  · subst hq
    rw [va_upE, if_pos rfl, va_upE, if_pos rfl]
    exact n4 hk
  · rw [va_upE, if_neg hq, va_upE, if_neg hq]
    exact ((a10 k hk).keep T (Y.lo (by omega)) (Y.nS (by omega) (by omega) (by omega)) (by have := Y.2 (2 * k + 1); omega) (Y.nS (by omega) (by omega) (by omega))).row (hc k hk hq) c1 c2
theorem va_self {α : Type} {f : Nat → α} {o : Nat} : va_up f o (f o) = f := funext fun j => by
  rw [va_upE]
  by_cases h : j = o
  · rw [if_pos h, h]
  · rw [if_neg h]
theorem runThen_is {u s : Nat} (hu : u < 2 ^ 30) (B : RunB u R) (ho : o < 10) (hs : s < 8) : (if qRule R o s = 0 then (0 : Int32) else if qRule R o s * R (178 + 8 * o + s) ≤ 0 then qRule R o s else R (178 + 8 * o + s) + qRule R o s) = runThen R o s ∧ -((u + 1 : Nat) : Int) ≤ (runThen R o s).toInt ∧ (runThen R o s).toInt ≤ ((u + 1 : Nat) : Int) := by
  have b := B (178 + 8 * o + s) (by omega) (by omega)
  generalize hr : R (178 + 8 * o + s) = r at b
  have three : qRule R o s = nI 1 ∨ qRule R o s = -nI 1 ∨ qRule R o s = nI 0 := by
    unfold qRule
    split
    · exact Or.inl rfl
    · split
      · exact Or.inr (Or.inl rfl)
      · exact Or.inr (Or.inr rfl)
  unfold runThen
  rw [hr]
  have i0 : (nI 0 : Int32) = 0 := rfl
  have i1 : (nI 1 : Int32) = 1 := rfl
  rcases three with q | q | q
  · rw [q, if_neg (show ¬ (nI 1 : Int32) = 0 by decide), if_neg (show ¬ (nI 1 : Int32) = nI 0 by decide), if_neg (show ¬ (nI 1 : Int32) ≤ nI 0 by decide), i1, Int32.one_mul]
    unfold imax
    rw [i0]
    by_cases h0 : r ≤ 0
    · rw [if_pos h0, if_neg (Int32.not_lt.mpr h0)]
      exact ⟨rfl, by rw [show ((0 : Int32) + 1).toInt = 1 from rfl]; omega, by rw [show ((0 : Int32) + 1).toInt = 1 from rfl]; omega⟩
    · rw [if_neg h0, if_pos (Int32.not_le.mp h0)]
      have h2 : 0 < r.toInt := by
        have := Int32.lt_iff_toInt_lt.mp (Int32.not_le.mp h0)
        exact this
      refine ⟨rfl, ?_, ?_⟩
      · rw [Int32.toInt_add, show (1 : Int32).toInt = 1 from rfl, Int.bmod_def]; split <;> omega
      · rw [Int32.toInt_add, show (1 : Int32).toInt = 1 from rfl, Int.bmod_def]; split <;> omega
  · rw [q, if_neg (show ¬ (-nI 1 : Int32) = 0 by decide), if_neg (show ¬ (-nI 1 : Int32) = nI 0 by decide), if_pos (show (-nI 1 : Int32) ≤ nI 0 by decide), show (-nI 1 : Int32) = -1 from rfl]
    unfold imin
    rw [i0, i1]
    by_cases h0 : 0 ≤ r
    · rw [if_pos ((neg_le hu b).mpr h0), if_neg (Int32.not_lt.mpr h0)]
      exact ⟨rfl, by rw [show ((0 : Int32) - 1).toInt = -1 from rfl]; omega, by rw [show ((0 : Int32) - 1).toInt = -1 from rfl]; omega⟩
    · rw [if_neg (fun q => h0 ((neg_le hu b).mp q)), if_pos (Int32.not_le.mp h0)]
      refine ⟨(Int32.sub_eq_add_neg r 1).symm, ?_, ?_⟩
      · rw [Int32.toInt_sub, show (1 : Int32).toInt = 1 from rfl, Int.bmod_def]; split <;> omega
      · rw [Int32.toInt_sub, show (1 : Int32).toInt = 1 from rfl, Int.bmod_def]; split <;> omega
  · rw [q, if_pos (show (nI 0 : Int32) = 0 from rfl), if_pos rfl, i0]
    exact ⟨rfl, by rw [show (0 : Int32).toInt = 0 from rfl]; omega, by rw [show (0 : Int32).toInt = 0 from rfl]; omega⟩
theorem fJudge_run {u s : Nat} (hu : u < 2 ^ 30) (B : RunB u R) (ho : o < 10) (hs : s < 8) : RunB (u + 1) (fJudge R o s) := by
  intro j j1 j2
  have hv := (runThen_is hu B ho hs).2
  have key : fJudge R o s j = (if j = 178 + 8 * o + s then runThen R o s else R j) := by
    unfold fJudge
    by_cases c1 : ¬ hasB (R (138 + o)) (nI s) ∧ R 3 ≤ runThen R o s
    · rw [if_pos c1, l_upd_ne (by omega), l_upd_ne (by omega), l_upd]
    · rw [if_neg c1]
      by_cases c2 : hasB (R (138 + o)) (nI s) ∧ runThen R o s ≤ - R 4
      · rw [if_pos c2, l_upd_ne (by omega), l_upd_ne (by omega), l_upd]
      · rw [if_neg c2, l_upd]
  rw [key]
  by_cases hq : j = 178 + 8 * o + s
  · rw [if_pos hq]; exact hv
  · rw [if_neg hq]
    have := B j j1 j2
    omega
theorem fJudge_hel {s : Nat} (B : HelB R) (ho : o < 10) (hs : s < 8) : HelB (fJudge R o s) := by
  intro k hk
  by_cases hq : k = o
  · subst hq
    obtain ⟨m, m1, m2⟩ := B k hk
    unfold fJudge
    by_cases c1 : ¬ hasB (R (138 + k)) (nI s) ∧ R 3 ≤ runThen R k s
    · rw [if_pos c1, l_upd_ne (by omega), l_upd_eq, m2]
      have := closeB m m1 s hs (by rw [← m2]; exact c1.1)
      exact ⟨_, this.2.1, this.2.2⟩
    · rw [if_neg c1]
      by_cases c2 : hasB (R (138 + k)) (nI s) ∧ runThen R k s ≤ - R 4
      · rw [if_pos c2, l_upd_ne (by omega), l_upd_eq, m2]
        have := openB m m1 s hs (by rw [← m2]; exact c2.1)
        exact ⟨_, this.2.1, this.2.2⟩
      · rw [if_neg c2, l_upd_ne (by omega)]
        exact ⟨m, m1, m2⟩
  · rw [fJudge_ne (by omega) (by omega) (by omega) (by omega)]
    exact B k hk
end E1
