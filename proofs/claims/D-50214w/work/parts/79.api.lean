/-! the component's own face: what is thrown, what is checked, what is changed -/
set_option maxRecDepth 100000
set_option maxHeartbeats 2000000
section Z1
variable {α β : Type} {G : GG} {N : Nat} {h : Hp}
/-- the heap with what is thrown -/
def exH (ci : Nat) (h : Hp) : Hp := hnw h (.inr (ci, [])) 6
theorem l_thr {ci : Nat} (hb : G.1 ≤ h.1) : gMk h ci (fun v h4 => (gThr G v h4 : Out α)) = some (.inr h.1, exH ci h) := by
  unfold gMk gThr exH
  simp only [hnw_at]
  rw [if_pos hb]
theorem exH_at {ci : Nat} : (exH ci h).2.2 h.1 = some (.inr (ci, [])) := hnw_at
theorem exH_tr {ci : Nat} {w : Nat → Nat} : Tr (fun _ => False) 2 h w (exH ci h) (nw w h.1 0) := ⟨by unfold exH; rw [hnw_1]; omega, by unfold exH; rw [hnw_1]; omega, by unfold exH; rw [hnw_2]; omega, fun q hq => nw_lt hq, fun q hq _ => Or.inl (hnw_ne (by omega))⟩
theorem l_bVXok {x : Nat} {fs : List Value} {f : Nat → Out β} {k : β → Hp → Out α} {kx : Nat → Hp → Out α} {v : β} {h2 : Hp} (e : h.2.2 x = some (.inr (3, fs))) (hf : f x = some (.inl v, h2)) : bVX h (some x) 3 f k kx = k v h2 := by
  unfold bVX bndX
  simp only [e, if_true, hf]
theorem l_bVXex {x q : Nat} {fs : List Value} {f : Nat → Out β} {k : β → Hp → Out α} {kx : Nat → Hp → Out α} {h2 : Hp} (e : h.2.2 x = some (.inr (3, fs))) (hf : f x = some (.inr q, h2)) : bVX h (some x) 3 f k kx = kx q h2 := by
  unfold bVX bndX
  simp only [e, if_true, hf]
theorem l_Swy {q c : Nat} {fs : List Value} {o1 o2 : Out α} (e : h.2.2 q = some (.inr (c, fs))) : gSw h (some q) c o1 o2 = o1 := by
  unfold gSw; simp only [e, if_true]
theorem l_Swn {q c c' : Nat} {fs : List Value} {o1 o2 : Out α} (e : h.2.2 q = some (.inr (c', fs))) (hc : c' ≠ c) : gSw h (some q) c o1 o2 = o2 := by
  unfold gSw; simp only [e, if_neg hc]
theorem ni_toI {n : Nat} (h : n < 2 ^ 31) : (nI n).toInt = (n : Int) := Int32.toInt_ofNat_of_lt h
/-- an index that is one -/
def inR (a : Int32) (n : Nat) : Prop := 0 ≤ a ∧ a ≤ nI n - 1
theorem inR_of {a : Int32} {n : Nat} (hn : n < 100000) (h : inR a n) : ∃ k, k < n ∧ a = nI k := by
  obtain ⟨h1, h2⟩ := h
  have e1 : 0 ≤ a.toInt := Int32.le_iff_toInt_le.mp h1
  have e2 := Int32.le_iff_toInt_le.mp h2
  have e3 : (nI n - 1).toInt = (n : Int) - 1 := by
    rw [Int32.toInt_sub, ni_toI (by omega), show (1 : Int32).toInt = 1 from rfl, Int.bmod_def]
    split <;> omega
  rw [e3] at e2
  refine ⟨a.toInt.toNat, by omega, ?_⟩
  rw [← Int32.toInt_inj, ni_toI (by omega)]
  omega
theorem inR_nI {k n : Nat} (hn : n < 100000) (hk : k < n) : inR (nI k) n := by
  refine ⟨by rw [n_0]; exact (nI_leI (by omega) (by omega)).mpr (by omega), ?_⟩
  rw [n_1, pk_sub (by omega)]
  exact (nI_leI (by omega) (by omega)).mpr (by omega)
theorem ck_ok {a : Int32} {n : Nat} (h1 : inR a n) : sX1_checkIndex G N a (nI n) h = some (.inl (), h) := by
  unfold sX1_checkIndex
  rw [c_in, l_bnd, if_neg (fun q => (bZ_0 (p := 0 ≤ a ∧ a ≤ nI n - 1)).mp q h1)]
theorem ck_no {a : Int32} {n : Nat} (hb : G.1 ≤ h.1) (h1 : ¬ inR a n) : sX1_checkIndex G N a (nI n) h = some (.inr h.1, exH 2 h) := by
  unfold sX1_checkIndex
  rw [c_in, l_bnd, if_pos ((bZ_0 (p := 0 ≤ a ∧ a ≤ nI n - 1)).mpr h1), l_thr hb]
theorem ca_ok {p : Prop} (h1 : p) : sX1_checkArgument G N (bZ p) h = some (.inl (), h) := by
  unfold sX1_checkArgument
  rw [if_neg (fun q => bZ_0.mp q h1)]
theorem ca_no {p : Prop} (hb : G.1 ≤ h.1) (h1 : ¬ p) : sX1_checkArgument G N (bZ p) h = some (.inr h.1, exH 1 h) := by
  unfold sX1_checkArgument
  rw [if_pos (bZ_0.mpr h1), l_thr hb]
theorem cs_ok {p : Prop} (h1 : p) : sX1_checkState G N (bZ p) h = some (.inl (), h) := by
  unfold sX1_checkState
  rw [if_neg (fun q => bZ_0.mp q h1)]
theorem cs_no {p : Prop} (hb : G.1 ≤ h.1) (h1 : ¬ p) : sX1_checkState G N (bZ p) h = some (.inr h.1, exH 0 h) := by
  unfold sX1_checkState
  rw [if_pos (bZ_0.mpr h1), l_thr hb]
/-- what x holds as its state -/
def XN (h : Hp) (x : Nat) (now : Option Nat) : Prop := ∃ fs, h.2.2 x = some (.inr (3, fs)) ∧ fs[4]? = some (va_rf now)
theorem XN.bV {x : Nat} {now : Option Nat} {g : Nat → Out β} {k : β → Hp → Out α} (X : XN h x now) : bV h (some x) 3 g k = bnd (g x) k := by
  obtain ⟨fs, e, -⟩ := X
  exact l_bV e
theorem XN.now {x : Nat} {now : Option Nat} {k : Option Nat → Out α} (X : XN h x now) : gFr h (some x) 3 4 k = k now := by
  obtain ⟨fs, e, e4⟩ := X
  exact l_Fv e e4
theorem ld_no {x : Nat} (hb : G.1 ≤ h.1) (X : XN h x none) : sX1_loaded G N (some x) h = some (.inr h.1, exH 0 h) := by
  unfold sX1_loaded
  rw [X.now, l_J, if_pos rfl, show (0 : Int32) = bZ False from (bZ_f id).symm]
  dsimp only
  rw [cs_no hb id, l_bndx]
theorem ld_ok {x st : Nat} (X : XN h x (some st)) : sX1_loaded G N (some x) h = some (.inl (some st), h) := by
  unfold sX1_loaded
  rw [X.now, l_J, if_neg (by simp), show (1 : Int32) = bZ True from (bZ_t trivial).symm]
  dsimp only
  rw [cs_ok trivial, l_bnd, X.now]
end Z1
section Z2
variable {α β : Type} {G : GG} {N : Nat} {h : Hp} {R : Row} {x st : Nat} {mt cl se bu rd gr : Nat} {cb ru mp sp : Nat → Nat}
theorem wc_0 {a : Int32} (hb : G.1 ≤ h.1) (X : XN h x none) : sX1_withCabin G N (some x) a h = some (.inr h.1, exH 0 h) := by
  unfold sX1_withCabin
  rw [X.bV, ld_no hb X, l_bndx]
theorem wc_no {a : Int32} (hb : G.1 ≤ h.1) (X : XN h x (some st)) (Q : StQ h st R mt cl se bu rd gr cb ru mp sp) (ha : ¬ inR a (cN R)) : sX1_withCabin G N (some x) a h = some (.inr h.1, exH 2 h) := by
  unfold sX1_withCabin
  rw [X.bV, ld_ok X, l_bnd, st_bV Q.1, c_size Q.1 Q.2.1, l_bnd, ck_no hb ha, l_bndx]
theorem wc_ok {k : Nat} (X : XN h x (some st)) (Q : StQ h st R mt cl se bu rd gr cb ru mp sp) (hk : k < cN R) (hc : cN R ≤ 10) : sX1_withCabin G N (some x) (nI k) h = some (.inl (some (cb k)), h) := by
  unfold sX1_withCabin
  rw [X.bV, ld_ok X, l_bnd, st_bV Q.1, c_size Q.1 Q.2.1, l_bnd, ck_ok (inR_nI (by omega) hk), l_bnd, X.now, st_bV Q.1, c_cabin Q.1 Q.2.1 hk, l_bnd]
theorem wb_0 {a a2 : Int32} (hb : G.1 ≤ h.1) (X : XN h x none) : sX1_withBoth G N (some x) a a2 h = some (.inr h.1, exH 0 h) := by
  unfold sX1_withBoth
  rw [X.bV, wc_0 hb X, l_bndx]
theorem wb_no {a a2 : Int32} (hb : G.1 ≤ h.1) (X : XN h x (some st)) (Q : StQ h st R mt cl se bu rd gr cb ru mp sp) (ha : ¬ (inR a (cN R) ∧ inR a2 (sN R))) : sX1_withBoth G N (some x) a a2 h = some (.inr h.1, exH 2 h) := by
  have hc := Q.2.2.2.2.2.2.2.2.2.2.1
  unfold sX1_withBoth
  by_cases h1 : inR a (cN R)
  · obtain ⟨k, k1, k2⟩ := inR_of (by omega) h1
    rw [k2, X.bV, wc_ok X Q k1 hc, l_bnd, X.now, st_bV Q.1, c_slopes Q.1 Q.2.2.2.2.2.1, l_bnd, ck_no hb (fun q => ha ⟨h1, q⟩), l_bndx]
  · rw [X.bV, wc_no hb X Q h1, l_bndx]
theorem wb_ok {k s : Nat} (X : XN h x (some st)) (Q : StQ h st R mt cl se bu rd gr cb ru mp sp) (hk : k < cN R) (hs : s < sN R) : sX1_withBoth G N (some x) (nI k) (nI s) h = some (.inl (some (cb k)), h) := by
  have hc := Q.2.2.2.2.2.2.2.2.2.2.1
  have hS := Q.2.2.2.2.2.2.2.2.2.2.2.1
  unfold sX1_withBoth
  rw [X.bV, wc_ok X Q hk hc, l_bnd, X.now, st_bV Q.1, c_slopes Q.1 Q.2.2.2.2.2.1, l_bnd, ck_ok (inR_nI (by omega) hs), l_bnd]
theorem wt_0 {a a2 : Int32} (hb : G.1 ≤ h.1) (X : XN h x none) : sX1_withTwo G N (some x) a a2 h = some (.inr h.1, exH 0 h) := by
  unfold sX1_withTwo
  rw [X.bV, wc_0 hb X, l_bndx]
theorem wt_no {a a2 : Int32} (hb : G.1 ≤ h.1) (X : XN h x (some st)) (Q : StQ h st R mt cl se bu rd gr cb ru mp sp) (ha : ¬ (inR a (cN R) ∧ inR a2 (cN R))) : sX1_withTwo G N (some x) a a2 h = some (.inr h.1, exH 2 h) := by
  have hc := Q.2.2.2.2.2.2.2.2.2.2.1
  unfold sX1_withTwo
  by_cases h1 : inR a (cN R)
  · obtain ⟨k, k1, k2⟩ := inR_of (by omega) h1
    rw [k2, X.bV, wc_ok X Q k1 hc, l_bnd, X.now, st_bV Q.1, c_size Q.1 Q.2.1, l_bnd, ck_no hb (fun q => ha ⟨h1, q⟩), l_bndx]
  · rw [X.bV, wc_no hb X Q h1, l_bndx]
theorem wt_ok {k s : Nat} (X : XN h x (some st)) (Q : StQ h st R mt cl se bu rd gr cb ru mp sp) (hk : k < cN R) (hs : s < cN R) : sX1_withTwo G N (some x) (nI k) (nI s) h = some (.inl (some (cb k)), h) := by
  have hc := Q.2.2.2.2.2.2.2.2.2.2.1
  unfold sX1_withTwo
  rw [X.bV, wc_ok X Q hk hc, l_bnd, X.now, st_bV Q.1, c_size Q.1 Q.2.1, l_bnd, ck_ok (inR_nI (by omega) hs), l_bnd]
theorem ws_0 {a : Int32} (hb : G.1 ≤ h.1) (X : XN h x none) : sX1_withSlope G N (some x) a h = some (.inr h.1, exH 0 h) := by
  unfold sX1_withSlope
  rw [X.bV, ld_no hb X, l_bndx]
theorem ws_no {a : Int32} (hb : G.1 ≤ h.1) (X : XN h x (some st)) (Q : StQ h st R mt cl se bu rd gr cb ru mp sp) (ha : ¬ inR a (sN R)) : sX1_withSlope G N (some x) a h = some (.inr h.1, exH 2 h) := by
  unfold sX1_withSlope
  rw [X.bV, ld_ok X, l_bnd, st_bV Q.1, c_slopes Q.1 Q.2.2.2.2.2.1, l_bnd, ck_no hb ha, l_bndx]
theorem ws_ok {s : Nat} (X : XN h x (some st)) (Q : StQ h st R mt cl se bu rd gr cb ru mp sp) (hs : s < sN R) : sX1_withSlope G N (some x) (nI s) h = some (.inl (some (sp s)), h) := by
  have hS := Q.2.2.2.2.2.2.2.2.2.2.2.1
  unfold sX1_withSlope
  rw [X.bV, ld_ok X, l_bnd, st_bV Q.1, c_slopes Q.1 Q.2.2.2.2.2.1, l_bnd, ck_ok (inR_nI (by omega) hs), l_bnd, X.now, st_bV Q.1, c_slope Q.1 Q.2.2.2.2.2.1 hs, l_bnd]
end Z2
