/-! the component: what its cells say; its queries -/
set_option maxRecDepth 100000
set_option maxHeartbeats 1000000
section C0
variable {α β : Type} {h : Hp} {a ci k : Nat} {fs : List Value}
theorem l_Fr {y : Nat} {kont : Option Nat → Out α} (e : h.2.2 a = some (.inr (ci, fs))) (hk : fs[k]? = some (.ref y)) : gFr h (some a) ci k kont = kont (some y) := by
  unfold gFr gF; simp only [e, hk, if_true]
theorem l_Fn {kont : Option Nat → Out α} (e : h.2.2 a = some (.inr (ci, fs))) (hk : fs[k]? = some .null) : gFr h (some a) ci k kont = kont none := by
  unfold gFr gF; simp only [e, hk, if_true]
theorem l_Fi {y : Int32} {kont : Int32 → Out α} (e : h.2.2 a = some (.inr (ci, fs))) (hk : fs[k]? = some (.int y)) : gFi h (some a) ci k kont = kont y := by
  unfold gFi gF; simp only [e, hk, if_true]
theorem l_Ck {cs : List Nat} {kont : Out α} (e : h.2.2 a = some (.inr (ci, fs))) (hc : ci ∈ cs) : gCk h (some a) cs kont = kont := by
  unfold gCk; simp only [e, hc, if_true]
theorem l_Ai {t n i : Nat} {f : Nat → Int32} {kont : Int32 → Out α} (e : h.2.2 a = some (.inl (t, n, .inl f))) (hi : i < n) (hn : n < 2 ^ 31) : gAi h (some a) t (nI i) kont = kont (f i) := by
  unfold gAi; simp only [e]
  rw [if_pos ⟨trivial, nI_in hi hn⟩, nI_clamp (by omega)]
theorem l_Ar {t n i y : Nat} {f : Nat → Option Nat} {kont : Option Nat → Out α} (e : h.2.2 a = some (.inl (t, n, .inr (.inr (.inr (.inr f)))))) (hi : i < n) (hn : n < 2 ^ 31) (hy : f i = some y) : gAr h (some a) t (nI i) kont = kont (some y) := by
  unfold gAr; simp only [e]
  rw [if_pos ⟨trivial, nI_in hi hn⟩, nI_clamp (by omega), hy]
end C0
/-- a list of references -/
def AL (h : Hp) (a n : Nat) (x : Nat → Nat) : Prop := ∃ (e m : Nat) (mc : Int32) (f : Nat → Option Nat), h.2.2 a = some (.inr (24, [.int mc, .ref e, .int (nI n)])) ∧ h.2.2 e = some (.inl (5, m, .inr (.inr (.inr (.inr f))))) ∧ n ≤ m ∧ m < 1000 ∧ ∀ i, i < n → f i = some (x i)
section C1
variable {α : Type} {G : GG} {N : Nat} {h : Hp}
theorem al_bV {β : Type} {a n : Nat} {x : Nat → Nat} {f : Nat → Out β} {k : β → Hp → Out α} (A : AL h a n x) : bV h (some a) 24 f k = bnd (f a) k := by
  obtain ⟨e, m, mc, g, e1, -⟩ := A
  exact l_bV e1
theorem al_size {a n : Nat} {x : Nat → Nat} (A : AL h a n x) : sJ12_size G N (some a) h = some (.inl (nI n), h) := by
  obtain ⟨e, m, mc, g, e1, -⟩ := A
  unfold sJ12_size
  rw [l_Fi e1 rfl]
theorem p_checkIx {i n : Nat} (hi : i < n) (hn : n < 2 ^ 31) : sJ21_checkIndex G N (nI i) (nI n) h = some (.inl (nI i), h) := by
  unfold sJ21_checkIndex sJ17_checkIndex
  rw [if_neg (nI_pos (by omega)), if_pos (nI_lt hi hn)]
  rfl
theorem al_get {a n i : Nat} {x : Nat → Nat} (A : AL h a n x) (hi : i < n) : sJ12_get G N (some a) (nI i) h = some (.inl (some (x i)), h) := by
  have A' := A
  obtain ⟨e, m, mc, g, e1, e2, e3, e4, e5⟩ := A
  unfold sJ12_get sJ12_elementData
  rw [l_Fi e1 rfl, p_checkIx hi (by omega), l_bnd, al_bV A', l_Fr e1 rfl, l_Ar e2 (by omega) (by omega) (e5 i hi)]
  rfl
theorem c_in {a b c : Int32} : sX1_in G N a b c h = some (.inl (bZ (b ≤ a ∧ a ≤ c)), h) := p_in (G := G) (N := N)
/-- something at a place -/
def LocAt (h : Hp) (a : Nat) (x y z : Int32) : Prop := (∃ (f t fi cl : Int32) (ru m : Nat), h.2.2 a = some (.inr (7, [.int x, .int y, .int f, .int t, .int fi, .int cl, .int z, .ref ru, .ref m]))) ∨ ∃ (nm : Nat) (fl : Int32), h.2.2 a = some (.inr (15, [.ref nm, .int x, .int y, .int z, .int fl]))
theorem c_x {a : Nat} {x y z : Int32} {j : Int32 → Hp → Out α} (L : LocAt h a x y z) : gSw h (some a) 7 (bV h (some a) 7 (fun q => sX12_x G N (some q) h) j) (bV h (some a) 15 (fun q => sX9_x G N (some q) h) j) = j x h := by
  unfold gSw sX12_x sX9_x
  rcases L with ⟨f, t, fi, cl, ru, m, e⟩ | ⟨nm, fl, e⟩
  · simp only [e, if_true]; rw [l_bV e, l_Fi e rfl]; rfl
  · simp only [e, if_neg (show ¬ 15 = 7 by decide)]; rw [l_bV e, l_Fi e rfl]; rfl
theorem c_y {a : Nat} {x y z : Int32} {j : Int32 → Hp → Out α} (L : LocAt h a x y z) : gSw h (some a) 7 (bV h (some a) 7 (fun q => sX12_y G N (some q) h) j) (bV h (some a) 15 (fun q => sX9_y G N (some q) h) j) = j y h := by
  unfold gSw sX12_y sX9_y
  rcases L with ⟨f, t, fi, cl, ru, m, e⟩ | ⟨nm, fl, e⟩
  · simp only [e, if_true]; rw [l_bV e, l_Fi e rfl]; rfl
  · simp only [e, if_neg (show ¬ 15 = 7 by decide)]; rw [l_bV e, l_Fi e rfl]; rfl
theorem c_z {a : Nat} {x y z : Int32} {j : Int32 → Hp → Out α} (L : LocAt h a x y z) : gSw h (some a) 7 (bV h (some a) 7 (fun q => sX12_high G N (some q) h) j) (bV h (some a) 15 (fun q => sX9_high G N (some q) h) j) = j z h := by
  unfold gSw sX12_high sX9_high
  rcases L with ⟨f, t, fi, cl, ru, m, e⟩ | ⟨nm, fl, e⟩
  · simp only [e, if_true]; rw [l_bV e, l_Fi e rfl]; rfl
  · simp only [e, if_neg (show ¬ 15 = 7 by decide)]; rw [l_bV e, l_Fi e rfl]; rfl
/-- a cabin's own cell -/
def CabAt (h : Hp) (a : Nat) (x y f t fi cl z : Int32) (ru m : Nat) : Prop := h.2.2 a = some (.inr (7, [.int x, .int y, .int f, .int t, .int fi, .int cl, .int z, .ref ru, .ref m]))
theorem CabAt.loc {a : Nat} {x y f t fi cl z : Int32} {ru m : Nat} (C : CabAt h a x y f t fi cl z ru m) : LocAt h a x y z := Or.inl ⟨f, t, fi, cl, ru, m, C⟩
theorem cab_x {a : Nat} {x y f t fi cl z : Int32} {ru m : Nat} (C : CabAt h a x y f t fi cl z ru m) : sX12_x G N (some a) h = some (.inl x, h) := by
  unfold sX12_x; rw [l_Fi C rfl]
theorem cab_y {a : Nat} {x y f t fi cl z : Int32} {ru m : Nat} (C : CabAt h a x y f t fi cl z ru m) : sX12_y G N (some a) h = some (.inl y, h) := by
  unfold sX12_y; rw [l_Fi C rfl]
theorem cab_bV {β : Type} {a : Nat} {x y f t fi cl z : Int32} {ru m : Nat} {g : Nat → Out β} {k : β → Hp → Out α} (C : CabAt h a x y f t fi cl z ru m) : bV h (some a) 7 g k = bnd (g a) k := l_bV C
theorem c_within {a b ru m : Nat} {x y f t fi cl z x' y' z' v : Int32} (C : CabAt h a x y f t fi cl z ru m) (L : LocAt h b x' y' z') : sX13_isWithin_c7 G N (some a) (some b) v h = some (.inl (bZ ((x - x') * (x - x') + (y - y') * (y - y') ≤ v * v)), h) := by
  unfold sX13_isWithin_c7 sX13_square
  simp only [cab_bV C, cab_x C, cab_y C, l_bnd, l_J, c_x L, c_y L]
  split
  · rename_i hc
    rw [bZ_f (fun q => Int32.not_lt.mpr q hc)]; rfl
  · rename_i hc
    rw [bZ_t (Int32.not_lt.mp hc)]; rfl
theorem c_dist {a b ru m : Nat} {x y f t fi cl z x' y' z' : Int32} (C : CabAt h a x y f t fi cl z ru m) (L : LocAt h b x' y' z') : sX13_distance_c7 G N (some a) (some b) h = some (.inl (iabs (x - x') + iabs (y - y')), h) := by
  unfold sX13_distance_c7
  simp only [cab_bV C, cab_x C, cab_y C, l_bnd, l_J, c_x L, c_y L, p_abs]
theorem c_hides {r a b : Nat} {c hi x y z x' y' z' : Int32} (er : h.2.2 r = some (.inr (14, [.int c, .int hi]))) (L : LocAt h a x y z) (L' : LocAt h b x' y' z') : sX10_hides G N (some r) (some a) (some b) h = some (.inl (bZ ((x < c) ≠ (x' < c) ∧ z < hi ∧ z' < hi)), h) := by
  classical
  unfold sX10_hides
  simp only [l_J, c_x L, c_x L', c_z L, c_z L', l_Fi er (k := 0) rfl, l_Fi er (k := 1) rfl]
  simp only [← Int32.not_lt]
  by_cases h1 : x < c <;> by_cases h2 : x' < c <;> by_cases h3 : z < hi <;> by_cases h4 : z' < hi <;>
    simp [h1, h2, h3, h4, bZ, l_RZ0, l_RZ1]
end C1
/-! the mountain -/
def FogR (h : Hp) (mt : Nat) (R : Row) : Prop := ∃ (fs : List Value) (fl : Nat) (fg : Nat → Nat), h.2.2 mt = some (.inr (11, fs)) ∧ fs[3]? = some (.ref fl) ∧ AL h fl (fN R) fg ∧ ∀ k, k < fN R → h.2.2 (fg k) = some (.inr (9, [.int (R (72 + 3 * k)), .int (R (72 + 3 * k + 1)), .int (R (72 + 3 * k + 2))]))
def RidR (h : Hp) (mt : Nat) (R : Row) : Prop := ∃ (fs : List Value) (fl : Nat) (fg : Nat → Nat), h.2.2 mt = some (.inr (11, fs)) ∧ fs[2]? = some (.ref fl) ∧ AL h fl (rN R) fg ∧ ∀ k, k < rN R → h.2.2 (fg k) = some (.inr (14, [.int (R (64 + 2 * k)), .int (R (64 + 2 * k + 1))]))
/-- the spots of the slopes -/
def SloR (h : Hp) (mt : Nat) (R : Row) (sp : Nat → Nat) : Prop := ∃ (fs : List Value) (rg fl : Nat), h.2.2 mt = some (.inr (11, fs)) ∧ fs[1]? = some (.ref rg) ∧ h.2.2 rg = some (.inr (13, [.ref fl, .int 8])) ∧ AL h fl (sN R) sp ∧ ∀ s, s < sN R → ∃ (nm : Nat) (f : Int32), h.2.2 (sp s) = some (.inr (15, [.ref nm, .int (R (40 + 3 * s)), .int (R (40 + 3 * s + 1)), .int (R (40 + 3 * s + 2)), .int f]))
theorem imax_lt {a b c : Int32} : imax a b < c ↔ (a < c ∧ b < c) := by
  unfold imax
  by_cases h : a < b
  · rw [if_pos h]
    exact ⟨fun q => ⟨Int32.lt_trans h q, q⟩, fun q => q.2⟩
  · rw [if_neg h]
    exact ⟨fun q => ⟨q, Int32.lt_of_le_of_lt (Int32.not_lt.mp h) q⟩, fun q => q.1⟩
section C2
variable {α : Type} {G : GG} {N : Nat} {h : Hp} {R : Row} {mt st : Nat}
theorem c_mist {t : Int32} (F : FogR h mt R) (ht : t = R 90) (hf : fN R ≤ 6) (hN : 20 < N) : sX5_mist G N (some mt) t h = some (.inl (sm (fN R) (fogAt R)), h) := by
  classical
  subst ht
  obtain ⟨fs, fl, fg, e1, e2, A, e3⟩ := F
  unfold sX5_mist
  refine lp_q (fN R) (fun k => (sm k (fogAt R), nI k)) (by omega) rfl ?_ ?_
  · intro k hk self
    have e4 := e3 k hk
    unfold bX5_mist_4 sX11_at
    simp (disch := omega) only [l_Fr e1 e2, al_bV A, al_size A, al_get A hk, l_bnd, l_Ck e4 (show 9 ∈ [9] by decide), l_bV e4, l_Fi e4 (k := 0) rfl, l_Fi e4 (k := 1) rfl, l_Fi e4 (k := 2) rfl, c_in, bZ_0, nI_leI, Nat.not_le.mpr hk, ↓reduceIte, l_let, n_1, nI_add]
    by_cases hc : R (72 + 3 * k) ≤ R 90 ∧ R 90 ≤ R (72 + 3 * k + 1)
    · rw [if_neg (fun q => q hc)]
      simp only [l_bnd]
      exact l_st (if_pos hc) rfl
    · rw [if_pos hc]
      simp only [l_bnd]
      exact l_st (if_neg hc) rfl
  · intro self
    unfold bX5_mist_4
    simp (disch := omega) only [l_Fr e1 e2, al_bV A, al_size A, l_bnd, nI_leI, Nat.le_refl, ↓reduceIte]
theorem c_ridges {a b i j : Nat} (F : RidR h mt R) (L : LocAt h a (R i) (R (i + 1)) (R (i + 2))) (L' : LocAt h b (R j) (R (j + 1)) (R (j + 2))) (hf : rN R ≤ 4) (hN : 20 < N) : sX5_ridges G N (some mt) (some a) (some b) h = some (.inl (qPart R i j), h) := by
  classical
  obtain ⟨fs, fl, fg, e1, e2, A, e3⟩ := F
  unfold sX5_ridges qPart
  refine lp_q (rN R) (fun k => (sm k (fun k => bZ (parts R i j k)), nI k)) (by omega) rfl ?_ ?_
  · intro k hk self
    have e4 := e3 k hk
    unfold bX5_ridges_5
    simp (disch := omega) only [l_Fr e1 e2, al_bV A, al_size A, al_get A hk, l_bnd, l_Ck e4 (show 14 ∈ [14] by decide), l_bV e4, c_hides e4 L L', bZ_0, nI_leI, Nat.not_le.mpr hk, ↓reduceIte, l_let, l_J, n_1, nI_add]
    have e5 : parts R i j k ↔ ((R i < R (64 + 2 * k)) ≠ (R j < R (64 + 2 * k)) ∧ R (i + 2) < R (64 + 2 * k + 1) ∧ R (j + 2) < R (64 + 2 * k + 1)) := by
      unfold parts
      rw [imax_lt]
    by_cases hc : parts R i j k
    · rw [if_neg (fun q => q (e5.mp hc))]
      exact l_st (bZ_t hc) rfl
    · rw [if_pos (fun q => hc (e5.mpr q))]
      exact l_st (bZ_f hc) rfl
  · intro self
    unfold bX5_ridges_5
    simp (disch := omega) only [l_Fr e1 e2, al_bV A, al_size A, l_bnd, nI_leI, Nat.le_refl, ↓reduceIte]
/-- a state's own cell -/
def StC (h : Hp) (st : Nat) (R : Row) (mt cl se bu rd gr : Nat) : Prop := h.2.2 st = some (.inr (16, [.ref mt, .ref cl, .ref se, .ref bu, .int (R 90), .int (R 91), .int (R 92), .int (R 93), .int (R 94), .int (R 95), .int (R 96), .int (R 97), .ref rd, .ref gr]))
def SetR (h : Hp) (se : Nat) (R : Row) : Prop := ∃ f : Nat → Int32, h.2.2 se = some (.inl (0, 6, .inl f)) ∧ ∀ k, k < 6 → f k = R k
/-- cabins: the cells, the places in them -/
def CabsR (h : Hp) (cl : Nat) (R : Row) (cb ru mp : Nat → Nat) : Prop := AL h cl (cN R) cb ∧ ∀ k, k < cN R → CabAt h (cb k) (R (10 + 3 * k)) (R (10 + 3 * k + 1)) (R (148 + k)) (R (158 + k)) (R (168 + k)) (R (138 + k)) (R (10 + 3 * k + 2)) (ru k) (mp k)
variable {cl se bu rd gr : Nat} {cb ru mp sp : Nat → Nat}
theorem st_bV {β : Type} {g : Nat → Out β} {k : β → Hp → Out α} (S : StC h st R mt cl se bu rd gr) : bV h (some st) 16 g k = bnd (g st) k := l_bV S
theorem c_size (S : StC h st R mt cl se bu rd gr) (C : CabsR h cl R cb ru mp) : sX3_size G N (some st) h = some (.inl (nI (cN R)), h) := by
  unfold sX3_size
  rw [l_Fr S rfl, al_bV C.1, al_size C.1, l_bnd]
theorem c_cabin {k : Nat} (S : StC h st R mt cl se bu rd gr) (C : CabsR h cl R cb ru mp) (hk : k < cN R) : sX3_cabin G N (some st) (nI k) h = some (.inl (some (cb k)), h) := by
  unfold sX3_cabin
  rw [l_Fr S rfl, al_bV C.1, al_get C.1 hk, l_bnd, l_Ck (C.2 k hk) (show 7 ∈ [7] by decide)]
theorem c_slopes (S : StC h st R mt cl se bu rd gr) (M : SloR h mt R sp) : sX3_slopes G N (some st) h = some (.inl (nI (sN R)), h) := by
  obtain ⟨fs, rg, fl, e1, e2, e3, A, e4⟩ := M
  unfold sX3_slopes sX6_size
  rw [l_Fr S rfl, l_Fr e1 e2, l_bV e3, l_Fr e3 rfl, al_bV A, al_size A, l_bnd, l_bnd]
theorem c_slope {s : Nat} (S : StC h st R mt cl se bu rd gr) (M : SloR h mt R sp) (hs : s < sN R) : sX3_slope G N (some st) (nI s) h = some (.inl (some (sp s)), h) := by
  obtain ⟨fs, rg, fl, e1, e2, e3, A, e4⟩ := M
  obtain ⟨nm, f, e5⟩ := e4 s hs
  unfold sX3_slope sX6_get
  rw [l_Fr S rfl, l_Fr e1 e2, l_bV e3, l_Fr e3 rfl, al_bV A, al_get A hs, l_bnd, l_Ck e5 (show 15 ∈ [15] by decide), l_bnd, l_Ck e5 (show 15 ∈ [15] by decide)]
theorem SloR.loc {s : Nat} (M : SloR h mt R sp) (hs : s < sN R) : LocAt h (sp s) (R (40 + 3 * s)) (R (40 + 3 * s + 1)) (R (40 + 3 * s + 2)) := by
  obtain ⟨fs, rg, fl, e1, e2, e3, A, e4⟩ := M
  obtain ⟨nm, f, e5⟩ := e4 s hs
  exact Or.inr ⟨nm, f, e5⟩
theorem c_sight (S : StC h st R mt cl se bu rd gr) (E : SetR h se R) (F : FogR h mt R) (hf : fN R ≤ 6) (hN : 20 < N) : sX3_sight G N (some st) h = some (.inl (qSight R), h) := by
  obtain ⟨f, e1, e2⟩ := E
  have F' := F
  obtain ⟨fs, fl, fg, e3, -⟩ := F'
  unfold sX3_sight
  rw [l_Fr S rfl, n_0, l_Ai e1 (by omega) (by omega), e2 0 (by omega), l_Fr S rfl, l_Fi S rfl, l_bV e3, c_mist F rfl hf hN, l_bnd, p_max, l_bnd]
  rfl
theorem c_isSeen {k b j : Nat} (S : StC h st R mt cl se bu rd gr) (C : CabsR h cl R cb ru mp) (E : SetR h se R) (F : FogR h mt R) (D : RidR h mt R) (hf : fN R ≤ 6) (hr : rN R ≤ 4) (hk : k < cN R) (L : LocAt h b (R j) (R (j + 1)) (R (j + 2))) (hN : 20 < N) : sX3_isSeen G N (some st) (some (cb k)) (some b) h = some (.inl (bZ (isSee R (10 + 3 * k) j)), h) := by
  classical
  have D' := D
  obtain ⟨fs, fl, fg, e3, -⟩ := D'
  unfold sX3_isSeen
  simp only [st_bV S, c_sight S E F hf hN, l_bnd, cab_bV (C.2 k hk), c_within (C.2 k hk) L, l_J, l_Fr S (k := 0) rfl, l_bV e3, c_ridges D (C.2 k hk).loc L hr hN, bZ_0, l_RZ0, l_RZ1, n_0, n_1, l_RZ0n, l_RZ1n, bZ_0n]
  unfold isSee
  by_cases h1 : (R (10 + 3 * k) - R j) * (R (10 + 3 * k) - R j) + (R (10 + 3 * k + 1) - R (j + 1)) * (R (10 + 3 * k + 1) - R (j + 1)) ≤ qSight R * qSight R
  · rw [if_neg (fun q => q h1)]
    by_cases h2 : qPart R (10 + 3 * k) j = nI 0
    · rw [if_pos h2, bZ_t ⟨h1, h2⟩]; rfl
    · rw [if_neg h2, bZ_f (fun q => h2 q.2)]; rfl
  · rw [if_pos h1, bZ_f (fun q => h1 q.1)]; rfl
end C2
