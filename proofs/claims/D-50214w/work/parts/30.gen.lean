/-! LAYER 2: plain laws of the printed functions -/
set_option maxRecDepth 100000
theorem l_upd (f : Nat → Int32) (k : Nat) (v : Int32) (j : Nat) : upd f k v j = if j = k then v else f j := rfl
section L2
variable {α β γ : Type}
theorem l_let {x : β} {k : β → Out α} : gLet x k = k x := rfl
theorem l_J {F : γ → Hp → Out α} {k : (γ → Hp → Out α) → Out α} : gJ F k = k F := rfl
theorem l_Jk {F : γ → Hp → Out α} {k : (γ → Hp → Out α) → Out α} {o : Out α} (h : ∀ j, j = F → k j = o) : gJ F k = o := h F rfl
theorem l_bnd {v : β} {h : Hp} {k : β → Hp → Out α} : bnd (some (.inl v, h)) k = k v h := rfl
theorem l_bndx {q : Nat} {h : Hp} {k : β → Hp → Out α} : bnd (some (.inr q, h)) k = some (.inr q, h) := rfl
theorem l_bI {a : Nat} {f : Nat → Out β} {k : β → Hp → Out α} : bI (some a) f k = bnd (f a) k := rfl
theorem l_bV {h : Hp} {a ci : Nat} {fs : List Value} {f : Nat → Out β} {k : β → Hp → Out α} (e : h.2.2 a = some (.inr (ci, fs))) : bV h (some a) ci f k = bnd (f a) k := by
  unfold bV; simp only [e, if_true]
theorem l_NN {a : Nat} {k : Out α} : gNN (some a) k = k := rfl
/-- a loop: st k is what it carries at the k-th turn -/
theorem lp_for {B : (γ → Hp → Out α) → γ → Hp → Out α} {N n : Nat} (x : Nat → γ) (hp : Nat → Hp) {o : Out α} (hN : n < N) (hs : ∀ k, k < n → ∀ self, B self (x k) (hp k) = self (x (k + 1)) (hp (k + 1))) (he : ∀ self, B self (x n) (hp n) = o) : gLp B N (x 0) (hp 0) = o := by
  have key : ∀ d k m, k + d = n → d < m → gLp B m (x k) (hp k) = o := by
    intro d
    induction d with
    | zero =>
      intro k m hk hm
      obtain ⟨m', rfl⟩ : ∃ m', m = m' + 1 := ⟨m - 1, by omega⟩
      have : k = n := by omega
      subst this
      exact he _
    | succ d ih =>
      intro k m hk hm
      obtain ⟨m', rfl⟩ : ∃ m', m = m' + 1 := ⟨m - 1, by omega⟩
      show B (gLp B m') (x k) (hp k) = o
      rw [hs k (by omega)]
      exact ih (k + 1) m' (by omega) (by omega)
  exact key n 0 N (by omega) hN
/-- the same, the heap as it was -/
theorem lp_q {B : (γ → Hp → Out α) → γ → Hp → Out α} {N : Nat} {h : Hp} {o : Out α} {x0 : γ} (n : Nat) (x : Nat → γ) (hN : n < N) (h0 : x 0 = x0) (hs : ∀ k, k < n → ∀ self, B self (x k) h = self (x (k + 1)) h) (he : ∀ self, B self (x n) h = o) : gLp B N x0 h = o := by
  subst h0
  exact lp_for x (fun _ => h) hN hs he
/-- the same, the heap as a function of the turn -/
theorem lp_h {B : (γ → Hp → Out α) → γ → Hp → Out α} {N : Nat} {h : Hp} {o : Out α} {x0 : γ} (n : Nat) (x : Nat → γ) (hp : Nat → Hp) (hN : n < N) (h0 : x 0 = x0) (hh : hp 0 = h) (hs : ∀ k, k < n → ∀ self, B self (x k) (hp k) = self (x (k + 1)) (hp (k + 1))) (he : ∀ self, B self (x n) (hp n) = o) : gLp B N x0 h = o := by
  subst h0
  subst hh
  exact lp_for x hp hN hs he
end L2
/-! booleans -/
noncomputable def bZ (p : Prop) : Int32 := @ite Int32 p (Classical.propDecidable p) 1 0
theorem bZ_t {p : Prop} (h : p) : bZ p = 1 := @if_pos p (Classical.propDecidable p) h Int32 1 0
theorem bZ_f {p : Prop} (h : ¬ p) : bZ p = 0 := @if_neg p (Classical.propDecidable p) h Int32 1 0
noncomputable def pz (p : Prop) (v : Int32) : Int32 := @ite Int32 p (Classical.propDecidable p) v 0
theorem pz_t {p : Prop} {v : Int32} (h : p) : pz p v = v := @if_pos p (Classical.propDecidable p) h Int32 v 0
theorem pz_f {p : Prop} {v : Int32} (h : ¬ p) : pz p v = 0 := @if_neg p (Classical.propDecidable p) h Int32 v 0
theorem pz_c {p q : Prop} {v w : Int32} (h : p ↔ q) (hv : v = w) : pz p v = pz q w := by rw [propext h, hv]
theorem pz_1 {p : Prop} : pz p 1 = bZ p := rfl
theorem l_RZ0 {h : Hp} : gRtZ 0 h = some (.inl 0, h) := rfl
theorem l_RZ1 {h : Hp} : gRtZ 1 h = some (.inl 1, h) := rfl
theorem l_RZb {p : Prop} {h : Hp} : gRtZ (bZ p) h = some (.inl (bZ p), h) := by
  by_cases hp : p
  · rw [bZ_t hp]; rfl
  · rw [bZ_f hp]; rfl
theorem bZ_0 {p : Prop} : (bZ p = 0) ↔ ¬ p := by
  by_cases hp : p
  · rw [bZ_t hp]; simp [hp]
  · rw [bZ_f hp]; simp [hp]
/-! sums of ints: over k below n -/
def sm : Nat → (Nat → Int32) → Int32
  | 0, _ => 0
  | n + 1, f => sm n f + f n
def om : Nat → (Nat → Int32) → Int32
  | 0, _ => 0
  | n + 1, f => om n f ||| f n
theorem sm_congr {n : Nat} {f g : Nat → Int32} (h : ∀ k, k < n → f k = g k) : sm n f = sm n g := by
  induction n with
  | zero => rfl
  | succ n ih => show sm n f + f n = sm n g + g n; rw [ih (fun k hk => h k (by omega)), h n (by omega)]
theorem om_congr {n : Nat} {f g : Nat → Int32} (h : ∀ k, k < n → f k = g k) : om n f = om n g := by
  induction n with
  | zero => rfl
  | succ n ih => show om n f ||| f n = om n g ||| g n; rw [ih (fun k hk => h k (by omega)), h n (by omega)]
theorem sm_succ {n : Nat} {f : Nat → Int32} : sm (n + 1) f = sm n f + f n := rfl
theorem om_succ {n : Nat} {f : Nat → Int32} : om (n + 1) f = om n f ||| f n := rfl
theorem bZ_0n {p : Prop} : (bZ p = nI 0) ↔ ¬ p := bZ_0
theorem bZ_1n {p : Prop} : (bZ p = nI 1) ↔ p := by
  by_cases hp : p
  · rw [bZ_t hp]; exact ⟨fun _ => hp, fun _ => rfl⟩
  · rw [bZ_f hp]; exact ⟨fun h => absurd h (by decide), fun h => absurd h hp⟩
theorem bZ_c {p q : Prop} (h : p ↔ q) : bZ p = bZ q := by rw [propext h]
theorem bZ_e {p q : Prop} : (bZ p = bZ q) ↔ (p ↔ q) := by
  by_cases hp : p
  · by_cases hq : q
    · rw [bZ_t hp, bZ_t hq]; simp [hp, hq]
    · rw [bZ_t hp, bZ_f hq]; simp [hp, hq]
  · by_cases hq : q
    · rw [bZ_f hp, bZ_t hq]; simp [hp, hq]
    · rw [bZ_f hp, bZ_f hq]; simp [hp, hq]
theorem l_RZ0n {h : Hp} : gRtZ (nI 0) h = some (.inl (nI 0), h) := rfl
theorem l_RZ1n {h : Hp} : gRtZ (nI 1) h = some (.inl (nI 1), h) := rfl
theorem ni_sub1 {n : Nat} : nI (n + 1) - nI 1 = nI n := nI_pred n
theorem l_st {α : Type} {self : Int32 × Int32 → Hp → Out α} {n : Nat} {f : Nat → Int32} {v i j : Int32} {h : Hp} (hv : f n = v) (hi : i = j) : self (sm n f + v, i) h = self (sm (n + 1) f, j) h := by rw [sm_succ, hv, hi]
theorem l_ot {α : Type} {self : Int32 × Int32 → Hp → Out α} {n : Nat} {f : Nat → Int32} {v i j : Int32} {h : Hp} (hv : f n = v) (hi : i = j) : self (om n f ||| v, i) h = self (om (n + 1) f, j) h := by rw [om_succ, hv, hi]
theorem l_st2 {α : Type} {self : Int32 × Int32 → Hp → Out α} {S : Int32} {n : Nat} {f : Nat → Int32} {v i j : Int32} {h : Hp} (hv : f n = v) (hi : i = j) : self (S + sm n f + v, i) h = self (S + sm (n + 1) f, j) h := by rw [sm_succ, hv, hi, Int32.add_assoc]
/-- a set that grows -/
def og (S : Int32) : Nat → (Nat → Int32) → Int32
  | 0, _ => S
  | n + 1, f => og S n f ||| f n
theorem og_succ {S : Int32} {n : Nat} {f : Nat → Int32} : og S (n + 1) f = og S n f ||| f n := rfl
theorem l_gt {α : Type} {self : Int32 × Int32 → Hp → Out α} {S : Int32} {n : Nat} {f : Nat → Int32} {v i j : Int32} {h : Hp} (hv : f n = v) (hi : i = j) : self (og S n f ||| v, i) h = self (og S (n + 1) f, j) h := by rw [og_succ, hv, hi]
theorem bZ_or {p q : Prop} : bZ p ||| bZ q = bZ (p ∨ q) := by
  by_cases hp : p
  · by_cases hq : q
    · rw [bZ_t hp, bZ_t hq, bZ_t (Or.inl hp)]; rfl
    · rw [bZ_t hp, bZ_f hq, bZ_t (Or.inl hp)]; rfl
  · by_cases hq : q
    · rw [bZ_f hp, bZ_t hq, bZ_t (Or.inr hq)]; rfl
    · rw [bZ_f hp, bZ_f hq, bZ_f (fun h => h.elim hp hq)]; rfl
theorem bZ_T : (nI 1 : Int32) = bZ True := (bZ_t trivial).symm
theorem bZ_F : (nI 0 : Int32) = bZ False := (bZ_f id).symm
theorem l_ii {p : Prop} [Decidable p] {α : Type} {a b c : α} (h1 : p → a = c) (h2 : ¬ p → b = c) : (if p then a else b) = c := by
  split
  · rename_i h; exact h1 h
  · rename_i h; exact h2 h
/-! literals -/
theorem n_0 : (0 : Int32) = nI 0 := id rfl
theorem n_1 : (1 : Int32) = nI 1 := id rfl
theorem n_2 : (2 : Int32) = nI 2 := id rfl
theorem n_3 : (3 : Int32) = nI 3 := id rfl
theorem n_4 : (4 : Int32) = nI 4 := id rfl
theorem n_5 : (5 : Int32) = nI 5 := id rfl
theorem n_6 : (6 : Int32) = nI 6 := id rfl
theorem n_7 : (7 : Int32) = nI 7 := id rfl
theorem n_8 : (8 : Int32) = nI 8 := id rfl
theorem n_9 : (9 : Int32) = nI 9 := id rfl
theorem n_10 : (10 : Int32) = nI 10 := id rfl
theorem n_11 : (11 : Int32) = nI 11 := id rfl
theorem n_12 : (12 : Int32) = nI 12 := id rfl
theorem n_13 : (13 : Int32) = nI 13 := id rfl
theorem n_14 : (14 : Int32) = nI 14 := id rfl
theorem n_15 : (15 : Int32) = nI 15 := id rfl
theorem n_16 : (16 : Int32) = nI 16 := id rfl
theorem n_20 : (20 : Int32) = nI 20 := id rfl
theorem n_24 : (24 : Int32) = nI 24 := id rfl
theorem n_27 : (27 : Int32) = nI 27 := id rfl
theorem n_30 : (30 : Int32) = nI 30 := id rfl
theorem n_31 : (31 : Int32) = nI 31 := id rfl
theorem n_32 : (32 : Int32) = nI 32 := id rfl
theorem n_40 : (40 : Int32) = nI 40 := id rfl
theorem n_47 : (47 : Int32) = nI 47 := id rfl
theorem n_50 : (50 : Int32) = nI 50 := id rfl
theorem n_57 : (57 : Int32) = nI 57 := id rfl
theorem n_58 : (58 : Int32) = nI 58 := id rfl
theorem n_59 : (59 : Int32) = nI 59 := id rfl
theorem n_64 : (64 : Int32) = nI 64 := id rfl
theorem n_72 : (72 : Int32) = nI 72 := id rfl
theorem n_80 : (80 : Int32) = nI 80 := id rfl
theorem n_90 : (90 : Int32) = nI 90 := id rfl
theorem n_91 : (91 : Int32) = nI 91 := id rfl
theorem n_92 : (92 : Int32) = nI 92 := id rfl
theorem n_93 : (93 : Int32) = nI 93 := id rfl
theorem n_94 : (94 : Int32) = nI 94 := id rfl
theorem n_95 : (95 : Int32) = nI 95 := id rfl
theorem n_96 : (96 : Int32) = nI 96 := id rfl
theorem n_97 : (97 : Int32) = nI 97 := id rfl
theorem n_98 : (98 : Int32) = nI 98 := id rfl
theorem n_99 : (99 : Int32) = nI 99 := id rfl
theorem n_100 : (100 : Int32) = nI 100 := id rfl
theorem n_122 : (122 : Int32) = nI 122 := id rfl
theorem n_128 : (128 : Int32) = nI 128 := id rfl
theorem n_138 : (138 : Int32) = nI 138 := id rfl
theorem n_148 : (148 : Int32) = nI 148 := id rfl
theorem n_158 : (158 : Int32) = nI 158 := id rfl
theorem n_168 : (168 : Int32) = nI 168 := id rfl
theorem n_178 : (178 : Int32) = nI 178 := id rfl
theorem n_200 : (200 : Int32) = nI 200 := id rfl
theorem n_255 : (255 : Int32) = nI 255 := id rfl
theorem n_258 : (258 : Int32) = nI 258 := id rfl
theorem n_300 : (300 : Int32) = nI 300 := id rfl
theorem n_700 : (700 : Int32) = nI 700 := id rfl
theorem n_999 : (999 : Int32) = nI 999 := id rfl
theorem n_1058 : (1058 : Int32) = nI 1058 := id rfl
theorem n_2116 : (2116 : Int32) = nI 2116 := id rfl
theorem n_5000 : (5000 : Int32) = nI 5000 := id rfl
theorem n_8464 : (8464 : Int32) = nI 8464 := id rfl
theorem n_7406 : (7406 : Int32) = nI 7406 := id rfl
