/-! the twin's cells: ten of them in a row; ints by their fields' numbers, arrays likewise -/
abbrev TS : Type := (Nat → Int32) × Int64 × (Nat → Nat → Int32) × (Nat → Nat → Int64)
def tI (T : TS) (k : Nat) (v : Int32) : TS := (fun j => if j = k then v else T.1 j, T.2)
def tW (T : TS) (v : Int64) : TS := (T.1, v, T.2.2)
def tA (T : TS) (a i : Nat) (v : Int32) : TS := (T.1, T.2.1, fun a' => if a' = a then upd (T.2.2.1 a) i v else T.2.2.1 a', T.2.2.2)
def tL (T : TS) (a i : Nat) (v : Int64) : TS := (T.1, T.2.1, T.2.2.1, fun a' => if a' = a then vp_updL (T.2.2.2 a) i v else T.2.2.2 a')
/-- a whole array at once -/
def tF (T : TS) (a : Nat) (f : Nat → Int32) : TS := (T.1, T.2.1, fun a' => if a' = a then f else T.2.2.1 a', T.2.2.2)
def tObj (b : Nat) (T : TS) : List Value := [.int (T.1 0), .ref (b + 1), .ref (b + 2), .ref (b + 3), .ref (b + 4), .ref (b + 5), .ref (b + 6), .ref (b + 7), .int (T.1 8), .int (T.1 9), .ref (b + 8), .int (T.1 11), .int (T.1 12), .int (T.1 13), .int (T.1 14), .int (T.1 15), .int (T.1 16), .int (T.1 17), .int (T.1 18), .long T.2.1, .ref (b + 9), .int (T.1 21)]
def tCell (b : Nat) (T : TS) (j : Nat) : Option GC := match j with
  | 0 => some (.inr (18, tObj b T))
  | 1 => some (.inl (0, 1058, .inl (T.2.2.1 1)))
  | 2 => some (.inl (0, 1058, .inl (T.2.2.1 2)))
  | 3 => some (.inl (0, 8464, .inl (T.2.2.1 3)))
  | 4 => some (.inl (0, 2116, .inl (T.2.2.1 4)))
  | 5 => some (.inl (2, 2, .inl (T.2.2.1 5)))
  | 6 => some (.inl (3, 18, .inr (.inl (T.2.2.2 6))))
  | 7 => some (.inl (3, 18, .inr (.inl (T.2.2.2 7))))
  | 8 => some (.inl (1, 700, .inl (T.2.2.1 10)))
  | 9 => some (.inl (1, 300, .inl (T.2.2.1 20)))
  | _ => none
def hT (b : Nat) (T : TS) (h : Hp) : Hp := (h.1, h.2.1, fun q => if b ≤ q ∧ q < b + 10 then tCell b T (q - b) else h.2.2 q)
theorem hT_at (b : Nat) (T : TS) (h : Hp) {j : Nat} (hj : j < 10) : (hT b T h).2.2 (b + j) = tCell b T j := by
  show (if b ≤ b + j ∧ b + j < b + 10 then _ else _) = _
  rw [if_pos ⟨by omega, by omega⟩, Nat.add_sub_cancel_left]
theorem hT_0 (b : Nat) (T : TS) (h : Hp) : (hT b T h).2.2 b = some (.inr (18, tObj b T)) := hT_at b T h (j := 0) (by omega)
theorem hT_up (b : Nat) (T T' : TS) (h : Hp) {j : Nat} (hj : j < 10) {e : GC} (he : tCell b T' j = some e) (ho : ∀ i, i < 10 → i ≠ j → tCell b T' i = tCell b T i) : hup (hT b T h) (b + j) e = hT b T' h := by
  unfold hup hT
  refine congrArg (fun f => (h.1, h.2.1, f)) (funext fun q => ?_)
  dsimp only
  by_cases hq : q = b + j
  · subst hq
    rw [if_pos rfl, if_pos ⟨by omega, by omega⟩, Nat.add_sub_cancel_left, he]
  · rw [if_neg hq]
    by_cases hb : b ≤ q ∧ q < b + 10
    · rw [if_pos hb, if_pos hb, ho (q - b) (by omega) (by omega)]
    · rw [if_neg hb, if_neg hb]
theorem hT_up0 (b : Nat) (T T' : TS) (h : Hp) {e : GC} (he : tCell b T' 0 = some e) (ho : ∀ i, i < 10 → i ≠ 0 → tCell b T' i = tCell b T i) : hup (hT b T h) b e = hT b T' h := hT_up b T T' h (j := 0) (by omega) he ho
theorem t_i10 {p : Nat → Prop} (h1 : p 1) (h2 : p 2) (h3 : p 3) (h4 : p 4) (h5 : p 5) (h6 : p 6) (h7 : p 7) (h8 : p 8) (h9 : p 9) (h0 : p 0) : ∀ i, i < 10 → p i := by
  intro i hi
  match i with
  | 0 => exact h0
  | 1 => exact h1
  | 2 => exact h2
  | 3 => exact h3
  | 4 => exact h4
  | 5 => exact h5
  | 6 => exact h6
  | 7 => exact h7
  | 8 => exact h8
  | 9 => exact h9
  | n + 10 => omega
section TW
variable {α β : Type} {G : GG} {b : Nat} {T : TS} {h : Hp}
theorem t_bV {f : Nat → Out β} {k : β → Hp → Out α} : bV (hT b T h) (some b) 18 f k = bnd (f b) k := l_bV (hT_0 b T h)
theorem t_fi0 {k : Int32 → Out α} : gFi (hT b T h) (some b) 18 0 k = k (T.1 0) := by unfold gFi gF; simp only [hT_0]; rfl
theorem t_fr1 {k : Option Nat → Out α} : gFr (hT b T h) (some b) 18 1 k = k (some (b + 1)) := by unfold gFr gF; simp only [hT_0]; rfl
theorem t_fr2 {k : Option Nat → Out α} : gFr (hT b T h) (some b) 18 2 k = k (some (b + 2)) := by unfold gFr gF; simp only [hT_0]; rfl
theorem t_fr3 {k : Option Nat → Out α} : gFr (hT b T h) (some b) 18 3 k = k (some (b + 3)) := by unfold gFr gF; simp only [hT_0]; rfl
theorem t_fr4 {k : Option Nat → Out α} : gFr (hT b T h) (some b) 18 4 k = k (some (b + 4)) := by unfold gFr gF; simp only [hT_0]; rfl
theorem t_fr5 {k : Option Nat → Out α} : gFr (hT b T h) (some b) 18 5 k = k (some (b + 5)) := by unfold gFr gF; simp only [hT_0]; rfl
theorem t_fr6 {k : Option Nat → Out α} : gFr (hT b T h) (some b) 18 6 k = k (some (b + 6)) := by unfold gFr gF; simp only [hT_0]; rfl
theorem t_fr7 {k : Option Nat → Out α} : gFr (hT b T h) (some b) 18 7 k = k (some (b + 7)) := by unfold gFr gF; simp only [hT_0]; rfl
theorem t_fi8 {k : Int32 → Out α} : gFi (hT b T h) (some b) 18 8 k = k (T.1 8) := by unfold gFi gF; simp only [hT_0]; rfl
theorem t_fi9 {k : Int32 → Out α} : gFi (hT b T h) (some b) 18 9 k = k (T.1 9) := by unfold gFi gF; simp only [hT_0]; rfl
theorem t_fr10 {k : Option Nat → Out α} : gFr (hT b T h) (some b) 18 10 k = k (some (b + 8)) := by unfold gFr gF; simp only [hT_0]; rfl
theorem t_fi11 {k : Int32 → Out α} : gFi (hT b T h) (some b) 18 11 k = k (T.1 11) := by unfold gFi gF; simp only [hT_0]; rfl
theorem t_fi12 {k : Int32 → Out α} : gFi (hT b T h) (some b) 18 12 k = k (T.1 12) := by unfold gFi gF; simp only [hT_0]; rfl
theorem t_fi13 {k : Int32 → Out α} : gFi (hT b T h) (some b) 18 13 k = k (T.1 13) := by unfold gFi gF; simp only [hT_0]; rfl
theorem t_fi14 {k : Int32 → Out α} : gFi (hT b T h) (some b) 18 14 k = k (T.1 14) := by unfold gFi gF; simp only [hT_0]; rfl
theorem t_fi15 {k : Int32 → Out α} : gFi (hT b T h) (some b) 18 15 k = k (T.1 15) := by unfold gFi gF; simp only [hT_0]; rfl
theorem t_fi16 {k : Int32 → Out α} : gFi (hT b T h) (some b) 18 16 k = k (T.1 16) := by unfold gFi gF; simp only [hT_0]; rfl
theorem t_fi17 {k : Int32 → Out α} : gFi (hT b T h) (some b) 18 17 k = k (T.1 17) := by unfold gFi gF; simp only [hT_0]; rfl
theorem t_fi18 {k : Int32 → Out α} : gFi (hT b T h) (some b) 18 18 k = k (T.1 18) := by unfold gFi gF; simp only [hT_0]; rfl
theorem t_fl19 {k : Int64 → Out α} : gFl (hT b T h) (some b) 18 19 k = k T.2.1 := by unfold gFl gF; simp only [hT_0]; rfl
theorem t_fr20 {k : Option Nat → Out α} : gFr (hT b T h) (some b) 18 20 k = k (some (b + 9)) := by unfold gFr gF; simp only [hT_0]; rfl
theorem t_fi21 {k : Int32 → Out α} : gFi (hT b T h) (some b) 18 21 k = k (T.1 21) := by unfold gFi gF; simp only [hT_0]; rfl
theorem t_pi0 (hb : G.1 ≤ b) {v : Int32} {k : Hp → Out α} : gP G (hT b T h) (some b) 18 0 (.int v) k = k (hT b (tI T 0 v) h) := by
  unfold gP
  simp only [hT_0]
  rw [if_pos ⟨trivial, hb, by (show _ < 22; omega)⟩]
  exact congrArg k (hT_up0 b T (tI T 0 v) h rfl (t_i10 (fun _ => rfl) (fun _ => rfl) (fun _ => rfl) (fun _ => rfl) (fun _ => rfl) (fun _ => rfl) (fun _ => rfl) (fun _ => rfl) (fun _ => rfl) (fun h => absurd rfl h)))
theorem t_pz8 (hb : G.1 ≤ b) {v : Int32} (hv : gOkZ v = true) {k : Hp → Out α} : gPz G (hT b T h) (some b) 18 8 v k = k (hT b (tI T 8 v) h) := by
  unfold gPz gP
  simp only [hT_0, hv, if_true]
  rw [if_pos ⟨trivial, hb, by (show _ < 22; omega)⟩]
  exact congrArg k (hT_up0 b T (tI T 8 v) h rfl (t_i10 (fun _ => rfl) (fun _ => rfl) (fun _ => rfl) (fun _ => rfl) (fun _ => rfl) (fun _ => rfl) (fun _ => rfl) (fun _ => rfl) (fun _ => rfl) (fun h => absurd rfl h)))
theorem t_pi9 (hb : G.1 ≤ b) {v : Int32} {k : Hp → Out α} : gP G (hT b T h) (some b) 18 9 (.int v) k = k (hT b (tI T 9 v) h) := by
  unfold gP
  simp only [hT_0]
  rw [if_pos ⟨trivial, hb, by (show _ < 22; omega)⟩]
  exact congrArg k (hT_up0 b T (tI T 9 v) h rfl (t_i10 (fun _ => rfl) (fun _ => rfl) (fun _ => rfl) (fun _ => rfl) (fun _ => rfl) (fun _ => rfl) (fun _ => rfl) (fun _ => rfl) (fun _ => rfl) (fun h => absurd rfl h)))
theorem t_pi11 (hb : G.1 ≤ b) {v : Int32} {k : Hp → Out α} : gP G (hT b T h) (some b) 18 11 (.int v) k = k (hT b (tI T 11 v) h) := by
  unfold gP
  simp only [hT_0]
  rw [if_pos ⟨trivial, hb, by (show _ < 22; omega)⟩]
  exact congrArg k (hT_up0 b T (tI T 11 v) h rfl (t_i10 (fun _ => rfl) (fun _ => rfl) (fun _ => rfl) (fun _ => rfl) (fun _ => rfl) (fun _ => rfl) (fun _ => rfl) (fun _ => rfl) (fun _ => rfl) (fun h => absurd rfl h)))
theorem t_pi12 (hb : G.1 ≤ b) {v : Int32} {k : Hp → Out α} : gP G (hT b T h) (some b) 18 12 (.int v) k = k (hT b (tI T 12 v) h) := by
  unfold gP
  simp only [hT_0]
  rw [if_pos ⟨trivial, hb, by (show _ < 22; omega)⟩]
  exact congrArg k (hT_up0 b T (tI T 12 v) h rfl (t_i10 (fun _ => rfl) (fun _ => rfl) (fun _ => rfl) (fun _ => rfl) (fun _ => rfl) (fun _ => rfl) (fun _ => rfl) (fun _ => rfl) (fun _ => rfl) (fun h => absurd rfl h)))
theorem t_pi13 (hb : G.1 ≤ b) {v : Int32} {k : Hp → Out α} : gP G (hT b T h) (some b) 18 13 (.int v) k = k (hT b (tI T 13 v) h) := by
  unfold gP
  simp only [hT_0]
  rw [if_pos ⟨trivial, hb, by (show _ < 22; omega)⟩]
  exact congrArg k (hT_up0 b T (tI T 13 v) h rfl (t_i10 (fun _ => rfl) (fun _ => rfl) (fun _ => rfl) (fun _ => rfl) (fun _ => rfl) (fun _ => rfl) (fun _ => rfl) (fun _ => rfl) (fun _ => rfl) (fun h => absurd rfl h)))
theorem t_pi14 (hb : G.1 ≤ b) {v : Int32} {k : Hp → Out α} : gP G (hT b T h) (some b) 18 14 (.int v) k = k (hT b (tI T 14 v) h) := by
  unfold gP
  simp only [hT_0]
  rw [if_pos ⟨trivial, hb, by (show _ < 22; omega)⟩]
  exact congrArg k (hT_up0 b T (tI T 14 v) h rfl (t_i10 (fun _ => rfl) (fun _ => rfl) (fun _ => rfl) (fun _ => rfl) (fun _ => rfl) (fun _ => rfl) (fun _ => rfl) (fun _ => rfl) (fun _ => rfl) (fun h => absurd rfl h)))
theorem t_pi15 (hb : G.1 ≤ b) {v : Int32} {k : Hp → Out α} : gP G (hT b T h) (some b) 18 15 (.int v) k = k (hT b (tI T 15 v) h) := by
  unfold gP
  simp only [hT_0]
  rw [if_pos ⟨trivial, hb, by (show _ < 22; omega)⟩]
  exact congrArg k (hT_up0 b T (tI T 15 v) h rfl (t_i10 (fun _ => rfl) (fun _ => rfl) (fun _ => rfl) (fun _ => rfl) (fun _ => rfl) (fun _ => rfl) (fun _ => rfl) (fun _ => rfl) (fun _ => rfl) (fun h => absurd rfl h)))
theorem t_pi16 (hb : G.1 ≤ b) {v : Int32} {k : Hp → Out α} : gP G (hT b T h) (some b) 18 16 (.int v) k = k (hT b (tI T 16 v) h) := by
  unfold gP
  simp only [hT_0]
  rw [if_pos ⟨trivial, hb, by (show _ < 22; omega)⟩]
  exact congrArg k (hT_up0 b T (tI T 16 v) h rfl (t_i10 (fun _ => rfl) (fun _ => rfl) (fun _ => rfl) (fun _ => rfl) (fun _ => rfl) (fun _ => rfl) (fun _ => rfl) (fun _ => rfl) (fun _ => rfl) (fun h => absurd rfl h)))
theorem t_pi17 (hb : G.1 ≤ b) {v : Int32} {k : Hp → Out α} : gP G (hT b T h) (some b) 18 17 (.int v) k = k (hT b (tI T 17 v) h) := by
  unfold gP
  simp only [hT_0]
  rw [if_pos ⟨trivial, hb, by (show _ < 22; omega)⟩]
  exact congrArg k (hT_up0 b T (tI T 17 v) h rfl (t_i10 (fun _ => rfl) (fun _ => rfl) (fun _ => rfl) (fun _ => rfl) (fun _ => rfl) (fun _ => rfl) (fun _ => rfl) (fun _ => rfl) (fun _ => rfl) (fun h => absurd rfl h)))
theorem t_pi18 (hb : G.1 ≤ b) {v : Int32} {k : Hp → Out α} : gP G (hT b T h) (some b) 18 18 (.int v) k = k (hT b (tI T 18 v) h) := by
  unfold gP
  simp only [hT_0]
  rw [if_pos ⟨trivial, hb, by (show _ < 22; omega)⟩]
  exact congrArg k (hT_up0 b T (tI T 18 v) h rfl (t_i10 (fun _ => rfl) (fun _ => rfl) (fun _ => rfl) (fun _ => rfl) (fun _ => rfl) (fun _ => rfl) (fun _ => rfl) (fun _ => rfl) (fun _ => rfl) (fun h => absurd rfl h)))
theorem t_pi21 (hb : G.1 ≤ b) {v : Int32} {k : Hp → Out α} : gP G (hT b T h) (some b) 18 21 (.int v) k = k (hT b (tI T 21 v) h) := by
  unfold gP
  simp only [hT_0]
  rw [if_pos ⟨trivial, hb, by (show _ < 22; omega)⟩]
  exact congrArg k (hT_up0 b T (tI T 21 v) h rfl (t_i10 (fun _ => rfl) (fun _ => rfl) (fun _ => rfl) (fun _ => rfl) (fun _ => rfl) (fun _ => rfl) (fun _ => rfl) (fun _ => rfl) (fun _ => rfl) (fun h => absurd rfl h)))
theorem t_pl19 (hb : G.1 ≤ b) {v : Int64} {k : Hp → Out α} : gP G (hT b T h) (some b) 18 19 (.long v) k = k (hT b (tW T v) h) := by
  unfold gP
  simp only [hT_0]
  rw [if_pos ⟨trivial, hb, by (show _ < 22; omega)⟩]
  exact congrArg k (hT_up0 b T (tW T v) h rfl (t_i10 (fun _ => rfl) (fun _ => rfl) (fun _ => rfl) (fun _ => rfl) (fun _ => rfl) (fun _ => rfl) (fun _ => rfl) (fun _ => rfl) (fun _ => rfl) (fun h => absurd rfl h)))
theorem t_ai1 {i : Nat} (hi : i < 1058) {k : Int32 → Out α} : gAi (hT b T h) (some (b + 1)) 0 (nI i) k = k (T.2.2.1 1 i) := by
  unfold gAi
  simp only [hT_at b T h (show 1 < 10 by omega), tCell]
  rw [if_pos ⟨trivial, nI_in hi (by omega)⟩, nI_clamp (by omega)]
theorem t_si1 (hb : G.1 ≤ b) {i : Nat} (hi : i < 1058) {v : Int32} {k : Hp → Out α} : gSi G (hT b T h) (some (b + 1)) 0 (nI i) v k = k (hT b (tA T 1 i v) h) := by
  unfold gSi
  simp only [hT_at b T h (show 1 < 10 by omega), tCell]
  rw [if_pos ⟨trivial, by omega, nI_in hi (by omega)⟩, nI_clamp (by omega)]
  exact congrArg k (hT_up b T (tA T 1 i v) h (show 1 < 10 by omega) rfl (t_i10 (fun h => absurd rfl h) (fun _ => rfl) (fun _ => rfl) (fun _ => rfl) (fun _ => rfl) (fun _ => rfl) (fun _ => rfl) (fun _ => rfl) (fun _ => rfl) (fun _ => rfl)))
theorem t_ai2 {i : Nat} (hi : i < 1058) {k : Int32 → Out α} : gAi (hT b T h) (some (b + 2)) 0 (nI i) k = k (T.2.2.1 2 i) := by
  unfold gAi
  simp only [hT_at b T h (show 2 < 10 by omega), tCell]
  rw [if_pos ⟨trivial, nI_in hi (by omega)⟩, nI_clamp (by omega)]
theorem t_si2 (hb : G.1 ≤ b) {i : Nat} (hi : i < 1058) {v : Int32} {k : Hp → Out α} : gSi G (hT b T h) (some (b + 2)) 0 (nI i) v k = k (hT b (tA T 2 i v) h) := by
  unfold gSi
  simp only [hT_at b T h (show 2 < 10 by omega), tCell]
  rw [if_pos ⟨trivial, by omega, nI_in hi (by omega)⟩, nI_clamp (by omega)]
  exact congrArg k (hT_up b T (tA T 2 i v) h (show 2 < 10 by omega) rfl (t_i10 (fun _ => rfl) (fun h => absurd rfl h) (fun _ => rfl) (fun _ => rfl) (fun _ => rfl) (fun _ => rfl) (fun _ => rfl) (fun _ => rfl) (fun _ => rfl) (fun _ => rfl)))
theorem t_ai3 {i : Nat} (hi : i < 8464) {k : Int32 → Out α} : gAi (hT b T h) (some (b + 3)) 0 (nI i) k = k (T.2.2.1 3 i) := by
  unfold gAi
  simp only [hT_at b T h (show 3 < 10 by omega), tCell]
  rw [if_pos ⟨trivial, nI_in hi (by omega)⟩, nI_clamp (by omega)]
theorem t_si3 (hb : G.1 ≤ b) {i : Nat} (hi : i < 8464) {v : Int32} {k : Hp → Out α} : gSi G (hT b T h) (some (b + 3)) 0 (nI i) v k = k (hT b (tA T 3 i v) h) := by
  unfold gSi
  simp only [hT_at b T h (show 3 < 10 by omega), tCell]
  rw [if_pos ⟨trivial, by omega, nI_in hi (by omega)⟩, nI_clamp (by omega)]
  exact congrArg k (hT_up b T (tA T 3 i v) h (show 3 < 10 by omega) rfl (t_i10 (fun _ => rfl) (fun _ => rfl) (fun h => absurd rfl h) (fun _ => rfl) (fun _ => rfl) (fun _ => rfl) (fun _ => rfl) (fun _ => rfl) (fun _ => rfl) (fun _ => rfl)))
theorem t_ai4 {i : Nat} (hi : i < 2116) {k : Int32 → Out α} : gAi (hT b T h) (some (b + 4)) 0 (nI i) k = k (T.2.2.1 4 i) := by
  unfold gAi
  simp only [hT_at b T h (show 4 < 10 by omega), tCell]
  rw [if_pos ⟨trivial, nI_in hi (by omega)⟩, nI_clamp (by omega)]
theorem t_si4 (hb : G.1 ≤ b) {i : Nat} (hi : i < 2116) {v : Int32} {k : Hp → Out α} : gSi G (hT b T h) (some (b + 4)) 0 (nI i) v k = k (hT b (tA T 4 i v) h) := by
  unfold gSi
  simp only [hT_at b T h (show 4 < 10 by omega), tCell]
  rw [if_pos ⟨trivial, by omega, nI_in hi (by omega)⟩, nI_clamp (by omega)]
  exact congrArg k (hT_up b T (tA T 4 i v) h (show 4 < 10 by omega) rfl (t_i10 (fun _ => rfl) (fun _ => rfl) (fun _ => rfl) (fun h => absurd rfl h) (fun _ => rfl) (fun _ => rfl) (fun _ => rfl) (fun _ => rfl) (fun _ => rfl) (fun _ => rfl)))
theorem t_ai5 {i : Nat} (hi : i < 2) {k : Int32 → Out α} : gAi (hT b T h) (some (b + 5)) 2 (nI i) k = k (T.2.2.1 5 i) := by
  unfold gAi
  simp only [hT_at b T h (show 5 < 10 by omega), tCell]
  rw [if_pos ⟨trivial, nI_in hi (by omega)⟩, nI_clamp (by omega)]
theorem t_si5 (hb : G.1 ≤ b) {i : Nat} (hi : i < 2) {v : Int32} {k : Hp → Out α} : gSz G (hT b T h) (some (b + 5)) 2 (nI i) v k = k (hT b (tA T 5 i (vp_nar .boolean v)) h) := by
  unfold gSz
  simp only [hT_at b T h (show 5 < 10 by omega), tCell]
  rw [if_pos ⟨trivial, by omega, nI_in hi (by omega)⟩, nI_clamp (by omega)]
  exact congrArg k (hT_up b T (tA T 5 i (vp_nar .boolean v)) h (show 5 < 10 by omega) rfl (t_i10 (fun _ => rfl) (fun _ => rfl) (fun _ => rfl) (fun _ => rfl) (fun h => absurd rfl h) (fun _ => rfl) (fun _ => rfl) (fun _ => rfl) (fun _ => rfl) (fun _ => rfl)))
theorem t_ai10 {i : Nat} (hi : i < 700) {k : Int32 → Out α} : gAi (hT b T h) (some (b + 8)) 1 (nI i) k = k (T.2.2.1 10 i) := by
  unfold gAi
  simp only [hT_at b T h (show 8 < 10 by omega), tCell]
  rw [if_pos ⟨trivial, nI_in hi (by omega)⟩, nI_clamp (by omega)]
theorem t_si10 (hb : G.1 ≤ b) {i : Nat} (hi : i < 700) {v : Int32} {k : Hp → Out α} : gSb G (hT b T h) (some (b + 8)) 1 (nI i) v k = k (hT b (tA T 10 i v.toInt8.toInt32) h) := by
  unfold gSb
  simp only [hT_at b T h (show 8 < 10 by omega), tCell]
  rw [if_pos ⟨trivial, by omega, nI_in hi (by omega)⟩, nI_clamp (by omega)]
  exact congrArg k (hT_up b T (tA T 10 i v.toInt8.toInt32) h (show 8 < 10 by omega) rfl (t_i10 (fun _ => rfl) (fun _ => rfl) (fun _ => rfl) (fun _ => rfl) (fun _ => rfl) (fun _ => rfl) (fun _ => rfl) (fun h => absurd rfl h) (fun _ => rfl) (fun _ => rfl)))
theorem t_ai20 {i : Nat} (hi : i < 300) {k : Int32 → Out α} : gAi (hT b T h) (some (b + 9)) 1 (nI i) k = k (T.2.2.1 20 i) := by
  unfold gAi
  simp only [hT_at b T h (show 9 < 10 by omega), tCell]
  rw [if_pos ⟨trivial, nI_in hi (by omega)⟩, nI_clamp (by omega)]
theorem t_si20 (hb : G.1 ≤ b) {i : Nat} (hi : i < 300) {v : Int32} {k : Hp → Out α} : gSb G (hT b T h) (some (b + 9)) 1 (nI i) v k = k (hT b (tA T 20 i v.toInt8.toInt32) h) := by
  unfold gSb
  simp only [hT_at b T h (show 9 < 10 by omega), tCell]
  rw [if_pos ⟨trivial, by omega, nI_in hi (by omega)⟩, nI_clamp (by omega)]
  exact congrArg k (hT_up b T (tA T 20 i v.toInt8.toInt32) h (show 9 < 10 by omega) rfl (t_i10 (fun _ => rfl) (fun _ => rfl) (fun _ => rfl) (fun _ => rfl) (fun _ => rfl) (fun _ => rfl) (fun _ => rfl) (fun _ => rfl) (fun h => absurd rfl h) (fun _ => rfl)))
theorem t_al6 {i : Nat} (hi : i < 18) {k : Int64 → Out α} : gAl (hT b T h) (some (b + 6)) 3 (nI i) k = k (T.2.2.2 6 i) := by
  unfold gAl
  simp only [hT_at b T h (show 6 < 10 by omega), tCell]
  rw [if_pos ⟨trivial, nI_in hi (by omega)⟩, nI_clamp (by omega)]
theorem t_sl6 (hb : G.1 ≤ b) {i : Nat} (hi : i < 18) {v : Int64} {k : Hp → Out α} : gSl G (hT b T h) (some (b + 6)) 3 (nI i) v k = k (hT b (tL T 6 i v) h) := by
  unfold gSl
  simp only [hT_at b T h (show 6 < 10 by omega), tCell]
  rw [if_pos ⟨trivial, by omega, nI_in hi (by omega)⟩, nI_clamp (by omega)]
  exact congrArg k (hT_up b T (tL T 6 i v) h (show 6 < 10 by omega) rfl (t_i10 (fun _ => rfl) (fun _ => rfl) (fun _ => rfl) (fun _ => rfl) (fun _ => rfl) (fun h => absurd rfl h) (fun _ => rfl) (fun _ => rfl) (fun _ => rfl) (fun _ => rfl)))
theorem t_al7 {i : Nat} (hi : i < 18) {k : Int64 → Out α} : gAl (hT b T h) (some (b + 7)) 3 (nI i) k = k (T.2.2.2 7 i) := by
  unfold gAl
  simp only [hT_at b T h (show 7 < 10 by omega), tCell]
  rw [if_pos ⟨trivial, nI_in hi (by omega)⟩, nI_clamp (by omega)]
theorem t_sl7 (hb : G.1 ≤ b) {i : Nat} (hi : i < 18) {v : Int64} {k : Hp → Out α} : gSl G (hT b T h) (some (b + 7)) 3 (nI i) v k = k (hT b (tL T 7 i v) h) := by
  unfold gSl
  simp only [hT_at b T h (show 7 < 10 by omega), tCell]
  rw [if_pos ⟨trivial, by omega, nI_in hi (by omega)⟩, nI_clamp (by omega)]
  exact congrArg k (hT_up b T (tL T 7 i v) h (show 7 < 10 by omega) rfl (t_i10 (fun _ => rfl) (fun _ => rfl) (fun _ => rfl) (fun _ => rfl) (fun _ => rfl) (fun _ => rfl) (fun h => absurd rfl h) (fun _ => rfl) (fun _ => rfl) (fun _ => rfl)))
end TW
