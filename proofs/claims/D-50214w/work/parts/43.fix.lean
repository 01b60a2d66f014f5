/-! who is reached: after as many steps as there are cabins, less one, nothing is added -/
set_option maxRecDepth 100000
set_option maxHeartbeats 1000000
def pc : Nat → Nat → Nat
  | 0, _ => 0
  | c + 1, a => pc c a + (if a.testBit c = true then 1 else 0)
theorem pc_le {c a : Nat} : pc c a ≤ c := by
  induction c with
  | zero => exact Nat.le_refl 0
  | succ c ih => unfold pc; split <;> omega
theorem pc_mono {c a b : Nat} (h : ∀ k, a.testBit k = true → b.testBit k = true) : pc c a ≤ pc c b := by
  induction c with
  | zero => exact Nat.le_refl 0
  | succ c ih =>
    unfold pc
    by_cases ha : a.testBit c = true
    · rw [if_pos ha, if_pos (h c ha)]; omega
    · rw [if_neg ha]; split <;> omega
theorem pc_lt {c a b k : Nat} (h : ∀ k, a.testBit k = true → b.testBit k = true) (hk : k < c) (h1 : ¬ a.testBit k = true) (h2 : b.testBit k = true) : pc c a < pc c b := by
  induction c with
  | zero => omega
  | succ c ih =>
    unfold pc
    by_cases hc : k = c
    · subst hc
      rw [if_neg h1, if_pos h2]
      have := pc_mono (c := k) h
      omega
    · have h3 := ih (by omega)
      by_cases ha : a.testBit c = true
      · rw [if_pos ha, if_pos (h c ha)]; omega
      · rw [if_neg ha]; split <;> omega
theorem pc_ne {c a b : Nat} (hb : b < 2 ^ c) (h : a ||| b = b) (hn : a ≠ b) : pc c a < pc c b := by
  have hs : ∀ k, a.testBit k = true → b.testBit k = true := fun k hk => by
    rw [← h, Nat.testBit_or, hk]; rfl
  have hx : ∃ k, ¬ a.testBit k = true ∧ b.testBit k = true := by
    refine Classical.byContradiction fun q => hn (Nat.eq_of_testBit_eq fun k => ?_)
    cases h1 : a.testBit k with
    | true => rw [hs k h1]
    | false =>
      cases h2 : b.testBit k with
      | false => rfl
      | true => exact absurd ⟨k, by simp [h1], h2⟩ q
  obtain ⟨k, k1, k2⟩ := hx
  exact pc_lt hs (Nat.lt_of_not_le fun q => by
    have := Nat.testBit_lt_two_pow (x := b) (i := k) (Nat.lt_of_lt_of_le hb (Nat.pow_le_pow_right (by omega) q))
    rw [this] at k2
    cases k2) k1 k2
theorem og_nI {c a n : Nat} {f : Nat → Int32} (ha : a < 2 ^ c) (h : ∀ k, k < n → ∃ m, m < 2 ^ c ∧ f k = nI m) : ∃ b, b < 2 ^ c ∧ og (nI a) n f = nI b ∧ a ||| b = b := by
  induction n with
  | zero => exact ⟨a, ha, rfl, Nat.or_self a⟩
  | succ n ih =>
    obtain ⟨b, b1, b2, b3⟩ := ih (fun k hk => h k (by omega))
    obtain ⟨m, m1, m2⟩ := h n (by omega)
    refine ⟨b ||| m, Nat.or_lt_two_pow b1 m1, by rw [og_succ, b2, m2, ni_or], ?_⟩
    rw [← Nat.or_assoc, b3]
theorem qSeen_lt {R : Row} (H : ROK R) (o : Nat) : ∃ m, m < 2 ^ cN R ∧ qSeen R o = nI m := by
  obtain ⟨h6, h7, h8, h9, l6, l7, l8, l9, hv⟩ := H
  exact om_nI (fun k _ => pz_or) (by omega)
theorem spread_nI {R : Row} (H : ROK R) {a : Nat} (ha : a < 2 ^ cN R) : ∃ b, b < 2 ^ cN R ∧ qSpread R (nI a) = nI b ∧ a ||| b = b := by
  refine og_nI ha fun k hk => ?_
  by_cases h : hasB (nI a) (nI k)
  · obtain ⟨m, m1, m2⟩ := qSeen_lt H k
    exact ⟨m, m1, by rw [pz_t h, m2]⟩
  · exact ⟨0, Nat.two_pow_pos _, pz_f h⟩
theorem spI_nI {R : Row} (H : ROK R) {a : Nat} (ha : a < 2 ^ cN R) : ∀ n, ∃ b, b < 2 ^ cN R ∧ spI R (nI a) n = nI b
  | 0 => ⟨a, ha, rfl⟩
  | n + 1 => by
    obtain ⟨b, b1, b2⟩ := spI_nI H ha n
    obtain ⟨d, d1, d2, d3⟩ := spread_nI H b1
    exact ⟨d, d1, by show qSpread R (spI R (nI a) n) = _; rw [b2, d2]⟩
/-- it stops -/
theorem spI_stop {R : Row} (H : ROK R) {a : Nat} (ha : a < 2 ^ cN R) (h0 : 0 < pc (cN R) a) {m : Nat} (hm : cN R - 1 ≤ m) : spI R (nI a) m = spI R (nI a) (cN R - 1) := by
  have hc := pc_le (c := cN R) (a := a)
  have lt31 : ∀ b, b < 2 ^ cN R → b < 2 ^ 31 := fun b hb => by
    obtain ⟨h6, h7, h8, h9, l6, l7, l8, l9, hv⟩ := H
    exact Nat.lt_of_lt_of_le hb (Nat.pow_le_pow_right (by omega) (by omega))
  -- either it has stopped by n, or n more bits are there
  have grow : ∀ n, (∃ k, k < n ∧ spI R (nI a) (k + 1) = spI R (nI a) k) ∨ ∃ b, b < 2 ^ cN R ∧ spI R (nI a) n = nI b ∧ n + pc (cN R) a ≤ pc (cN R) b := by
    intro n
    induction n with
    | zero => exact Or.inr ⟨a, ha, rfl, by omega⟩
    | succ n ih =>
      rcases ih with ⟨k, k1, k2⟩ | ⟨b, b1, b2, b3⟩
      · exact Or.inl ⟨k, by omega, k2⟩
      · obtain ⟨d, d1, d2, d3⟩ := spread_nI H b1
        have e : spI R (nI a) (n + 1) = nI d := by show qSpread R (spI R (nI a) n) = _; rw [b2, d2]
        by_cases hbd : b = d
        · exact Or.inl ⟨n, by omega, by rw [e, b2, hbd]⟩
        · exact Or.inr ⟨d, d1, e, by have := pc_ne d1 d3 hbd; omega⟩
  obtain ⟨k, k1, k2⟩ : ∃ k, k < cN R ∧ spI R (nI a) (k + 1) = spI R (nI a) k := by
    rcases grow (cN R) with g | ⟨b, b1, b2, b3⟩
    · exact g
    · have := pc_le (c := cN R) (a := b)
      omega
  have f1 := spI_fix k2 (m - k)
  have f2 := spI_fix k2 (cN R - 1 - k)
  rw [show k + (m - k) = m by omega] at f1
  rw [show k + (cN R - 1 - k) = cN R - 1 by omega] at f2
  rw [f1, f2]
theorem pc_one : ∀ c o, o < c → 0 < pc c (2 ^ o) := by
  intro c
  induction c with
  | zero => intro o h; omega
  | succ c ih =>
    intro o h
    unfold pc
    by_cases hc : o = c
    · subst hc
      rw [if_pos (Nat.testBit_two_pow_self)]
      omega
    · have := ih o (by omega)
      omega
theorem reach_stop {R : Row} (H : ROK R) {o m : Nat} (ho : o < cN R) (hm : cN R - 1 ≤ m) : spI R (1 <<< (nI o &&& 31)) m = spI R (1 <<< (nI o &&& 31)) (cN R - 1) := by
  have H' := H
  obtain ⟨h6, h7, h8, h9, l6, l7, l8, l9, hv⟩ := H
  rw [ni_1shl o (by omega)]
  exact spI_stop H' (Nat.pow_lt_pow_right (by omega) ho) (pc_one _ _ ho) hm
