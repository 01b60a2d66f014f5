/-! a new state: its own cells -/
set_option maxRecDepth 100000
set_option maxHeartbeats 2000000
/-- tags of a new state's first cells -/
def w6 (w : Nat → Nat) (n y0 : Nat) : Nat → Nat := fun q => if q < n then w q else if q = n then 2 else if q < n + 4 then y0 else 1
section W1
variable {α : Type} {G : GG} {N : Nat} {h : Hp} {w : Nat → Nat}
theorem c_st0 {st y0 : Nat} {fE : Nat → Option Nat} (hb : G.1 ≤ h.1) (hst : Ow G.1 h w y0 st) (C : h.2.2 st = some (.inr (16, [.null, .null, .null, .null, .int 0, .int 0, .int 0, .int 0, .int 0, .int 0, .int 0, .int 0, .null, .null]))) (hE : h.2.2 (G.2.2.2.2 0) = some (.inl (5, 0, .inr (.inr (.inr (.inr fE)))))) (hE1 : G.2.2.2.2 0 < h.1) (x : Nat → Nat) (k : Hp → Out α) :
    ∃ g, (gNew h 24 [.int 0, .null, .int 0] 3 fun v1 h2 =>
  bI v1 (fun q87 => sJ12_init G N (some q87) h2) fun v3 h4 =>
  gP G h4 (some st) 16 1 (va_rf v1) fun h5 =>
  gNA h5 0 z_I (6) fun v6 h7 =>
  gP G h7 (some st) 16 2 (va_rf v6) fun h8 =>
  gNew h8 22 [.null, .int 0, .int 0] 3 fun v9 h10 =>
  bI v9 (fun q86 => sJ1_init G N (some q86) h10) fun v11 h12 =>
  gP G h12 (some st) 16 3 (va_rf v9) fun h13 =>
  gNA h13 0 z_I (8) fun v14 h15 =>
  gP G h15 (some st) 16 12 (va_rf v14) fun h16 =>
  gNA h16 0 z_I (8) fun v17 h18 =>
  gP G h18 (some st) 16 13 (va_rf v17) fun h19 => k h19) = k g ∧ g.1 = h.1 + 6 ∧ g.2.1 = h.2.1 + 45 ∧ (∀ q, q < h.1 → q ≠ st → g.2.2 q = h.2.2 q) ∧
    g.2.2 st = some (.inr (16, [.null, .ref h.1, .ref (h.1 + 1), .ref (h.1 + 2), .int 0, .int 0, .int 0, .int 0, .int 0, .int 0, .int 0, .int 0, .ref (h.1 + 4), .ref (h.1 + 5)])) ∧ LB G g h.1 (G.2.2.2.2 0) 0 x ∧ g.2.2 (h.1 + 1) = some (.inl (0, 6, .inl (fun _ => 0))) ∧ DQ g (h.1 + 2) (h.1 + 3) 0 0 (fun _ => none) ∧ g.2.2 (h.1 + 4) = some (.inl (0, 8, .inl (fun _ => 0))) ∧ g.2.2 (h.1 + 5) = some (.inl (0, 8, .inl (fun _ => 0))) := by
  have b1 := hst.1
  have s1 := hst.2.1
  -- the list
  obtain ⟨g1, hg1⟩ : ∃ g1, g1 = hnw h (.inr (24, [.int 0, .null, .int 0])) 3 := ⟨_, rfl⟩
  have g1c : g1.2.2 h.1 = some (.inr (24, [.int 0, .null, .int 0])) := by rw [hg1]; exact hnw_at
  have g1q : ∀ q, q < h.1 → g1.2.2 q = h.2.2 q := fun q hq => by rw [hg1, hnw_ne (by omega)]
  obtain ⟨g2, l1, l2, l3, l4, l5⟩ := lb_new (N := N) (G := G) (h := g1) (a := h.1) hb g1c (by rw [g1q _ hE1]; exact hE) x
  have s11 : g2.1 = h.1 + 1 := by rw [l2, hg1]; rfl
  have s12 : g2.2.1 = h.2.1 + 3 := by rw [l3, hg1]; rfl
  have g2q : ∀ q, q < h.1 → g2.2.2 q = h.2.2 q := fun q hq => by rw [l4 q (by omega), g1q q hq]
  -- the settings
  obtain ⟨g3, hg3⟩ : ∃ g3, g3 = hup (hnw (hup g2 st (.inr (16, [.null, .ref h.1, .null, .null, .int 0, .int 0, .int 0, .int 0, .int 0, .int 0, .int 0, .int 0, .null, .null]))) (.inl (0, 6, z_I)) 6) st (.inr (16, [.null, .ref h.1, .ref (h.1 + 1), .null, .int 0, .int 0, .int 0, .int 0, .int 0, .int 0, .int 0, .int 0, .null, .null])) := ⟨_, rfl⟩
  have s31 : g3.1 = h.1 + 2 := by rw [hg3]; simp only [hup_1, hnw_1]; omega
  have s32 : g3.2.1 = h.2.1 + 9 := by rw [hg3]; simp only [hup_2, hnw_2]; omega
  have g3st : g3.2.2 st = some (.inr (16, [.null, .ref h.1, .ref (h.1 + 1), .null, .int 0, .int 0, .int 0, .int 0, .int 0, .int 0, .int 0, .int 0, .null, .null])) := by rw [hg3]; exact hup_at
  have g3q : ∀ q, q < h.1 + 1 → q ≠ st → g3.2.2 q = g2.2.2 q := fun q q1 q2 => by rw [hg3, hup_ne q2, hnw_ne (by rw [hup_1]; omega), hup_ne q2]
  have g3a : g3.2.2 (h.1 + 1) = some (.inl (0, 6, .inl (fun _ => 0))) := by
    rw [hg3, hup_ne (by omega), ← s11]
    exact hnw_at (h := hup g2 st _)
  -- the deque
  obtain ⟨g4, hg4⟩ : ∃ g4, g4 = hnw g3 (.inr (22, [.null, .int 0, .int 0])) 3 := ⟨_, rfl⟩
  have g4d : g4.2.2 (h.1 + 2) = some (.inr (22, [.null, .int 0, .int 0])) := by rw [hg4, ← s31]; exact hnw_at
  have s41 : g4.1 = h.1 + 3 := by rw [hg4, hnw_1, s31]
  obtain ⟨g5, d1, d2, d3, d4, d5⟩ := DQ.new (N := N) (G := G) (h := g4) (d := h.1 + 2) (by omega) (by omega) (by omega) g4d
  have g5q : ∀ q, q < h.1 + 2 → g5.2.2 q = g3.2.2 q := fun q hq => by rw [d4 q (by omega) (by omega), hg4, hnw_ne (by omega)]
  have s51 : g5.1 = h.1 + 4 := by rw [d2, s41]
  have s52 : g5.2.1 = h.2.1 + 29 := by rw [d3, hg4, hnw_2, s32]
  rw [s41] at d5
  -- the sums
  obtain ⟨g6, hg6⟩ : ∃ g6, g6 = hup (hnw (hup g5 st (.inr (16, [.null, .ref h.1, .ref (h.1 + 1), .ref (h.1 + 2), .int 0, .int 0, .int 0, .int 0, .int 0, .int 0, .int 0, .int 0, .null, .null]))) (.inl (0, 8, z_I)) 8) st (.inr (16, [.null, .ref h.1, .ref (h.1 + 1), .ref (h.1 + 2), .int 0, .int 0, .int 0, .int 0, .int 0, .int 0, .int 0, .int 0, .ref (h.1 + 4), .null])) := ⟨_, rfl⟩
  have s61 : g6.1 = h.1 + 5 := by rw [hg6]; simp only [hup_1, hnw_1]; omega
  have s62 : g6.2.1 = h.2.1 + 37 := by rw [hg6]; simp only [hup_2, hnw_2]; omega
  have g6q : ∀ q, q < h.1 + 4 → q ≠ st → g6.2.2 q = g5.2.2 q := fun q q1 q2 => by rw [hg6, hup_ne q2, hnw_ne (by rw [hup_1]; omega), hup_ne q2]
  have g6a : g6.2.2 (h.1 + 4) = some (.inl (0, 8, .inl (fun _ => 0))) := by
    rw [hg6, hup_ne (by omega), ← s51]
    exact hnw_at (h := hup g5 st _)
  have g6st : g6.2.2 st = some (.inr (16, [.null, .ref h.1, .ref (h.1 + 1), .ref (h.1 + 2), .int 0, .int 0, .int 0, .int 0, .int 0, .int 0, .int 0, .int 0, .ref (h.1 + 4), .null])) := by rw [hg6]; exact hup_at
  obtain ⟨g, hg⟩ : ∃ g, g = hup (hnw g6 (.inl (0, 8, z_I)) 8) st (.inr (16, [.null, .ref h.1, .ref (h.1 + 1), .ref (h.1 + 2), .int 0, .int 0, .int 0, .int 0, .int 0, .int 0, .int 0, .int 0, .ref (h.1 + 4), .ref (h.1 + 5)])) := ⟨_, rfl⟩
  have gq : ∀ q, q < h.1 + 5 → q ≠ st → g.2.2 q = g6.2.2 q := fun q q1 q2 => by rw [hg, hup_ne q2, hnw_ne (by omega)]
  have gst : g.2.2 st = some (.inr (16, [.null, .ref h.1, .ref (h.1 + 1), .ref (h.1 + 2), .int 0, .int 0, .int 0, .int 0, .int 0, .int 0, .int 0, .int 0, .ref (h.1 + 4), .ref (h.1 + 5)])) := by rw [hg]; exact hup_at
  have ga : g.2.2 (h.1 + 5) = some (.inl (0, 8, .inl (fun _ => 0))) := by
    rw [hg, hup_ne (by omega), ← s61]
    exact hnw_at
  refine ⟨g, ?_, by rw [hg, hup_1, hnw_1, s61], by rw [hg, hup_2, hnw_2, s62], fun q q1 q2 => ?_, gst, ?_, ?_, ?_, ?_, ga⟩
  · unfold gNew
    dsimp only
    rw [← hg1, l_bI, l1, l_bnd, l_P (by rw [g2q st s1]; exact C) b1 (by (show 1 < 14; omega)), show (6 : Int32) = nI 6 from rfl, l_NA (by omega), l_P (by rw [hnw_ne (by rw [hup_1]; omega)]; exact hup_at) b1 (by (show 2 < 14; omega))]
    have e3 : hup (hnw (hup g2 st (.inr (16, [.null, .null, .null, .null, .int 0, .int 0, .int 0, .int 0, .int 0, .int 0, .int 0, .int 0, .null, .null].set 1 (va_rf (some h.1))))) (.inl (0, 6, z_I)) 6) st (.inr (16, ([.null, .null, .null, .null, .int 0, .int 0, .int 0, .int 0, .int 0, .int 0, .int 0, .int 0, .null, .null].set 1 (va_rf (some h.1))).set 2 (va_rf (some (hup g2 st (.inr (16, [.null, .null, .null, .null, .int 0, .int 0, .int 0, .int 0, .int 0, .int 0, .int 0, .int 0, .null, .null].set 1 (va_rf (some h.1))))).1)))) = g3 := by
      rw [hg3]
      show hup _ st (.inr (16, [.null, .ref h.1, .ref g2.1, .null, _, _, _, _, _, _, _, _, _, _])) = _
      rw [s11]
      rfl
    rw [e3, ← hg4]
    refine (congrArg (fun a => bI (some a) (fun q86 => sJ1_init G N (some q86) g4) fun v11 h12 => gP G h12 (some st) 16 3 (va_rf (some a)) fun h13 => gNA h13 0 z_I (8) fun v14 h15 => gP G h15 (some st) 16 12 (va_rf v14) fun h16 => gNA h16 0 z_I (8) fun v17 h18 => gP G h18 (some st) 16 13 (va_rf v17) fun h19 => k h19) s31).trans ?_
    rw [l_bI, d1, l_bnd, l_P (by rw [g5q st (by omega)]; exact g3st) b1 (by (show 3 < 14; omega)), n_8, l_NA (by omega), l_P (by rw [hnw_ne (by rw [hup_1]; omega)]; exact hup_at) b1 (by (show 12 < 14; omega))]
    have e6 : hup (hnw (hup g5 st (.inr (16, [.null, .ref h.1, .ref (h.1 + 1), .null, .int 0, .int 0, .int 0, .int 0, .int 0, .int 0, .int 0, .int 0, .null, .null].set 3 (va_rf (some (h.1 + 2)))))) (.inl (0, 8, z_I)) 8) st (.inr (16, ([.null, .ref h.1, .ref (h.1 + 1), .null, .int 0, .int 0, .int 0, .int 0, .int 0, .int 0, .int 0, .int 0, .null, .null].set 3 (va_rf (some (h.1 + 2)))).set 12 (va_rf (some (hup g5 st (.inr (16, [.null, .ref h.1, .ref (h.1 + 1), .null, .int 0, .int 0, .int 0, .int 0, .int 0, .int 0, .int 0, .int 0, .null, .null].set 3 (va_rf (some (h.1 + 2)))))).1)))) = g6 := by
      rw [hg6]
      show hup _ st (.inr (16, [.null, .ref h.1, .ref (h.1 + 1), .ref (h.1 + 2), _, _, _, _, _, _, _, _, .ref g5.1, _])) = _
      rw [s51]
      rfl
    rw [e6, l_NA (by omega), l_P (by rw [hnw_ne (by omega)]; exact g6st) b1 (by (show 13 < 14; omega))]
    have e7 : hup (hnw g6 (.inl (0, 8, z_I)) 8) st (.inr (16, [.null, .ref h.1, .ref (h.1 + 1), .ref (h.1 + 2), .int 0, .int 0, .int 0, .int 0, .int 0, .int 0, .int 0, .int 0, .ref (h.1 + 4), .null].set 13 (va_rf (some g6.1)))) = g := by
      rw [hg]
      show hup _ st (.inr (16, [.null, .ref h.1, .ref (h.1 + 1), .ref (h.1 + 2), _, _, _, _, _, _, _, _, .ref (h.1 + 4), .ref g6.1])) = _
      rw [s61]
    rw [e7]
  · rw [gq q (by omega) q2, g6q q (by omega) q2, g5q q (by omega), g3q q (by omega) q2, g2q q q1]
  · refine LB.same l5 (by rw [hg, hup_1, hnw_1]; omega) ?_ ?_
    · rw [gq h.1 (by omega) (by omega), g6q _ (by omega) (by omega), g5q _ (by omega), g3q _ (by omega) (by omega)]
    · have hne : G.2.2.2.2 0 ≠ st := mc_ne hE C
      rw [gq _ (by omega) hne, g6q _ (by omega) hne, g5q _ (by omega), g3q _ (by omega) hne]
  · rw [gq _ (by omega) (by omega), g6q _ (by omega) (by omega), g5q _ (by omega)]
    exact g3a
  · obtain ⟨D1, D2, D3, D4⟩ := d5
    exact ⟨by rw [gq _ (by omega) (by omega), g6q _ (by omega) (by omega)]; exact D1, by rw [gq _ (by omega) (by omega), g6q _ (by omega) (by omega)]; exact D2, D3, D4⟩
  · rw [gq _ (by omega) (by omega)]
    exact g6a
end W1
