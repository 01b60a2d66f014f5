/-! a cabin copied, whole -/
set_option maxRecDepth 100000
set_option maxHeartbeats 2000000
section V1
variable {α : Type} {G : GG} {N : Nat} {h : Hp} {w : Nat → Nat} {R : Row} {o : Nat}
/-- a new cabin's cell with its runs and its map, both still empty -/
theorem c_cab0 {c0 t t2 : Nat} (ht : 3 < t) (hne : t ≠ t2) (hb : G.1 ≤ h.1) (hc0 : Ow G.1 h w t c0) (C : h.2.2 c0 = some (.inr (7, [.int 0, .int 0, .int 0, .int 0, .int 0, .int 0, .int 0, .null, .null]))) (k : Hp → Out α) : ∃ g w', (gP G h (some c0) 7 3 (.int (100)) fun h1 => gP G h1 (some c0) 7 4 (.int (-1)) fun h2 => gNA h2 0 z_I (8) fun v3 h4 => gP G h4 (some c0) 7 7 (va_rf v3) fun h5 =>
  gNew h5 26 [.null, .null, .int 0, .int 0, .int 0, .float 0, .null, .null, .null, .null, .int 0, .int 0] 12 fun v6 h7 =>
  bI v6 (fun q54 => sJ24_init G N (some q54) h7) fun v8 h9 => gP G h9 (some c0) 7 8 (va_rf v6) fun h10 => k h10) = k g ∧ Tr (fun u => u = t) 5 h w g w' ∧ (∀ q, q < h.1 → q ≠ c0 → g.2.2 q = h.2.2 q) ∧ G.1 ≤ g.1 ∧ CabAt g c0 0 0 0 100 (-1) 0 0 h.1 (h.1 + 1) ∧ Ow G.1 g w' t h.1 ∧ g.2.2 h.1 = some (.inl (0, 8, .inl (fun _ => 0))) ∧ MR G.1 g w' t2 true (h.1 + 1) 16 [] := by
  have c1 := hc0.2.1
  obtain ⟨w', hw⟩ : ∃ w', w' = nw (nw w h.1 t) (h.1 + 1) t2 := ⟨_, rfl⟩
  -- up to the map's cell
  obtain ⟨g1, hg1⟩ : ∃ g1, g1 = hnw (hup (hnw (hup h c0 (.inr (7, [.int 0, .int 0, .int 0, .int 100, .int (-1), .int 0, .int 0, .null, .null]))) (.inl (0, 8, z_I)) 8) c0 (.inr (7, [.int 0, .int 0, .int 0, .int 100, .int (-1), .int 0, .int 0, .ref h.1, .null]))) (.inr (26, [.null, .null, .int 0, .int 0, .int 0, .float 0, .null, .null, .null, .null, .int 0, .int 0])) 12 := ⟨_, rfl⟩
  have g1m : g1.2.2 (h.1 + 1) = some (MC none none 0 0 0 0 none none none none) := by rw [hg1]; exact hnw_at
  have g1r : g1.2.2 h.1 = some (.inl (0, 8, z_I)) := by rw [hg1, hnw_ne (by simp only [hup_1, hnw_1]; omega), hup_ne (by omega)]; exact hnw_at
  have g1c : g1.2.2 c0 = some (.inr (7, [.int 0, .int 0, .int 0, .int 100, .int (-1), .int 0, .int 0, .ref h.1, .null])) := by rw [hg1, hnw_ne (by simp only [hup_1, hnw_1]; omega)]; exact hup_at
  have g1q : ∀ q, q < h.1 → q ≠ c0 → g1.2.2 q = h.2.2 q := fun q q1 q2 => by rw [hg1, hnw_ne (by simp only [hup_1, hnw_1]; omega), hup_ne q2, hnw_ne (by rw [hup_1]; omega), hup_ne q2]
  have g11 : g1.1 = h.1 + 2 := by rw [hg1]; simp only [hup_1, hnw_1]
  have g12 : g1.2.1 = h.2.1 + 20 := by rw [hg1]; simp only [hup_2, hnw_2]
  have owm : Ow G.1 g1 w' t2 (h.1 + 1) := ⟨by omega, by omega, by rw [hw]; exact nw_ge (Nat.le_refl _)⟩
  obtain ⟨g2, n1, n2, n3, n4, n5⟩ := m_new (N := N) (G := G) (w := w') g1m owm
  have g2c : g2.2.2 c0 = some (.inr (7, [.int 0, .int 0, .int 0, .int 100, .int (-1), .int 0, .int 0, .ref h.1, .null])) := by rw [n4 c0 (by omega)]; exact g1c
  obtain ⟨g, hg⟩ : ∃ g, g = hup g2 c0 (.inr (7, [.int 0, .int 0, .int 0, .int 100, .int (-1), .int 0, .int 0, .ref h.1, .ref (h.1 + 1)])) := ⟨_, rfl⟩
  have gq : ∀ q, q ≠ c0 → g.2.2 q = g2.2.2 q := fun q hq => by rw [hg, hup_ne hq]
  have w'q : ∀ q, q < h.1 → w' q = w q := fun q hq => by rw [hw, nw_lt (by omega), nw_lt hq]
  have fr : ∀ q, q < h.1 → q ≠ c0 → g.2.2 q = h.2.2 q := fun q q1 q2 => by rw [gq q q2, n4 q (by omega), g1q q q1 q2]
  have gg1 : g.1 = h.1 + 2 := by rw [hg, hup_1, n2, g11]
  have gg2 : g.2.1 = h.2.1 + 20 := by rw [hg, hup_2, n3, g12]
  have w'c0 : w' c0 = t := by rw [w'q c0 c1]; exact hc0.2.2
  refine ⟨g, w', ?_, Tr.exact (by omega) (by omega) (by omega) w'q (fun q q1 q2 => fr q q1 (fun e => q2 (by rw [e]; exact hc0.2.2))), fr, by omega, by rw [hg]; exact hup_at, ⟨hb, by omega, by rw [hw, nw_lt (by omega), nw_ge (Nat.le_refl _)]⟩, by rw [gq _ (by omega), n4 _ (by omega)]; exact g1r, ?_⟩
  · rw [l_P C hc0.1 (by (show 3 < 9; omega)), l_P hup_at hc0.1 (by (show 4 < 9; omega)), hup_up, n_8, l_NA (by omega), l_P (by rw [hnw_ne (by rw [hup_1]; omega)]; exact hup_at) hc0.1 (by (show 7 < 9; omega))]
    unfold gNew
    dsimp only
    have e1 : hnw (hup (hnw (hup h c0 (.inr (7, (([.int 0, .int 0, .int 0, .int 0, .int 0, .int 0, .int 0, .null, .null].set 3 (.int 100)).set 4 (.int (-1)))))) (.inl (0, 8, z_I)) 8) c0 (.inr (7, ((([.int 0, .int 0, .int 0, .int 0, .int 0, .int 0, .int 0, .null, .null].set 3 (.int 100)).set 4 (.int (-1))).set 7 (va_rf (some h.1)))))) (.inr (26, [.null, .null, .int 0, .int 0, .int 0, .float 0, .null, .null, .null, .null, .int 0, .int 0])) 12 = g1 := by rw [hg1]; rfl
    refine (congrArg (fun u => bI (some (h.1 + 1)) (fun q54 => sJ24_init G N (some q54) u) fun v8 h9 => gP G h9 (some c0) 7 8 (va_rf (some (h.1 + 1))) fun h10 => k h10) e1).trans ?_
    rw [l_bI, n1, l_bnd, l_P g2c hc0.1 (by (show 8 < 9; omega))]
    exact congrArg k hg.symm
  · have T : Tr (fun u => u = t) 0 g2 w' g w' := Tr.ex (by rw [hg]; rfl) (by rw [hg]; rfl) (fun q _ q2 => gq q (fun e => q2 (by rw [e]; exact w'c0)))
    exact n5.keep T (fun q => hne q.symm) (by omega)
theorem c_copyCab {c0 t t2 cb ru mp nn : Nat} {es : List En} (ht : 3 < t) (ht2 : 3 < t2) (hne : t ≠ t2) (hb : G.1 ≤ h.1) (A : CabO G.1 h w 0 0 o R cb ru mp nn es) (hc0 : Ow G.1 h w t c0) (C : h.2.2 c0 = some (.inr (7, [.int 0, .int 0, .int 0, .int 0, .int 0, .int 0, .int 0, .null, .null]))) (hN : 1000 < N) :
    ∃ h' w' ru' mp' nn' es', sX12_init_2 G N (some c0) (some cb) h = some (.inl (), h') ∧ Tr (fun u => u = t ∨ u = t2) 300 h w h' w' ∧ CabO G.1 h' w' t t2 o R c0 ru' mp' nn' es' ∧ G.1 ≤ h'.1 := by
  classical
  obtain ⟨a1, a2, ⟨a3, f, a4, a5⟩, a6, a7⟩ := A
  have nt : ∀ k, k ≤ 3 → ¬ (k = t) := fun k hk q => by omega
  have nS0 : ¬ (fun u => u = t ∨ u = t2) 0 := fun q => by rcases q with q | q <;> omega
  have cbc0 : cb ≠ c0 := fun q => by
    have := a1.2.2
    rw [q, hc0.2.2] at this
    omega
  have ruc0 : ru ≠ c0 := mc_ne a4 C
  unfold sX12_init_2
  rw [l_NN]
  refine Exists.elim (p := fun (K : Hp → Out Unit) => K = fun h10 => gFi h10 (some cb) 7 0 fun v11 =>
  gP G h10 (some c0) 7 0 (.int v11) fun h12 =>
  gFi h12 (some cb) 7 1 fun v13 =>
  gP G h12 (some c0) 7 1 (.int v13) fun h14 =>
  gFi h14 (some cb) 7 6 fun v15 =>
  gP G h14 (some c0) 7 6 (.int v15) fun h16 =>
  gFi h16 (some cb) 7 2 fun v17 =>
  gP G h16 (some c0) 7 2 (.int v17) fun h18 =>
  gFi h18 (some cb) 7 3 fun v19 =>
  gP G h18 (some c0) 7 3 (.int v19) fun h20 =>
  gFi h20 (some cb) 7 4 fun v21 =>
  gP G h20 (some c0) 7 4 (.int v21) fun h22 =>
  gFi h22 (some cb) 7 5 fun v23 =>
  gP G h22 (some c0) 7 5 (.int v23) fun h24 =>
  gFr h24 (some cb) 7 7 fun v25 =>
  gFr h24 (some c0) 7 7 fun v26 =>
  gCp G h24 v25 (0) v26 (0) (8) 0 .int fun h27 =>
  gFr h27 (some cb) 7 8 fun v28 =>
  bV h27 v28 26 (fun q53 => sJ24_entrySet G N (some q53) h27) fun v29 h30 =>
  bV h30 v29 29 (fun q52 => sJ50_iterator G N (some q52) h30) fun v31 h32 =>
  gLp (bX12_init_2_120 G N (some c0) v31) N () h32) ⟨_, rfl⟩ (fun K hK => ?_)
  obtain ⟨g, w1, k1, T1, k3, k4, k5, k6, k7, k8⟩ := c_cab0 (N := N) (t2 := t2) ht hne hb hc0 C K
  have gcb : g.2.2 cb = some (.inr (7, [.int (R (10 + 3 * o)), .int (R (10 + 3 * o + 1)), .int (R (148 + o)), .int (R (158 + o)), .int (R (168 + o)), .int (R (138 + o)), .int (R (10 + 3 * o + 2)), .ref ru, .ref mp])) := by rw [k3 cb a1.2.1 cbc0]; exact a2
  have c0w : w1 c0 = t ∧ c0 < g.1 := ⟨by rw [T1.2.2.2.1 c0 hc0.2.1]; exact hc0.2.2, by have := T1.1; have := hc0.2.1; omega⟩
  -- the fields and the runs
  obtain ⟨u, hu⟩ : ∃ u, u = hup (hup g c0 (.inr (7, [.int (R (10 + 3 * o)), .int (R (10 + 3 * o + 1)), .int (R (148 + o)), .int (R (158 + o)), .int (R (168 + o)), .int (R (138 + o)), .int (R (10 + 3 * o + 2)), .ref h.1, .ref (h.1 + 1)]))) h.1 (.inl (0, 8, .inl (va_cpy f (fun _ => 0) 0 0 8))) := ⟨_, rfl⟩
  have c0h : c0 ≠ h.1 := by have := hc0.2.1; omega
  have uq : ∀ q, q ≠ c0 → q ≠ h.1 → u.2.2 q = g.2.2 q := fun q q1 q2 => by rw [hu, hup_ne q2, hup_ne q1]
  have T2 : Tr (fun x => x = t) 0 g w1 u w1 := Tr.ex (by rw [hu]; rfl) (by rw [hu]; rfl) (fun q _ q2 => uq q (fun e => q2 (by rw [e]; exact c0w.1)) (fun e => q2 (by rw [e]; exact k6.2.2)))
  have T12 : Tr (fun x => x = t) 5 h w u w1 := (T1.trans T2 (nt 0 (by omega))).mono (fun _ q => q) (by omega)
  have MO := a6.keep T12 (nt 0 (by omega)) (nt 0 (by omega))
  have MN := k8.keep T2 (fun q => hne q.symm) (nt 0 (by omega))
  have hbu : G.1 ≤ u.1 := by have := T12.1; omega
  have V2 := a7.keep T12 (nt 0 (by omega))
  obtain ⟨tab, mc, th, lf, ve, vk, vv, kk, X⟩ := MO
  obtain ⟨v, h30, ve2, vk2, vv2, p1, p2, p3, p4, p5, p6⟩ := m_viewE (N := N) X hbu
  obtain ⟨h32, q1, q2, q3, q4, q5⟩ := m_iterE (N := N) p3 (by have := p2.1; omega) p6 p4
  -- the tags
  obtain ⟨w3, hw3⟩ : ∃ w3, w3 = nw (nw w1 u.1 0) h30.1 t := ⟨_, rfl⟩
  have T3 : Tr (fun _ => False) 2 h30 (nw w1 u.1 0) h32 w3 := Tr.exact (by omega) (by omega) (by omega) (fun q hq => by rw [hw3]; exact nw_lt hq) (fun q hq _ => q4 q hq)
  have T23 : Tr (fun x => x = t) 3 u w1 h32 w3 := ((p2.trans T3 id).mono (fun _ q => q.elim) (by omega))
  have T14 : Tr (fun x => x = t) 8 h w h32 w3 := (T12.trans T23 (nt 0 (by omega))).mono (fun _ q => q) (by omega)
  obtain ⟨ve3, vk3, vv3, X3⟩ := p3.keep T3 id id
  have tF := (p2.trans T3 id)
  have u2 : ∀ {q : Nat} {e : GC}, q < u.1 → u.2.2 q = some e → (∀ fs, e ≠ .inr (26, fs)) → w1 q ≠ 1 → h32.2.2 q = some e := fun hq he hc h1 => tF.cell hq id he (Or.inl h1) hc
  have uC : CabAt u c0 (R (10 + 3 * o)) (R (10 + 3 * o + 1)) (R (148 + o)) (R (158 + o)) (R (168 + o)) (R (138 + o)) (R (10 + 3 * o + 2)) h.1 (h.1 + 1) := by
    unfold CabAt
    rw [hu, hup_ne c0h]
    exact hup_at
  have uR : u.2.2 h.1 = some (.inl (0, 8, .inl (va_cpy f (fun _ => 0) 0 0 8))) := by rw [hu]; exact hup_at
  have c0u : c0 < u.1 := by have := T2.1; have := c0w.2; omega
  have h1u : h.1 < u.1 := by have := k6.2.1; have := T2.1; omega
  have C3 : CabAt h32 c0 (R (10 + 3 * o)) (R (10 + 3 * o + 1)) (R (148 + o)) (R (158 + o)) (R (168 + o)) (R (138 + o)) (R (10 + 3 * o + 2)) h.1 (h.1 + 1) := u2 c0u uC (ncl (by decide)) (by rw [c0w.1]; omega)
  have R3 := u2 h1u uR nar (by rw [k6.2.2]; omega)
  have ow3 : ∀ {q z : Nat}, Ow G.1 u w1 z q → Ow G.1 h32 w3 z q := fun O => O.keep T23
  have ruO : Ow G.1 u w1 t h.1 := k6.keep T2
  have c0O : Ow G.1 u w1 t c0 := (hc0.keep T12)
  have itO : Ow G.1 h32 w3 t h30.1 := ⟨by have := p2.1; omega, by omega, by rw [hw3]; exact nw_ge (Nat.le_refl _)⟩
  obtain ⟨h', w', nn', es', z1, z2, z3, z4, z5, z6, z7⟩ := c_putAll (N := N) ht ht2 hne (by have := T23.1; omega) X3 (V2.keep T23 (nt 0 (by omega))) q5 itO (MN.keep tF id id) (ow3 c0O) C3 (ow3 ruO) R3 hN
  have TT := (T14.mono (S' := fun u => u = t ∨ u = t2) (fun u q => Or.inl q) (Nat.le_refl _)).trans z2 nS0
  refine ⟨h', w', h.1, h.1 + 1, nn', es', ?_, TT.mono (fun _ q => q) (by omega), ⟨(ow3 c0O).keep z2, ?_, ⟨(ow3 ruO).keep z2, _, by rw [z6]; exact R3, fun s hs => ?_⟩, z3, z4⟩, z7⟩
  · refine Eq.trans ?_ z1
    refine Eq.trans (by rw [hK]) (k1.trans ?_)
    rw [hK]
    dsimp only
    have gC := k5
    unfold CabAt at gC
    have rw1 : ∀ e, (hup g c0 e).2.2 cb = some (.inr (7, [.int (R (10 + 3 * o)), .int (R (10 + 3 * o + 1)), .int (R (148 + o)), .int (R (158 + o)), .int (R (168 + o)), .int (R (138 + o)), .int (R (10 + 3 * o + 2)), .ref ru, .ref mp])) := fun e => by rw [hup_ne cbc0]; exact gcb
    rw [l_Fi gcb rfl, l_P gC hc0.1 (by (show 0 < 9; omega)), l_Fi (rw1 _) rfl, l_P hup_at hc0.1 (by (show 1 < 9; omega)), hup_up, l_Fi (rw1 _) rfl, l_P hup_at hc0.1 (by (show 6 < 9; omega)), hup_up, l_Fi (rw1 _) rfl, l_P hup_at hc0.1 (by (show 2 < 9; omega)), hup_up, l_Fi (rw1 _) rfl, l_P hup_at hc0.1 (by (show 3 < 9; omega)), hup_up, l_Fi (rw1 _) rfl, l_P hup_at hc0.1 (by (show 4 < 9; omega)), hup_up, l_Fi (rw1 _) rfl, l_P hup_at hc0.1 (by (show 5 < 9; omega)), hup_up, l_Fr (rw1 _) rfl, l_Fr hup_at rfl]
    have gru : g.2.2 ru = some (.inl (0, 8, .inl f)) := by rw [k3 ru a3.2.1 ruc0]; exact a4
    rw [n_0, n_8, l_Cp (by rw [hup_ne ruc0]; exact gru) (by rw [hup_ne (Ne.symm c0h)]; exact k7) a3.1 hb (by omega) (by omega) (by omega)]
    refine (congrArg (fun x => gFr x (some cb) 7 8 fun v28 => bV x v28 26 (fun q53 => sJ24_entrySet G N (some q53) x) fun v29 h30 => bV h30 v29 29 (fun q52 => sJ50_iterator G N (some q52) h30) fun v31 h32 => gLp (bX12_init_2_120 G N (some c0) v31) N () h32) hu.symm).trans ?_
    have ucb : u.2.2 cb = some (.inr (7, [.int (R (10 + 3 * o)), .int (R (10 + 3 * o + 1)), .int (R (148 + o)), .int (R (158 + o)), .int (R (168 + o)), .int (R (138 + o)), .int (R (10 + 3 * o + 2)), .ref ru, .ref mp])) := by rw [uq cb cbc0 (by have := a1.2.1; omega)]; exact gcb
    rw [l_Fr ucb rfl, l_bV X.2.2.2.1, p1, l_bnd, l_bV p6, q1, l_bnd]
  · unfold CabAt
    rw [z5]
    exact C3
  · have := a5 s hs
    unfold va_cpy
    rw [if_pos (by omega), ← this]
    congr 1
    omega
end V1
