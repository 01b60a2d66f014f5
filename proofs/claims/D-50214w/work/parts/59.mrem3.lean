/-! the linked hash map: remove, whole; clear -/
set_option maxRecDepth 100000
set_option maxHeartbeats 2000000
section Q3
variable {α : Type} {G : GG} {N : Nat} {h : Hp} {z : Bool} {w : Nat → Nat}
/-- the end of a removal: first is the chain's head the one -/
theorem m_rfin {t m n a kk : Nat} {e : En} {es : List En} {mc th : Int32} {lf : UInt32} {ve vk vv : Option Nat} (A : MX G.1 h w t z m n es (some a) (nI es.length) mc th lf ve vk vv kk) (ht : t ≠ 0) (he : e ∈ es) {p : Option Nat} (hp : p = if prv (adr (chn n (e.2.1 % n) es)) e.1 = none then some e.1 else prv (adr (chn n (e.2.1 % n) es)) e.1) :
    ∃ h', h'.1 = h.1 ∧ h'.2.1 = h.2.1 ∧ (∀ q, q < h.1 → w q ≠ t → h'.2.2 q = h.2.2 q) ∧ MX G.1 h' w t z m n (rmv es e.2.1) (some a) (nI (rmv es e.2.1).length) (mc + 1) th lf ve vk vv kk ∧ (∃ nx bf af, h'.2.2 e.1 = some (ND e.2.1 e.2.2.1 e.2.2.2 nx bf af)) ∧
    (gJ (fun (x13 : Unit) (h14 : Hp) => gFi h14 (some m) 26 3 fun v16 => gP G h14 (some m) 26 3 (.int (v16 + (1 : Int32))) fun h17 => gFi h17 (some m) 26 2 fun v18 => gP G h17 (some m) 26 2 (.int (v18 - (1 : Int32))) fun h19 => bV h19 (some m) 26 (fun q22 => sJ24_afterNodeRemoval G N (some q22) (some e.1) h19) fun v20 h21 => (some (.inl (some e.1), h21) : Out (Option Nat))) fun j15 =>
      if some e.1 = p then (gFr h (some e.1) 27 3 fun v25 => gSr G h (some a) 8 asl_java_util_HashMap_Node (nI (e.2.1 % n)) v25 fun h26 => j15 () h26)
      else gFr h (some e.1) 27 3 fun v23 => gP G h p 27 3 (va_rf v23) fun h24 => j15 () h24) = some (.inl (some e.1), h') := by
  classical
  have A' := A
  have hlen := A.len
  obtain ⟨h1, h2, h3, h4, h5, h6, h7, h8, h9, h10, h11, h12⟩ := A
  rcases h8 with ⟨a9, f, a1, a2, a3, a4, a5⟩ | ⟨a1, -⟩
  rotate_left
  · cases a1
  cases a1
  have hn16 : 16 ≤ n := by
    rw [h1]; exact Nat.le_trans (by decide) (Nat.pow_le_pow_right (show 0 < 2 by omega) h2)
  have hn8 : n ≤ 2 ^ 8 := by rw [h1]; exact Nat.pow_le_pow_right (by omega) h3
  have hi : e.2.1 % n < n := Nat.mod_lt _ (by omega)
  obtain ⟨E, -, he2, O, -⟩ := h9 e he
  have hm : e.1 ∈ adr es := adr_mem he
  have hmc : e ∈ chn n (e.2.1 % n) es := List.mem_filter.mpr ⟨he, by simp⟩
  have hmc2 : e.1 ∈ adr (chn n (e.2.1 % n) es) := adr_mem hmc
  have hdc : ∀ i, (adr (chn n i es)).Nodup := fun i => chn_sub.nodup h10
  have ham : a ≠ m := mc_ne a4 h4
  have hEm : ∀ x, x ∈ es → x.1 ≠ m ∧ x.1 ≠ a := fun x hx => ⟨cl_ne (h9 x hx).1 h4 (by decide), fun q => mc_ne a4 (h9 x hx).1 q.symm⟩
  have hin : ∀ x i, x ∈ chn n i es → x ∈ es ∧ x.2.1 % n = i := fun x i hx => by
    have := List.mem_filter.mp hx
    exact ⟨this.1, by simpa using this.2⟩
  -- the chain without it
  have cut : ∃ (g : Hp) (f1 : Nat → Option Nat), g.1 = h.1 ∧ g.2.1 = h.2.1 ∧ g.2.2 m = h.2.2 m ∧ (∀ x, x ∈ es → g.2.2 x.1 = some (ND x.2.1 x.2.2.1 x.2.2.2 (if nxt (adr (chn n (x.2.1 % n) es)) x.1 = some e.1 then nxt (adr (chn n (e.2.1 % n) es)) e.1 else nxt (adr (chn n (x.2.1 % n) es)) x.1) (prv (adr es) x.1) (nxt (adr es) x.1))) ∧
      g.2.2 a = some (.inl (8, n, .inr (.inr (.inr (.inr f1))))) ∧ (∀ i, i < n → f1 i = if (adr (chn n i es)).head? = some e.1 then nxt (adr (chn n (e.2.1 % n) es)) e.1 else (adr (chn n i es)).head?) ∧ (∀ q, w q ≠ t → g.2.2 q = h.2.2 q) ∧
      ∀ (K : Hp → Out (Option Nat)), (if some e.1 = p then (gFr h (some e.1) 27 3 fun v25 => gSr G h (some a) 8 asl_java_util_HashMap_Node (nI (e.2.1 % n)) v25 fun h26 => K h26) else gFr h (some e.1) 27 3 fun v23 => gP G h p 27 3 (va_rf v23) fun h24 => K h24) = K g := by
    by_cases hf : prv (adr (chn n (e.2.1 % n) es)) e.1 = none
    · have hh := (prv_none (hdc _) hmc2).mp hf
      refine ⟨hup h a (.inl (8, n, .inr (.inr (.inr (.inr (va_up f (e.2.1 % n) (nxt (adr (chn n (e.2.1 % n) es)) e.1))))))), va_up f (e.2.1 % n) (nxt (adr (chn n (e.2.1 % n) es)) e.1), rfl, rfl, hup_ne (Ne.symm ham), fun x hx => ?_, hup_at, fun i hi2 => ?_, fun q q2 => hup_ne (fun e => q2 (by rw [e]; exact a2.2.2)), fun K => ?_⟩
      · rw [hup_ne (hEm x hx).2, if_neg]
        · exact (h9 x hx).1
        · intro q
          have hm9 : e.1 ∈ adr (chn n (x.2.1 % n) es) := nxt_mem q
          obtain ⟨y, y1, y2⟩ := List.mem_map.mp hm9
          have y3 := hin y _ y1
          have := entry_inj h10 y3.1 he y2
          subst this
          rw [← y3.2] at q
          have := nxt_prv (hdc _) q
          rw [hf] at this
          cases this
      · rw [va_upE]
        by_cases hq : i = e.2.1 % n
        · rw [if_pos hq, if_pos (by rw [hq]; exact hh)]
        · rw [if_neg hq, if_neg, a5 i hi2]
          intro q
          obtain ⟨y, y1, y2⟩ := List.mem_map.mp (List.mem_of_head? q)
          have y3 := hin y _ y1
          have := entry_inj h10 y3.1 he y2
          subst this
          exact hq y3.2.symm
      · rw [hp, if_pos hf, if_pos rfl, l_Fv (x := nxt (adr (chn n (e.2.1 % n) es)) e.1) E rfl, l_Sr a4 a2.1 hi (by omega) (fun y hy => ?_)]
        obtain ⟨x, x1, x2⟩ := List.mem_map.mp (nxt_mem hy)
        exact ⟨27, _, by rw [← x2]; exact (h9 x (hin x _ x1).1).1, by decide⟩
    · obtain ⟨b, hb⟩ := Option.ne_none_iff_exists'.mp hf
      obtain ⟨x0, b1, b2⟩ := List.mem_map.mp (prv_mem hb).1
      obtain ⟨b3, b4⟩ := hin x0 _ b1
      obtain ⟨E0, -, -, O0, -⟩ := h9 x0 b3
      have hbe : b ≠ e.1 := fun q => nxt_self (hdc _) (by rw [q] at hb; exact prv_nxt (hdc _) hb)
      refine ⟨hup h b (ND x0.2.1 x0.2.2.1 x0.2.2.2 (nxt (adr (chn n (e.2.1 % n) es)) e.1) (prv (adr es) x0.1) (nxt (adr es) x0.1)), f, rfl, rfl, hup_ne (by rw [← b2]; exact Ne.symm (hEm x0 b3).1), fun x hx => ?_, ?_, fun i hi2 => ?_, fun q q2 => hup_ne (fun e => q2 (by rw [e, ← b2]; exact O0.2.2)), fun K => ?_⟩
      · by_cases hq : x.1 = b
        · have := entry_inj h10 hx b3 (hq.trans b2.symm)
          subst this
          rw [hq, hup_at, b4, if_pos (prv_nxt (hdc _) hb), ← hq]
        · rw [hup_ne hq, if_neg]
          · exact (h9 x hx).1
          · intro q
            have hm9 : e.1 ∈ adr (chn n (x.2.1 % n) es) := nxt_mem q
            obtain ⟨y, y1, y2⟩ := List.mem_map.mp hm9
            have y3 := hin y _ y1
            have := entry_inj h10 y3.1 he y2
            subst this
            rw [← y3.2] at q
            have := nxt_prv (hdc _) q
            rw [hb] at this
            exact hq (Option.some.inj this).symm
      · rw [hup_ne (by rw [← b2]; exact Ne.symm (hEm x0 b3).2)]; exact a4
      · rw [if_neg, a5 i hi2]
        intro q
        obtain ⟨y, y1, y2⟩ := List.mem_map.mp (List.mem_of_head? q)
        have y3 := hin y _ y1
        have := entry_inj h10 y3.1 he y2
        subst this
        rw [← y3.2] at q
        exact hf ((prv_none (hdc _) hmc2).mpr q)
      · rw [hp, if_neg hf, hb, if_neg (fun q => hbe (Option.some.inj q).symm), l_Fv (x := nxt (adr (chn n (e.2.1 % n) es)) e.1) E rfl, ← b2, l_P E0 O0.1 (by (show 3 < 6; omega))]
        rfl
  obtain ⟨g, f1, g1, g2, gm, gE, ga, gf, gq, gK⟩ := cut
  have gm' : g.2.2 m = some (MC (some a) ve (nI es.length) mc th lf vk vv (adr es).head? (adr es).getLast?) := gm.trans h4
  have hnx : nxt (adr (chn n (e.2.1 % n) es)) e.1 ≠ some e.1 := nxt_self (hdc _)
  -- the map's own numbers
  obtain ⟨u, hu⟩ : ∃ u, u = hup g m (MC (some a) ve (nI es.length - 1) (mc + 1) th lf vk vv (adr es).head? (adr es).getLast?) := ⟨_, rfl⟩
  have um : u.2.2 m = some (MC (some a) ve (nI es.length - 1) (mc + 1) th lf vk vv (adr es).head? (adr es).getLast?) := by rw [hu]; exact hup_at
  have uq : ∀ q, q ≠ m → u.2.2 q = g.2.2 q := fun q hq => by rw [hu, hup_ne hq]
  have uE : ∀ x, x ∈ es → u.2.2 x.1 = some (ND x.2.1 x.2.2.1 x.2.2.2 (if nxt (adr (chn n (x.2.1 % n) es)) x.1 = some e.1 then nxt (adr (chn n (e.2.1 % n) es)) e.1 else nxt (adr (chn n (x.2.1 % n) es)) x.1) (prv (adr es) x.1) (nxt (adr es) x.1)) := fun x hx => by rw [uq _ (hEm x hx).1]; exact gE x hx
  have cB : ∀ b, prv (adr es) e.1 = some b → ∃ x, x ∈ es ∧ x.1 = b ∧ b ≠ e.1 := fun b hb => by
    obtain ⟨x, x1, x2⟩ := List.mem_map.mp (prv_mem hb).1
    exact ⟨x, x1, x2, fun q => nxt_self h10 (by rw [q] at hb; exact prv_nxt h10 hb)⟩
  have cA : ∀ b, nxt (adr es) e.1 = some b → ∃ x, x ∈ es ∧ x.1 = b ∧ b ≠ e.1 := fun b hb => by
    obtain ⟨x, x1, x2⟩ := List.mem_map.mp (nxt_mem hb)
    exact ⟨x, x1, x2, fun q => nxt_self h10 (by rw [q] at hb; exact hb)⟩
  have hAB : ∀ y, prv (adr es) e.1 = some y → nxt (adr es) e.1 ≠ some y := fun y h1 h2 => by
    obtain ⟨i, hi⟩ := List.getElem?_of_mem hm
    rcases i with _ | i
    · rw [prv_head h10 (by rw [List.head?_eq_getElem?]; exact hi)] at h1; cases h1
    · rw [prv_at _ h10 i _ hi] at h1
      rw [nxt_at _ h10 (i + 1) _ hi] at h2
      have := (List.getElem?_inj (List.getElem?_eq_some_iff.mp h1).1 h10).mp (h1.trans h2.symm)
      omega
  obtain ⟨h', r1, r2, r3, r4, r5, r6, r7, r8⟩ := m_arem (N := N) h12.1 O.1 um (uE e he) (fun b hb => by
    obtain ⟨x, x1, x2, x3⟩ := cB b hb
    exact ⟨by rw [← x2]; exact (h9 x x1).2.2.2.1.1, x3, _, _, _, _, _, _, by rw [← x2]; exact uE x x1⟩) (fun b hb => by
    obtain ⟨x, x1, x2, x3⟩ := cA b hb
    exact ⟨by rw [← x2]; exact (h9 x x1).2.2.2.1.1, x3, _, _, _, _, _, _, by rw [← x2]; exact uE x x1⟩) hAB
  have fr : ∀ q, w q ≠ t → h'.2.2 q = h.2.2 q := fun q q2 => by
    have hqm : q ≠ m := fun e => q2 (by rw [e]; exact h12.2.2)
    rw [r7 q hqm (fun e9 => q2 (by rw [e9]; exact O.2.2)) (fun e9 => ?_) (fun e9 => ?_), uq q hqm, gq q q2]
    · obtain ⟨x, x1, x2, x3⟩ := cB q e9.symm
      exact q2 (by rw [← x2]; exact (h9 x x1).2.2.2.1.2.2)
    · obtain ⟨x, x1, x2, x3⟩ := cA q e9.symm
      exact q2 (by rw [← x2]; exact (h9 x x1).2.2.2.1.2.2)
  have ha' : h'.2.2 a = g.2.2 a := by
    rw [r7 a ham (fun e9 => (hEm e he).2 e9.symm) (fun e9 => ?_) (fun e9 => ?_), uq a ham]
    · obtain ⟨x, x1, x2, x3⟩ := cB a e9.symm
      exact (hEm x x1).2 x2
    · obtain ⟨x, x1, x2, x3⟩ := cA a e9.symm
      exact (hEm x x1).2 x2
  have X := m_rmvX (g := h') (sz' := nI es.length - 1) (mc' := mc + 1) (f1 := f1) A' ht he (by rw [r2, hu]; exact g1) r4 (fun x hx hxe => ?_) (by rw [ha']; exact ga) gf (fun q _ q2 => fr q q2)
  · refine ⟨h', by rw [r2, hu]; exact g1, by rw [r3, hu]; exact g2, fun q _ q2 => fr q q2, ?_, ?_, ?_⟩
    · have : nI (rmv es e.2.1).length = nI es.length - 1 := by
        have h1 : (rmv es e.2.1).length = es.length - 1 := by
          rw [← adr_len, adr_rmv h10 h11 he, lrm_len h10 hm, adr_len]
        have h2 : 0 < es.length := List.length_pos_of_mem he
        rw [h1, n_1, pk_sub (by omega)]
      rw [this]
      exact X
    · exact ⟨_, _, _, r8⟩
    · rw [l_J, gK]
      dsimp only
      rw [l_Fi gm' rfl, l_P gm' h12.1 (by (show 3 < 12; omega)), l_Fi hup_at rfl, l_P hup_at h12.1 (by (show 2 < 12; omega)), hup_up]
      rw [hu] at r1 um
      refine (l_bV um).trans ?_
      refine (congrArg (fun o => bnd o (fun (v20 : Unit) h21 => (some (.inl (some e.1), h21) : Out (Option Nat)))) r1).trans ?_
      rw [l_bnd]
  · by_cases q1 : prv (adr es) e.1 = some x.1
    · rw [r5 _ _ _ _ _ _ _ q1 (uE x hx), if_pos q1, if_neg (hAB _ q1)]
    · by_cases q2 : nxt (adr es) e.1 = some x.1
      · rw [r6 _ _ _ _ _ _ _ q2 (uE x hx), if_neg q1, if_pos q2]
      · rw [r7 _ (hEm x hx).1 hxe (fun q => q1 q.symm) (fun q => q2 q.symm), uE x hx, if_neg q1, if_neg q2]
theorem m_remove {t m n hs k : Nat} {es : List En} (A : MR G.1 h w t z m n es) (ht : t ≠ 0) (hh : hs < 128) (K : KeyAt h z k hs) (hN : 400 < N) : ∃ h', sJ23_remove_c26 G N (some m) (some k) h = some (.inl ((look es hs).map (fun e => e.2.2.2)), h') ∧ h'.1 = h.1 ∧ h'.2.1 = h.2.1 ∧ (∀ q, q < h.1 → w q ≠ t → h'.2.2 q = h.2.2 q) ∧ MR G.1 h' w t z m n (rmv es hs) := by
  classical
  have A' := A
  obtain ⟨tab, mc, th, lf, ve, vk, vv, kk, X⟩ := A
  have X' := X
  have hlen := X.len
  obtain ⟨h1, h2, h3, h4, h5, h6, h7, h8, h9, h10, h11, h12⟩ := X
  have nothing : look es hs = none → rmv es hs = es := fun hL => rmv_not (look_none hL)
  unfold sJ23_remove_c26
  rw [k_hash K hh, l_bnd, l_bV h4]
  have miss : look es hs = none → sJ23_removeNode_c26 G N (some m) (nI hs) (some k) none 0 1 h = some (.inl none, h) → ∃ h', (bnd (sJ23_removeNode_c26 G N (some m) (nI hs) (some k) none 0 1 h) fun v3 h4 => if v3 = none then (some (.inl none, h4) : Out (Option Nat)) else gFr h4 v3 27 2 fun v5 => some (.inl v5, h4)) = some (.inl ((look es hs).map (fun e => e.2.2.2)), h') ∧ h'.1 = h.1 ∧ h'.2.1 = h.2.1 ∧ (∀ q, q < h.1 → w q ≠ t → h'.2.2 q = h.2.2 q) ∧ MR G.1 h' w t z m n (rmv es hs) := fun hL hr => by
    refine ⟨h, ?_, rfl, rfl, fun _ _ _ => rfl, by rw [nothing hL]; exact A'⟩
    rw [hr, l_bnd, if_pos rfl, hL]
    rfl
  rcases h8 with ⟨a, f, a1, a2, a3, a4, a5⟩ | ⟨a1, a6, -⟩
  rotate_left
  · subst a1 a6
    refine miss rfl ?_
    unfold sJ23_removeNode_c26
    rw [l_Fn h4 rfl, if_pos rfl]
  subst a1
  have hn16 : 16 ≤ n := by
    rw [h1]; exact Nat.le_trans (by decide) (Nat.pow_le_pow_right (show 0 < 2 by omega) h2)
  have hn8 : n ≤ 2 ^ 8 := by rw [h1]; exact Nat.pow_le_pow_right (by omega) h3
  have hi : hs % n < n := Nat.mod_lt _ (by omega)
  have hIx : (nI n - 1) &&& nI hs = nI (hs % n) := ix_ok h1 h3
  have hin : ∀ e, e ∈ chn n (hs % n) es → e ∈ es ∧ e.2.1 % n = hs % n := fun e he => by
    have := List.mem_filter.mp he
    exact ⟨this.1, by simpa using this.2⟩
  have pre : ∀ (L : Option Nat → Out (Option Nat)), (gFr h (some m) 26 0 fun v1 => if v1 = none then (some (.inl none, h) : Out (Option Nat)) else gLen h v1 fun v2 => if v2 ≤ 0 then (some (.inl none, h)) else gLet ((v2 - (1 : Int32)) &&& nI hs) fun v3 => gAr h v1 8 v3 fun v4 => L v4) = L (adr (chn n (hs % n) es)).head? := fun L => by
    rw [l_Fr h4 rfl, if_neg (by simp), l_Lenr a4 (by decide), if_neg (by rw [n_0]; exact fun q => absurd ((nI_leI (by omega) (by omega)).mp q) (by omega)), l_let, hIx, l_Arv a4 hi (by omega) (a5 _ hi)]
  by_cases hz : chn n (hs % n) es = []
  · refine miss (by rw [← look_chn (n := n), hz]; rfl) ?_
    unfold sJ23_removeNode_c26
    rw [l_Fr h4 rfl, if_neg (by simp), l_Lenr a4 (by decide), if_neg (by rw [n_0]; exact fun q => absurd ((nI_leI (by omega) (by omega)).mp q) (by omega)), l_let, hIx, l_Arv a4 hi (by omega) (a5 _ hi), if_pos (by rw [hz]; rfl)]
  obtain ⟨e0, cs, hc0⟩ : ∃ x l, chn n (hs % n) es = x :: l := by
    cases h : chn n (hs % n) es with
    | nil => exact absurd h hz
    | cons x l => exact ⟨x, l, rfl⟩
  have m0 : e0 ∈ chn n (hs % n) es := by rw [hc0]; exact List.mem_cons_self
  obtain ⟨E0, K0, b0, -⟩ := h9 e0 (hin e0 m0).1
  have hdc : (adr (chn n (hs % n) es)).Nodup := chn_sub.nodup h10
  have hhead : (adr (chn n (hs % n) es)).head? = some e0.1 := by rw [hc0]; rfl
  -- the code from where the node is found
  have hit : ∀ e p, look es hs = some e → p = (if prv (adr (chn n (hs % n) es)) e.1 = none then some e.1 else prv (adr (chn n (hs % n) es)) e.1) → ∃ h', (bnd (gIn h (some e.1) [] [27] fun v12 => if v12 = 0 then (gJ (fun (x13 : Unit) (h14 : Hp) => gFi h14 (some m) 26 3 fun v16 => gP G h14 (some m) 26 3 (.int (v16 + (1 : Int32))) fun h17 => gFi h17 (some m) 26 2 fun v18 => gP G h17 (some m) 26 2 (.int (v18 - (1 : Int32))) fun h19 => bV h19 (some m) 26 (fun q22 => sJ24_afterNodeRemoval G N (some q22) (some e.1) h19) fun v20 h21 => (some (.inl (some e.1), h21) : Out (Option Nat))) fun j15 =>
      if some e.1 = p then (gFr h (some e.1) 27 3 fun v25 => gSr G h (some a) 8 asl_java_util_HashMap_Node (nI (hs % n)) v25 fun h26 => j15 () h26)
      else gFr h (some e.1) 27 3 fun v23 => gP G h p 27 3 (va_rf v23) fun h24 => j15 () h24) else none) fun v3 h4 => if v3 = none then (some (.inl none, h4) : Out (Option Nat)) else gFr h4 v3 27 2 fun v5 => some (.inl v5, h4)) = some (.inl ((look es hs).map (fun e => e.2.2.2)), h') ∧ h'.1 = h.1 ∧ h'.2.1 = h.2.1 ∧ (∀ q, q < h.1 → w q ≠ t → h'.2.2 q = h.2.2 q) ∧ MR G.1 h' w t z m n (rmv es hs) := by
    intro e p hL hp
    obtain ⟨m1, m2⟩ := look_mem hL
    obtain ⟨h', r1, r2, r3, r4, ⟨nx, bf, af, r5⟩, r6⟩ := m_rfin (N := N) X' ht m1 (p := p) (by rw [m2]; exact hp)
    rw [m2] at r4 r6
    refine ⟨h', ?_, r1, r2, r3, some a, mc + 1, th, lf, ve, vk, vv, kk, r4⟩
    rw [gin_e (h9 e m1).1, if_pos (show (0 : Int32) = 0 from rfl), r6, l_bnd, if_neg (by simp), l_Fr r5 rfl, hL]
    rfl
  unfold sJ23_removeNode_c26
  rw [l_Fr h4 rfl, if_neg (by simp), l_Lenr a4 (by decide), if_neg (by rw [n_0]; exact fun q => absurd ((nI_leI (by omega) (by omega)).mp q) (by omega)), l_let, hIx, l_Arv a4 hi (by omega) (a5 _ hi), hhead, if_neg (by simp), l_Fi E0 rfl, l_J, l_J]
  by_cases hc : e0.2.1 = hs
  · have hL : look es hs = some e0 := look_some h11 (hin e0 m0).1 hc
    have hp0 : some e0.1 = if prv (adr (chn n (hs % n) es)) e0.1 = none then some e0.1 else prv (adr (chn n (hs % n) es)) e0.1 := by
      rw [if_pos (prv_head hdc hhead)]
    rw [if_pos (by rw [hc]), l_Fr E0 rfl, l_J]
    have := hit e0 _ hL hp0
    by_cases hk : some e0.2.2.1 = some k
    · rw [if_pos hk]
      dsimp only
      rw [if_neg (by simp), l_J, if_pos rfl]
      simpa only [if_true] using this
    · rw [if_neg hk, if_neg (by simp), l_J]
      rw [hc] at K0
      rw [k_eq K K0, if_neg (by decide)]
      dsimp only
      rw [if_neg (by simp), l_J, if_pos rfl]
      simpa only [if_true] using this
  · rw [if_neg (fun q => hc ((nI_eq (by omega) (by omega)).mp q))]
    dsimp only
    have hnx0 : nxt (adr (chn n (e0.2.1 % n) es)) e0.1 = (adr (chn n (hs % n) es))[1]? := by
      rw [(hin e0 m0).2]
      exact nxt_at _ hdc 0 e0.1 (by rw [adr_at, hc0]; rfl)
    rw [l_Fv (x := nxt (adr (chn n (e0.2.1 % n) es)) e0.1) E0 rfl, hnx0]
    cases hcs : (chn n (hs % n) es)[1]? with
    | none =>
      have hL : look es hs = none := by
        rw [← look_chn (n := n)]
        refine List.find?_eq_none.mpr fun e9 h9 => ?_
        obtain ⟨q, hq⟩ := List.getElem?_of_mem h9
        have hq2 : q < (chn n (hs % n) es).length := (List.getElem?_eq_some_iff.mp hq).1
        have := List.getElem?_eq_none_iff.mp hcs
        have : q = 0 := by omega
        subst this
        rw [hc0] at hq
        cases hq
        simpa using hc
      rw [adr_at, hcs, if_pos (show Option.map (fun e : En => e.1) none = none from rfl)]
      refine ⟨h, ?_, rfl, rfl, fun _ _ _ => rfl, by rw [nothing hL]; exact A'⟩
      rw [if_pos rfl, l_bnd, if_pos rfl, hL]
      rfl
    | some e1 =>
      rw [adr_at, hcs]
      rw [if_neg (by simp), gin_e E0, if_pos (show (0 : Int32) = 0 from rfl), l_J]
      obtain ⟨y, hy⟩ := m_rwalk (N := N) hh (fun e he => ⟨(h9 e he).1, (h9 e he).2.1, (h9 e he).2.2.1⟩) h10 h11 K (by omega) (show (chn n (hs % n) es)[0]? = some e0 by rw [hc0]; rfl) hcs hc (fun (x6 : Option Nat × Option Nat) (h7 : Hp) => if x6.2 = none then (some (.inl none, h7) : Out (Option Nat)) else gJ (fun (x9 : Unit) (h10 : Hp) =>
  gIn h10 x6.2 [] [27] fun v12 =>
  if v12 = 0 then (gJ (fun (x13 : Unit) (h14 : Hp) =>
  gFi h14 (some m) 26 3 fun v16 =>
  gP G h14 (some m) 26 3 (.int (v16 + (1))) fun h17 =>
  gFi h17 (some m) 26 2 fun v18 =>
  gP G h17 (some m) 26 2 (.int (v18 - (1))) fun h19 =>
  bV h19 (some m) 26 (fun q22 => sJ24_afterNodeRemoval G N (some q22) x6.2 h19) fun v20 h21 =>
  some (.inl x6.2, h21)) fun j15 =>
  if x6.2 = x6.1 then (gFr h10 x6.2 27 3 fun v25 =>
  gSr G h10 (some a) 8 asl_java_util_HashMap_Node (nI (hs % n)) v25 fun h26 =>
  j15 () h26)
  else gFr h10 x6.2 27 3 fun v23 =>
  gP G h10 x6.1 27 3 (va_rf v23) fun h24 =>
  j15 () h24)
  else none) fun j11 =>
  if (0 : Int32) = 0 then (j11 () h7)
  else gFr h7 x6.2 27 2 fun v27 =>
  if v27 = none then (j11 () h7)
  else if (none : Option Nat) = none then (some (.inl none, h7))
  else gJ (fun (v28) (h29 : Hp) =>
  if v28 = 0 then (some (.inl none, h29))
  else j11 () h29) fun j30 =>
  gSw h7 none 10 (bV h7 none 10 (fun q31 => sX7_equals G N (some q31) v27 h7) j30) (bV h7 none 19 (fun q32 => sJ20_equals G N (some q32) v27 h7) j30))
      have hy2 := congrArg (fun o => bnd o (fun (v3 : Option Nat) (h4 : Hp) => if v3 = none then (some (.inl none, h4) : Out (Option Nat)) else gFr h4 v3 27 2 fun v5 => some (.inl v5, h4))) hy
      cases hL : look es hs with
      | none =>
        rw [hL] at hy2
        exact ⟨h, hy2, rfl, rfl, fun _ _ _ => rfl, by rw [nothing hL]; exact A'⟩
      | some e =>
        rw [hL] at hy2
        have hne : prv (adr (chn n (hs % n) es)) e.1 ≠ none := fun q => by
          obtain ⟨m1, m2⟩ := look_mem hL
          have h5 : e ∈ chn n (hs % n) es := List.mem_filter.mpr ⟨m1, by simp [m2]⟩
          have h6 := (prv_none hdc (adr_mem h5)).mp q
          rw [hhead] at h6
          have h7 := entry_inj hdc m0 h5 (Option.some.inj h6)
          rw [h7] at hc
          exact hc m2
        obtain ⟨h', q1, q2⟩ := hit e (prv (adr (chn n (hs % n) es)) e.1) hL (by rw [if_neg hne])
        rw [hL] at q1
        refine ⟨h', hy2.trans ?_, q2⟩
        dsimp only
        rw [if_neg (by simp), l_J, if_pos rfl]
        exact q1
end Q3
