/-! the linked hash map: put, whole -/
set_option maxRecDepth 100000
set_option maxHeartbeats 2000000
section P3
variable {α : Type} {G : GG} {N : Nat} {h : Hp} {z : Bool} {w : Nat → Nat}
/-- a value replaced -/
theorem m_rplX {t m n kk hs v : Nat} {e : En} {es : List En} {tab : Option Nat} {sz mc th : Int32} {lf : UInt32} {ve vk vv : Option Nat} (A : MX G.1 h w t z m n es tab sz mc th lf ve vk vv kk) (ht : t ≠ 0) (iv : Im h w v) (hL : look es hs = some e) : MX G.1 (hup h e.1 (ND e.2.1 e.2.2.1 v (nxt (adr (chn n (e.2.1 % n) es)) e.1) (prv (adr es) e.1) (nxt (adr es) e.1))) w t z m n (rpl es hs v) tab sz mc th lf ve vk vv kk := by
  obtain ⟨h1, h2, h3, h4, h5, h6, h7, h8, h9, h10, h11, h12⟩ := A
  obtain ⟨m1, m2⟩ := look_mem hL
  have E := (h9 e m1).1
  have ko : ∀ (q c : Nat) (fs : List Value), c ≠ 27 → h.2.2 q = some (.inr (c, fs)) → (hup h e.1 (ND e.2.1 e.2.2.1 v (nxt (adr (chn n (e.2.1 % n) es)) e.1) (prv (adr es) e.1) (nxt (adr es) e.1))).2.2 q = some (.inr (c, fs)) := fun q c fs hc hq => by
    rw [hup_ne (cl_ne hq E hc)]; exact hq
  have vw : ∀ ci v', ci ≠ 27 → VwO h w m ci v' → VwO (hup h e.1 (ND e.2.1 e.2.2.1 v (nxt (adr (chn n (e.2.1 % n) es)) e.1) (prv (adr es) e.1) (nxt (adr es) e.1))) w m ci v' := fun ci v' hc V a ha => by
    obtain ⟨p1, p2, p3⟩ := V a ha
    exact ⟨p1, p2, ko _ _ _ hc p3⟩
  refine ⟨h1, h2, h3, ?_, vw _ _ (by decide) h5, vw _ _ (by decide) h6, vw _ _ (by decide) h7, ?_, fun e' he' => ?_, ?_, ?_, h12⟩
  · rw [adr_rpl]; exact ko _ _ _ (by decide) h4
  · rcases h8 with ⟨a, f, a1, a2, a3, a4, a5⟩ | ⟨a1, a2, a3⟩
    · exact Or.inl ⟨a, f, a1, a2, a3, by rw [hup_ne (mc_ne a4 E)]; exact a4, fun i hi => by rw [chn_rpl]; exact a5 i hi⟩
    · rw [a2] at m1; exact nomatch m1
  · obtain ⟨e0, c1, c2⟩ := List.mem_map.mp he'
    obtain ⟨b1, b2, b3, b4, b5, b6⟩ := h9 e0 c1
    obtain ⟨r1, r2, r3⟩ := rpl_f hs v e0
    rw [c2] at r1 r2 r3
    have ky : KeyAt (hup h e.1 (ND e.2.1 e.2.2.1 v (nxt (adr (chn n (e.2.1 % n) es)) e.1) (prv (adr es) e.1) (nxt (adr es) e.1))) z e0.2.2.1 e0.2.1 := by
      unfold KeyAt at b2 ⊢
      cases z with
      | true => simp only [if_true] at b2 ⊢; exact ko _ _ _ (by decide) b2
      | false => simp only [Bool.false_eq_true, if_false] at b2 ⊢; exact ko _ _ _ (by decide) b2
    refine ⟨?_, by rw [r2, r3]; exact ky, by rw [r2]; exact b3, by rw [r1]; exact b4, by rw [r3]; exact b5, ?_⟩
    · unfold EnAt
      rw [r1, r2, r3, chn_rpl, adr_rpl]
      by_cases hq : e0.1 = e.1
      · have := entry_inj h10 c1 m1 hq
        subst this
        rw [hup_at, ← c2, if_pos m2]
      · rw [hup_ne hq, b1, ← c2, if_neg]
        intro q
        have := look_some h11 c1 q
        rw [hL] at this
        exact hq (by rw [Option.some.inj this])
    · rw [← c2]
      by_cases hq : e0.2.1 = hs
      · rw [if_pos hq]; exact iv
      · rw [if_neg hq]; exact b6
  · rw [adr_rpl]; exact h10
  · rw [hsh_rpl]; exact h11
theorem l_Srn {a t n i : Nat} {cs : List Nat} {f : Nat → Option Nat} {y c : Nat} {fs : List Value} {kont : Hp → Out α} (e : h.2.2 a = some (.inl (t, n, .inr (.inr (.inr (.inr f)))))) (hb : G.1 ≤ a) (hi : i < n) (hn : n < 2 ^ 31) (hx : h.2.2 y = some (.inr (c, fs))) (hc : c ∈ cs) : gSr G h (some a) t cs (nI i) (some y) kont = kont (hup h a (.inl (t, n, .inr (.inr (.inr (.inr (va_up f i (some y)))))))) := l_Sr e hb hi hn (fun y' hy => by cases hy; exact ⟨c, fs, hx, hc⟩)
theorem m_putV {t m n a kk hs k v : Nat} {es : List En} {mc th : Int32} {lf : UInt32} {ve vk vv : Option Nat} (A : MX G.1 h w t z m n es (some a) (nI es.length) mc th lf ve vk vv kk) (ht : t ≠ 0) (hb : G.1 ≤ h.1) (hh : hs < 128) (K : KeyAt h z k hs) (ik : Im h w k) (iv : Im h w v) (hN : 400 < N) :
    ∃ h' n' es', n ≤ n' ∧ sJ23_putVal_c26 G N (some m) (nI hs) (some k) (some v) 0 1 h = some (.inl ((look es hs).map (fun e => e.2.2.2)), h') ∧ h.1 ≤ h'.1 ∧ h'.1 ≤ h.1 + 1 + (n' - n) / 2 ∧ h'.2.1 ≤ h.2.1 + 6 + 4 * ((n' - n) / 2) ∧ (∀ q, q < h.1 → w q ≠ t → h'.2.2 q = h.2.2 q) ∧ MR G.1 h' (nw w h.1 t) t z m n' es' ∧ (look es hs = none → es' = es ++ [(h.1, hs, k, v)]) ∧ (look es hs ≠ none → es' = rpl es hs v ∧ n' = n) := by
  classical
  have A' := A
  have hl := A.len
  obtain ⟨h1, h2, h3, h4, h5, h6, h7, h8, h9, h10, h11, h12⟩ := A
  rcases h8 with ⟨a9, f, a1, a2, a3, a4, a5⟩ | ⟨a1, -⟩
  rotate_left
  · cases a1
  cases a1
  have hn16 : 16 ≤ n := by
    rw [h1]; exact Nat.le_trans (by decide) (Nat.pow_le_pow_right (show 0 < 2 by omega) h2)
  have hn8 : n ≤ 2 ^ 8 := by rw [h1]; exact Nat.pow_le_pow_right (by omega) h3
  have hi : hs % n < n := Nat.mod_lt _ (by omega)
  have hin : ∀ e, e ∈ chn n (hs % n) es → e ∈ es ∧ e.2.1 % n = hs % n := fun e he => by
    have := List.mem_filter.mp he
    exact ⟨this.1, by simpa using this.2⟩
  have hm1 := h12.2.1
  have ham : a ≠ m := mc_ne a4 h4
  -- found
  have found : ∀ e, look es hs = some e → ∃ h' n' es', n ≤ n' ∧ (gFr h (some e.1) 27 2 fun v29 => gP G h (some e.1) 27 2 (va_rf (some v)) fun h39 => bV h39 (some m) 26 (fun q35 => sJ24_afterNodeAccess G N (some q35) (some e.1) h39) fun v33 h34 => (some (.inl v29, h34) : Out (Option Nat))) = some (.inl ((look es hs).map (fun e => e.2.2.2)), h') ∧ h.1 ≤ h'.1 ∧ h'.1 ≤ h.1 + 1 + (n' - n) / 2 ∧ h'.2.1 ≤ h.2.1 + 6 + 4 * ((n' - n) / 2) ∧ (∀ q, q < h.1 → w q ≠ t → h'.2.2 q = h.2.2 q) ∧ MR G.1 h' (nw w h.1 t) t z m n' es' ∧ (look es hs = none → es' = es ++ [(h.1, hs, k, v)]) ∧ (look es hs ≠ none → es' = rpl es hs v ∧ n' = n) := by
    intro e hL
    obtain ⟨m1, m2⟩ := look_mem hL
    obtain ⟨E, -, -, O, -⟩ := h9 e m1
    have R := m_rplX A' ht iv hL
    refine ⟨hup h e.1 (ND e.2.1 e.2.2.1 v (nxt (adr (chn n (e.2.1 % n) es)) e.1) (prv (adr es) e.1) (nxt (adr es) e.1)), n, rpl es hs v, Nat.le_refl _, ?_, Nat.le_refl _, by rw [hup_1]; omega, by rw [hup_2]; omega, fun q q1 q2 => hup_ne (fun e9 => q2 (by rw [e9]; exact O.2.2)), ?_, (fun q => by rw [hL] at q; cases q), (fun _ => ⟨rfl, rfl⟩)⟩
    · have e4 : (hup h e.1 (ND e.2.1 e.2.2.1 v (nxt (adr (chn n (e.2.1 % n) es)) e.1) (prv (adr es) e.1) (nxt (adr es) e.1))).2.2 m = _ := R.2.2.2.1
      rw [l_Fr E rfl, l_P E O.1 (by (show 2 < 6; omega))]
      refine (l_bV e4).trans ?_
      refine (congrArg (fun o => bnd o (fun (v33 : Unit) h34 => (some (.inl (some e.2.2.2), h34) : Out (Option Nat)))) (m_afterAcc (G := G) (N := N) (a := some e.1) e4)).trans ?_
      rw [l_bnd, hL]
      rfl
    · have hl9 : (rpl es hs v).length = es.length := List.length_map _
      obtain ⟨b1, b2, b3, b4, b5, b6, b7, b8, b9, b10, b11, b12⟩ := R
      have ow : ∀ q, Ow G.1 (hup h e.1 (ND e.2.1 e.2.2.1 v (nxt (adr (chn n (e.2.1 % n) es)) e.1) (prv (adr es) e.1) (nxt (adr es) e.1))) w t q → Ow G.1 (hup h e.1 (ND e.2.1 e.2.2.1 v (nxt (adr (chn n (e.2.1 % n) es)) e.1) (prv (adr es) e.1) (nxt (adr es) e.1))) (nw w h.1 t) t q := fun q O => ⟨O.1, O.2.1, by rw [nw_lt (n := h.1) O.2.1]; exact O.2.2⟩
      refine ⟨some a, mc, th, lf, ve, vk, vv, kk, b1, b2, b3, by rw [hl9]; exact b4, b5.same (Nat.le_refl _) (fun q hq => nw_lt hq) (fun _ _ => rfl), b6.same (Nat.le_refl _) (fun q hq => nw_lt hq) (fun _ _ => rfl), b7.same (Nat.le_refl _) (fun q hq => nw_lt hq) (fun _ _ => rfl), ?_, fun e he => ?_, b10, b11, ow _ b12⟩
      · rcases b8 with ⟨a, f, a1, a2, a3, a4, a5⟩ | b8
        · exact Or.inl ⟨a, f, a1, ow _ a2, a3, a4, a5⟩
        · exact Or.inr b8
      · obtain ⟨c1, c2, c3, c4, c5, c6⟩ := b9 e he
        exact ⟨c1, c2, c3, ow _ c4, ⟨c5.1, by rw [nw_lt (n := h.1) c5.1]; exact c5.2⟩, ⟨c6.1, by rw [nw_lt (n := h.1) c6.1]; exact c6.2⟩⟩
  -- added: the end
  have added : ∀ (g : Hp) (f1 : Nat → Option Nat), look es hs = none → g.1 = h.1 + 1 → g.2.1 = h.2.1 + 6 → g.2.2 m = some (MC (some a) ve (nI es.length) mc th lf vk vv (if (adr es).getLast? = none then some h.1 else (adr es).head?) (some h.1)) → g.2.2 h.1 = some (ND hs k v none (adr es).getLast? none) → (∀ e, e ∈ es → g.2.2 e.1 = some (ND e.2.1 e.2.2.1 e.2.2.2 (if (adr (chn n (hs % n) es)).getLast? = some e.1 then some h.1 else nxt (adr (chn n (e.2.1 % n) es)) e.1) (prv (adr es) e.1) (if (adr es).getLast? = some e.1 then some h.1 else nxt (adr es) e.1))) → g.2.2 a = some (.inl (8, n, .inr (.inr (.inr (.inr f1))))) → (∀ i, i < n → f1 i = if i = hs % n ∧ chn n (hs % n) es = [] then some h.1 else (adr (chn n i es)).head?) → (∀ q, q < h.1 → w q ≠ t → g.2.2 q = h.2.2 q) →
      ∃ h' n' es', n ≤ n' ∧ (gFi g (some m) 26 3 fun v10 => gP G g (some m) 26 3 (.int (v10 + (1 : Int32))) fun h11 => gFi h11 (some m) 26 2 fun v12 => gLet (v12 + (1 : Int32)) fun v13 => gP G h11 (some m) 26 2 (.int v13) fun h14 => gFi h14 (some m) 26 4 fun v15 =>
      gJ (fun (x16 : Unit) (h17 : Hp) => bV h17 (some m) 26 (fun q21 => sJ24_afterNodeInsertion G N (some q21) (1 : Int32) h17) fun v19 h20 => (some (.inl (none : Option Nat), h20) : Out (Option Nat))) fun j18 =>
      if v13 ≤ v15 then (j18 () h14) else bV h14 (some m) 26 (fun q24 => sJ23_resize_c26 G N (some q24) h14) fun v22 h23 => j18 () h23) = some (.inl ((look es hs).map (fun e => e.2.2.2)), h') ∧ h.1 ≤ h'.1 ∧ h'.1 ≤ h.1 + 1 + (n' - n) / 2 ∧ h'.2.1 ≤ h.2.1 + 6 + 4 * ((n' - n) / 2) ∧ (∀ q, q < h.1 → w q ≠ t → h'.2.2 q = h.2.2 q) ∧ MR G.1 h' (nw w h.1 t) t z m n' es' ∧ (look es hs = none → es' = es ++ [(h.1, hs, k, v)]) ∧ (look es hs ≠ none → es' = rpl es hs v ∧ n' = n) := by
    intro g f1 hL q1 q1' q2 q3 q4 q5 q6 q7
    have X := m_insX A' ht hb hh K ik iv hL q1 q2 q3 q4 q5 q6 q7
    obtain ⟨h', n', r1, r2, r3, r4, r5, r6, r7⟩ := m_fin (N := N) X (by rw [n_1, nI_add, List.length_append]; rfl) ht (by omega)
    rw [q1, nw_nw (by omega)] at r7
    refine ⟨h', n', _, r1, by rw [hL]; exact r2, by omega, by omega, by omega, fun q c1 c2 => ?_, r7, (fun _ => rfl), (fun q => absurd hL q)⟩
    rw [r6 q (by omega) (by rw [nw_lt c1]; exact c2)]
    exact q7 q c1 c2
  -- the new node
  have link := m_link (N := N) (hs := hs) (k := k) (v := v) hb h12.1 hm1 h4 (fun l hl => by
    obtain ⟨e, e1, e2⟩ := last_mem hl
    obtain ⟨b1, -, -, b4, -⟩ := h9 e e1
    rw [← e2]
    exact ⟨b4.1, b4.2.1, cl_ne b1 h4 (by decide), _, _, _, _, _, _, b1⟩)
  obtain ⟨g, l1, l2, l3, l4, l5, l6, l7⟩ := link
  have hEm : ∀ e, e ∈ es → e.1 ≠ m ∧ e.1 ≠ a ∧ e.1 < h.1 := fun e he => ⟨cl_ne (h9 e he).1 h4 (by decide), fun q => mc_ne a4 (h9 e he).1 q.symm, (h9 e he).2.2.2.1.2.1⟩
  have lE : ∀ e, e ∈ es → g.2.2 e.1 = some (ND e.2.1 e.2.2.1 e.2.2.2 (nxt (adr (chn n (e.2.1 % n) es)) e.1) (prv (adr es) e.1) (if (adr es).getLast? = some e.1 then some h.1 else nxt (adr es) e.1)) := fun e he => by
    by_cases hq : (adr es).getLast? = some e.1
    · rw [if_pos hq]
      exact l6 e.1 _ _ _ _ _ _ hq (h9 e he).1
    · rw [if_neg hq, l7 e.1 (hEm e he).1 (by have := (hEm e he).2.2; omega) (fun q => hq q.symm)]
      exact (h9 e he).1
  have la : g.2.2 a = some (.inl (8, n, .inr (.inr (.inr (.inr f))))) := by
    rw [l7 a ham (by have := a2.2.1; omega) (fun q => by
      obtain ⟨e, e1, e2⟩ := last_mem q.symm
      exact (hEm e e1).2.1 e2)]
    exact a4
  have lq : ∀ q, q < h.1 → w q ≠ t → g.2.2 q = h.2.2 q := fun q q1 q2 => l7 q (fun e => q2 (by rw [e]; exact h12.2.2)) (by omega) (fun e => by
    obtain ⟨e0, e1, e2⟩ := last_mem e.symm
    exact q2 (by rw [← e2]; exact (h9 e0 e1).2.2.2.1.2.2))
  have hIx : (nI n - 1) &&& nI hs = nI (hs % n) := ix_ok h1 h3
  unfold sJ23_putVal_c26
  rw [l_Fr h4 rfl, l_J, l_J, if_neg (by simp), l_Lenr a4 (by decide), if_neg (nI_ne0 (by omega) (by omega))]
  dsimp only
  rw [l_let, hIx, l_Arv a4 hi (by omega) (a5 _ hi), l_J]
  by_cases hz : chn n (hs % n) es = []
  · -- the bucket is empty
    have hL : look es hs = none := by rw [← look_chn (n := n), hz]; rfl
    rw [if_pos (by rw [hz]; rfl), l_bV h4, l1, l_bnd, l_Srn la a2.1 hi (by omega) l4 (by decide)]
    refine added _ _ hL l2 l3 (by rw [hup_ne (Ne.symm ham)]; exact l5) (by rw [hup_ne (by have := a2.2.1; omega)]; exact l4) (fun e he => ?_) hup_at (fun i hi2 => ?_) (fun q q1 q2 => by rw [hup_ne (fun e => q2 (by rw [e]; exact a2.2.2))]; exact lq q q1 q2)
    · rw [hup_ne (hEm e he).2.1, lE e he, hz, if_neg (c := (adr ([] : List En)).getLast? = some e.1) (by simp [adr])]
    · rw [va_upE]
      by_cases hq : i = hs % n
      · rw [if_pos hq, if_pos ⟨hq, hz⟩]
      · rw [if_neg hq, if_neg (fun q => hq q.1), a5 i hi2]
  · obtain ⟨e0, cs, hc0⟩ : ∃ x l, chn n (hs % n) es = x :: l := by
      cases h : chn n (hs % n) es with
      | nil => exact absurd h hz
      | cons x l => exact ⟨x, l, rfl⟩
    have m0 : e0 ∈ chn n (hs % n) es := by rw [hc0]; exact List.mem_cons_self
    obtain ⟨E0, K0, b0, -⟩ := h9 e0 (hin e0 m0).1
    rw [show (adr (chn n (hs % n) es)).head? = some e0.1 by rw [hc0]; rfl, if_neg (by simp), l_Fi E0 rfl, l_J, l_J]
    by_cases hc : e0.2.1 = hs
    · have hL : look es hs = some e0 := look_some h11 (hin e0 m0).1 hc
      rw [if_pos (by rw [hc]), l_Fr E0 rfl, l_J]
      by_cases hk : some e0.2.2.1 = some k
      · rw [if_pos hk]
        dsimp only
        rw [if_neg (by simp)]
        have := found e0 hL
        simpa only [l_J, if_true] using this
      · rw [if_neg hk, if_neg (by simp), l_J]
        rw [hc] at K0
        rw [k_eq K K0, if_neg (by decide)]
        dsimp only
        rw [if_neg (by simp)]
        have := found e0 hL
        simpa only [l_J, if_true] using this
    · rw [if_neg (fun q => hc ((nI_eq (by omega) (by omega)).mp q))]
      dsimp only
      rw [gin_e E0, if_pos (show (0 : Int32) = 0 from rfl), l_J, l_J]
      rw [m_pwalk hh (fun e he => ⟨(h9 e he).1, (h9 e he).2.1, (h9 e he).2.2.1⟩) h10 h11 K (by omega) (show (chn n (hs % n) es)[0]? = some e0 by rw [hc0]; rfl) hc]
      cases hL : look es hs with
      | some e =>
        dsimp only
        rw [if_neg (by simp)]
        have := found e hL
        rw [hL] at this
        simpa only [l_J, if_true] using this
      | none =>
        dsimp only
        obtain ⟨el, hel⟩ : ∃ l, (adr (chn n (hs % n) es)).getLast? = some l := by
          cases h : (adr (chn n (hs % n) es)).getLast? with
          | none => rw [List.getLast?_eq_none_iff] at h; exact absurd (List.map_eq_nil_iff.mp h) hz
          | some l => exact ⟨l, rfl⟩
        obtain ⟨e1, c1, c2⟩ := last_mem hel
        obtain ⟨m1, m2⟩ := hin e1 c1
        have hlen := chn_len h1 h2 hh (fun e he => (h9 e he).2.2.1) h11 hL
        rw [hel, l_bV h4, l1, l_bnd, ← c2, l_P (lE e1 m1) (h9 e1 m1).2.2.2.1.1 (by (show 3 < 6; omega)), if_pos (by rw [n_7]; exact (nI_ltI (by omega) (by omega)).mpr (by omega)), if_pos rfl]
        have := added (hup g e1.1 (ND e1.2.1 e1.2.2.1 e1.2.2.2 (some h.1) (prv (adr es) e1.1) (if (adr es).getLast? = some e1.1 then some h.1 else nxt (adr es) e1.1))) f hL l2 l3 (by rw [hup_ne (Ne.symm (hEm e1 m1).1)]; exact l5) (by rw [hup_ne (by have := (hEm e1 m1).2.2; omega)]; exact l4) (fun e he => ?_) (by rw [hup_ne (Ne.symm (hEm e1 m1).2.1)]; exact la) (fun i hi2 => by rw [if_neg (fun q => hz q.2)]; exact a5 i hi2) (fun q q1 q2 => by rw [hup_ne (fun e => q2 (by rw [e]; exact (h9 e1 m1).2.2.2.1.2.2))]; exact lq q q1 q2)
        · rw [hL] at this
          exact this
        · by_cases hq : e.1 = e1.1
          · have := entry_inj h10 he m1 hq
            subst this
            rw [hup_at, hel, if_pos (c := some el = some e.1) (by rw [c2])]
          · rw [hup_ne hq, lE e he, hel, if_neg (c := some el = some e.1) (fun q => hq ((Option.some.inj q).symm.trans c2.symm))]
end P3
