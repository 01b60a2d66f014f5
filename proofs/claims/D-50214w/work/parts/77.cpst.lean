/-! the cabins of a state copied, one by one -/
set_option maxRecDepth 100000
set_option maxHeartbeats 2000000
/-- tags that cabins' copying may change: the list's, the new cabins' -/
def SC (y : Nat → Nat) (t : Nat) : Prop := t = 2 ∨ ∃ j, t = y (j + 1)
section X1
variable {α : Type} {G : GG} {N : Nat} {h : Hp} {w y : Nat → Nat} {R : Row} {s0 st : Nat} {nl : Nat → List Nat} {mt cl se bu rd gr : Nat} {cb ru mp sp nn : Nat → Nat} {es : Nat → List En}
theorem TG.sc (Y : TG y) {k : Nat} (hk : k ≠ 2) (hk3 : k ≤ 3) : ¬ SC y k := fun q => by
  rcases q with q | ⟨j, q⟩
  · exact hk q
  · have := Y.2 (j + 1); omega
theorem TG.sc0 (Y : TG y) : ¬ SC y (y 0) := fun q => by
  rcases q with q | ⟨j, q⟩
  · have := Y.2 0; omega
  · exact Y.ne (show 0 ≠ j + 1 by omega) q
/-- how far it is: k cabins -/
def CpI (G : GG) (h : Hp) (w y : Nat → Nat) (st s0 : Nat) (R : Row) (nl : Nat → List Nat) (mt cl se bu rd gr : Nat) (cb ru mp sp nn : Nat → Nat) (es : Nat → List En) (sv : List Value) (ln it : Nat) (k : Nat) (hh : Hp) : Prop :=
  ∃ (w' : Nat → Nat) (e : Nat) (cb' ru' mp' nn' : Nat → Nat) (es' : Nat → List En), Tr (SC y) (310 * k) h w hh w' ∧ LIt hh it cl (cN R) cb k ∧ it < hh.1 ∧ w' it = 2 ∧ LB G hh ln e k cb' ∧ (0 < k → w' e = 2) ∧ ln < hh.1 ∧ w' ln = 2 ∧ hh.2.2 st = some (.inr (16, sv)) ∧
  (∀ j, j < k → CabO G.1 hh w' (y (2 * j + 1)) (y (2 * j + 2)) j R (cb' j) (ru' j) (mp' j) (nn' j) (es' j))
theorem cp_step {sv : List Value} {ln it k : Nat} {fE : Nat → Option Nat} {hh : Hp} (A : StX G.1 h w (fun _ => 0) s0 R nl mt cl se bu rd gr cb ru mp sp nn es) (Y : TG y) (hb : G.1 ≤ h.1) (hst : Ow G.1 h w (y 0) st) (hsv : sv[1]? = some (.ref ln)) (hit : G.1 ≤ it) (hln : G.1 ≤ ln) (hlnst : ln ≠ st) (hk : k < cN R) (I : CpI G h w y st s0 R nl mt cl se bu rd gr cb ru mp sp nn es sv ln it k hh) (hE : h.2.2 (G.2.2.2.2 0) = some (.inl (5, 0, .inr (.inr (.inr (.inr fE)))))) (hE1 : G.2.2.2.2 0 < h.1) (hE0 : w (G.2.2.2.2 0) = 0) (hN : 2000 < N) (j30 : Unit → Hp → Out Unit) (self : Unit → Hp → Out Unit) :
    ∃ h', CpI G h w y st s0 R nl mt cl se bu rd gr cb ru mp sp nn es sv ln it (k + 1) h' ∧ bX3_init_2_83 G N (some st) (some it) j30 self () hh = self () h' := by
  classical
  obtain ⟨w1, e, cb1, ru1, mp1, nn1, es1, T1, L1, it1, wit, B1, we, ln1, wln, st1, C1⟩ := I
  have A1 := A.keep T1 (Y.sc (by omega) (by omega)) (Y.sc (by omega) (by omega)) (fun _ => ⟨Y.sc (by omega) (by omega), by omega⟩)
  have cap : cN R ≤ 10 := by have := A.2.2.2.2.2.2.2.2.1; exact this.2.2.2.2.1
  -- next
  obtain ⟨h2, n1, n2, n3, n4, n5⟩ := L1.next (N := N) (G := G) hk hit
  have T2 : Tr (fun t => t = 2) 0 hh w1 h2 w1 := Tr.ex n2 n3 (fun q _ q2 => n4 q (fun e => q2 (by rw [e]; exact wit)))
  have n20 : ∀ t, t ≠ 2 → ¬ (fun t => t = 2) t := fun t ht q => ht q
  have A2 := A1.keep T2 (n20 0 (by omega)) (n20 1 (by omega)) (fun _ => ⟨n20 0 (by omega), by omega⟩)
  obtain ⟨mcx, lrx, ex, mx, fx, ix1, -⟩ := id L1
  have stit : st ≠ it := cl_ne st1 ix1 (by decide)
  have lnit : ln ≠ it := by
    obtain ⟨mc, f, b1, -⟩ := B1
    exact cl_ne b1 ix1 (by decide)
  have stw : st < hh.1 ∧ w1 st = y 0 := ⟨by have := T1.1; have := hst.2.1; omega, by rw [T1.2.2.2.1 st hst.2.1]; exact hst.2.2⟩
  have eA : h2.2.2 e = hh.2.2 e := n4 e (fun q => by
    obtain ⟨mc, f, b1, b2⟩ := B1
    rcases b2 with ⟨-, -, b3⟩ | ⟨-, -, -, -, b3, -⟩
    · exact mc_ne b3 ix1 q
    · exact mc_ne b3 ix1 q)
  have B2 := B1.same (by omega) (n4 ln lnit) eA
  have st2 : h2.2.2 st = some (.inr (16, sv)) := by rw [n4 st stit]; exact st1
  have hb2 : G.1 ≤ h2.1 := by have := T1.1; omega
  -- the new cabin's cell
  obtain ⟨h3, hh3⟩ : ∃ h3, h3 = hnw h2 (.inr (7, [.int 0, .int 0, .int 0, .int 0, .int 0, .int 0, .int 0, .null, .null])) 9 := ⟨_, rfl⟩
  obtain ⟨w3, hw3⟩ : ∃ w3, w3 = nw w1 h2.1 (y (2 * k + 1)) := ⟨_, rfl⟩
  have T3 : Tr (fun _ => False) 3 h2 w1 h3 w3 := by
    rw [hh3, hw3]
    exact ⟨by rw [hnw_1]; omega, by rw [hnw_1]; omega, by rw [hnw_2]; omega, fun q hq => nw_lt hq, fun q hq _ => Or.inl (hnw_ne (by omega))⟩
  have A3 := A2.keep T3 id id (fun _ => ⟨id, by omega⟩)
  have c3 : Ow G.1 h3 w3 (y (2 * k + 1)) h2.1 := ⟨hb2, by rw [hh3, hnw_1]; omega, by rw [hw3]; exact nw_ge (Nat.le_refl _)⟩
  have e3 : h3.2.2 h2.1 = some (.inr (7, [.int 0, .int 0, .int 0, .int 0, .int 0, .int 0, .int 0, .null, .null])) := by rw [hh3]; exact hnw_at
  obtain ⟨h4, w4, ruN, mpN, nnN, esN, p1, p2, p3, p4⟩ := c_copyCab (N := N) (t := y (2 * k + 1)) (t2 := y (2 * k + 2)) (Y.2 _) (Y.2 _) (Y.ne (by omega)) (by rw [hh3, hnw_1]; omega) (A3.2.2.2.2.2.2.2.1 k hk) c3 e3 (by omega)
  have nS4 : ∀ t, t ≤ 3 → ¬ (fun u => u = y (2 * k + 1) ∨ u = y (2 * k + 2)) t := fun t ht q => by
    have := Y.2 (2 * k + 1); have := Y.2 (2 * k + 2)
    rcases q with q | q <;> omega
  -- through the cabin's copying
  have T34 : Tr (fun u => u = y (2 * k + 1) ∨ u = y (2 * k + 2)) 303 h2 w1 h4 w4 := ((T3.mono (S' := fun u => u = y (2 * k + 1) ∨ u = y (2 * k + 2)) (fun _ q => q.elim) (Nat.le_refl _)).trans p2 (nS4 0 (by omega))).mono (fun _ q => q) (by omega)
  have A4 := A2.keep T34 (nS4 0 (by omega)) (nS4 1 (by omega)) (fun _ => ⟨nS4 0 (by omega), by omega⟩)
  have cell4 : ∀ {q : Nat} {x : GC}, q < h2.1 → h2.2.2 q = some x → (∀ fs, x ≠ .inr (26, fs)) → w1 q ≠ 1 → (w1 q ≤ 3 ∨ w1 q = y 0) → h4.2.2 q = some x := fun hq he hc h1 h3 => T34.cell hq (fun q => by
    rcases h3 with h3 | h3
    · exact nS4 _ h3 q
    · rw [h3] at q
      rcases q with q | q
      · exact Y.ne (show 0 ≠ 2 * k + 1 by omega) q
      · exact Y.ne (show 0 ≠ 2 * k + 2 by omega) q) he (Or.inl h1) hc
  obtain ⟨mc5, lr5, e5, m5, f5, i1, i2, i3, i4, i5, i6⟩ := n5
  have h2e : h2.1 = hh.1 := n2
  have i1' := cell4 (by omega) i1 (ncl (by decide)) (by rw [wit]; omega) (Or.inl (by rw [wit]; omega))
  obtain ⟨ec, mcc, mc6, f6, q1, q2, q3⟩ := A2.2.2.2.2.2.2.1
  have clE : mc6 = mc5 ∧ ec = e5 := by
    have := q1.2.2
    rw [i2] at this
    have := Option.some.inj this
    injection this with this
    have := (Prod.mk.inj this).2
    simp only [List.cons.injEq, Value.int.injEq, Value.ref.injEq, and_true] at this
    exact ⟨this.1.symm, this.2.symm⟩
  have i2' := cell4 q1.1 i2 (ncl (by decide)) (by rw [q1.2.1]; omega) (Or.inl (by rw [q1.2.1]; omega))
  have i3' := cell4 (by rw [← clE.2]; exact q2.1) i3 nar (by rw [← clE.2, q2.2.1]; omega) (Or.inl (by rw [← clE.2, q2.2.1]; omega))
  have L4 : LIt h4 it cl (cN R) cb (k + 1) := ⟨mc5, lr5, e5, m5, f5, i1', i2', i3', i4, i5, i6⟩
  have st4 := cell4 (by omega) st2 (ncl (by decide)) (by rw [stw.2]; have := Y.2 0; omega) (Or.inr stw.2)
  -- the list
  have B4 : LB G h4 ln e k cb1 := by
    obtain ⟨mc, f, b1, b2⟩ := B2
    refine ⟨mc, f, cell4 (by omega) b1 (ncl (by decide)) (by rw [wln]; omega) (Or.inl (by rw [wln]; omega)), ?_⟩
    rcases b2 with ⟨b3, b4, b5⟩ | ⟨b2, b3, b4, b5, b6, b7⟩
    · refine Or.inl ⟨b3, b4, cell4 (by rw [b4]; have := T1.1; omega) b5 nar ?_ ?_⟩
      · rw [b4, T1.2.2.2.1 _ hE1, hE0]; omega
      · exact Or.inl (by rw [b4, T1.2.2.2.1 _ hE1, hE0]; omega)
    · exact Or.inr ⟨b2, b3, by have := T34.1; omega, b5, cell4 b4 b6 nar (by rw [we b2]; omega) (Or.inl (by rw [we b2]; omega)), b7⟩
  have c4 : h2.1 < h4.1 ∧ h4.2.2 h2.1 = some (.inr (7, _)) := ⟨p3.1.2.1, p3.2.1⟩
  obtain ⟨h5, e6, r1, r2, r3, r4, r5, r6, r7⟩ := lb_add (N := N) B4 (by omega) hln p4 (by have := T34.1; omega) c4.2 (by decide) (by decide) c4.1
  obtain ⟨w5, hw5⟩ : ∃ w5, w5 = nw w4 h4.1 2 := ⟨_, rfl⟩
  have w4ln : w4 ln = 2 := by rw [T34.2.2.2.1 ln (by omega)]; exact wln
  have T5 : Tr (fun t => t = 2) 3 h4 w4 h5 w5 := Tr.exact r2 (by omega) (by omega) (fun q hq => by rw [hw5]; exact nw_lt hq) (fun q hq hq2 => r6 q hq (fun e => hq2 (by rw [e]; exact w4ln)) (fun e9 => by
    rcases Nat.eq_zero_or_pos k with hk0 | hk0
    · exact hk0
    · exfalso
      apply hq2
      show w4 q = 2
      rw [e9, T34.2.2.2.1 e (by
        obtain ⟨mc, f, b1, b2⟩ := B2
        rcases b2 with ⟨b3, -⟩ | ⟨-, -, b4, -⟩
        · omega
        · exact b4)]
      exact we hk0))
  have sc2 : ∀ t, (fun t => t = 2) t → SC y t := fun t q => Or.inl q
  have sck : ∀ t, (fun u => u = y (2 * k + 1) ∨ u = y (2 * k + 2)) t → SC y t := fun t q => by
    rcases q with q | q
    · exact Or.inr ⟨_, q⟩
    · exact Or.inr ⟨_, q⟩
  have scE : ¬ SC y 0 := Y.sc (by omega) (by omega)
  refine ⟨h5, ⟨w5, e6, va_up cb1 k h2.1, va_up ru1 k ruN, va_up mp1 k mpN, va_up nn1 k nnN, va_up es1 k esN, ?_, ?_, ?_, ?_, r5, ?_, ?_, ?_, ?_, fun j hj => ?_⟩, ?_⟩
  · have := ((T1.trans (T2.mono sc2 (Nat.le_refl _)) scE).trans (T34.mono sck (Nat.le_refl _)) scE).trans (T5.mono sc2 (Nat.le_refl _)) scE
    exact this.mono (fun _ q => q) (by omega)
  · -- the old list's iterator
    have k1 : ∀ {q : Nat}, q < h4.1 → w4 q ≠ 2 → h5.2.2 q = h4.2.2 q := fun hq h2 => r6 _ hq (fun e => h2 (by rw [e]; exact w4ln)) (fun e9 => by
      rcases Nat.eq_zero_or_pos k with hk0 | hk0
      · exact hk0
      · exfalso
        apply h2
        rw [e9, T34.2.2.2.1 e (by
          obtain ⟨mc, f, b1, b2⟩ := B2
          rcases b2 with ⟨b3, -⟩ | ⟨-, -, b4, -⟩
          · omega
          · exact b4)]
        exact we hk0)
    have itln : it ≠ ln := Ne.symm lnit
    have ite : h5.2.2 it = h4.2.2 it := r6 it (by have := T34.1; omega) itln (fun e9 => by
      obtain ⟨mc, f, b1, b2⟩ := B4
      rcases b2 with ⟨b3, -⟩ | ⟨-, -, -, -, b6, -⟩
      · exact b3
      · exact absurd e9.symm (mc_ne b6 i1'))
    have wcl : w4 cl = 0 := by rw [T34.2.2.2.1 cl q1.1]; exact q1.2.1
    have we5 : w4 e5 = 0 := by rw [← clE.2, T34.2.2.2.1 ec q2.1]; exact q2.2.1
    exact ⟨mc5, lr5, e5, m5, f5, by rw [ite]; exact i1', by rw [k1 (by have := T34.1; have := q1.1; omega) (by omega)]; exact i2', by rw [k1 (by have := T34.1; have := q2.1; rw [← clE.2]; omega) (by omega)]; exact i3', i4, i5, i6⟩
  · have := T34.1; omega
  · rw [hw5, nw_lt (by have := T34.1; omega), T34.2.2.2.1 it (by omega)]; exact wit
  · intro _
    rcases r7 with ⟨-, q⟩ | ⟨hk0, q⟩
    · rw [q, hw5]; exact nw_ge (Nat.le_refl _)
    · have he4 : e < h2.1 := by
        obtain ⟨mc, f, b1, b2⟩ := B2
        rcases b2 with ⟨b3, -⟩ | ⟨-, -, b4, -⟩
        · omega
        · exact b4
      rw [q, hw5, nw_lt (by have := T34.1; omega), T34.2.2.2.1 e he4]
      exact we hk0
  · have := T34.1; omega
  · rw [hw5, nw_lt (by have := T34.1; omega)]; exact w4ln
  · rw [r6 st (by have := T34.1; omega) (Ne.symm hlnst) (fun e9 => by
      obtain ⟨mc, f, b1, b2⟩ := B4
      rcases b2 with ⟨b3, -⟩ | ⟨-, -, -, -, b6, -⟩
      · exact b3
      · exact absurd e9.symm (mc_ne b6 st4))]
    exact st4
  · have y2 : ∀ i, ¬ (y i = 2) := fun i q => by have := Y.2 i; omega
    have y1 : ∀ i, y i ≠ 1 := fun i q => by have := Y.2 i; omega
    by_cases hq : j = k
    · subst hq
      rw [va_upE, if_pos rfl, va_upE, if_pos rfl, va_upE, if_pos rfl, va_upE, if_pos rfl, va_upE, if_pos rfl]
      exact p3.keep T5 (by omega) (y2 _) (y1 _) (y2 _)
    · rw [va_upE, if_neg hq, va_upE, if_neg hq, va_upE, if_neg hq, va_upE, if_neg hq, va_upE, if_neg hq]
      have C2 := (C1 j (by omega)).keep T2 (n20 0 (by omega)) (y2 _) (y1 _) (y2 _)
      have nj : ∀ i, i = 2 * j + 1 ∨ i = 2 * j + 2 → ¬ (fun u => u = y (2 * k + 1) ∨ u = y (2 * k + 2)) (y i) := fun i hi q => by
        rcases q with q | q
        · exact Y.ne (show i ≠ 2 * k + 1 by omega) q
        · exact Y.ne (show i ≠ 2 * k + 2 by omega) q
      exact (C2.keep T34 (nS4 0 (by omega)) (nj _ (Or.inl rfl)) (y1 _) (nj _ (Or.inr rfl))).keep T5 (by omega) (y2 _) (y1 _) (y2 _)
  · unfold bX3_init_2_83 gNew
    rw [L1.bV, L1.has (by omega), l_bnd, if_neg (by rw [bZ_t hk]; decide), L1.bV, n1, l_bnd, l_Ck (A2.2.2.2.2.2.2.2.1 k hk).2.1 (show 7 ∈ [7] by decide), l_Fr st2 hsv]
    dsimp only
    rw [← hh3, l_bI, p1, l_bnd, B4.bV, r1, l_bnd]
end X1
