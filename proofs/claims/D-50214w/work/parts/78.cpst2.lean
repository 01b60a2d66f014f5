/-! a state copied -/
set_option maxRecDepth 100000
set_option maxHeartbeats 4000000
section Y1
variable {α : Type} {G : GG} {N : Nat} {h : Hp}
def DIt (h : Hp) (it d el hd n k : Nat) (f : Nat → Option Nat) : Prop := (∃ lr : Int32, h.2.2 it = some (.inr (23, [.int (nI ((hd + k) % 17)), .int (nI (n - k)), .int lr, .ref d]))) ∧ DQ h d el hd n f
theorem dq_iter {d el hd n : Nat} {f : Nat → Option Nat} (D : DQ h d el hd n f) (hb : G.1 ≤ h.1) (hd1 : d < h.1) (he1 : el < h.1) : ∃ h', sJ1_iterator G N (some d) h = some (.inl (some h.1), h') ∧ h'.1 = h.1 + 1 ∧ h'.2.1 = h.2.1 + 4 ∧ (∀ q, q < h.1 → h'.2.2 q = h.2.2 q) ∧ DIt h' h.1 d el hd n 0 f := by
  obtain ⟨g, hg⟩ : ∃ g, g = hnw h (.inr (23, [.int 0, .int 0, .int 0, .null])) 4 := ⟨_, rfl⟩
  have gi : g.2.2 h.1 = some (.inr (23, [.int 0, .int 0, .int 0, .null])) := by rw [hg]; exact hnw_at
  have gq : ∀ q, q < h.1 → g.2.2 q = h.2.2 q := fun q hq => by rw [hg, hnw_ne (by omega)]
  have DD : ∀ e, DQ (hup g h.1 e) d el hd n f := fun e => ⟨by rw [hup_ne (by omega), gq d hd1]; exact D.1, by rw [hup_ne (by omega), gq el he1]; exact D.2.1, D.2.2⟩
  unfold sJ1_iterator sJ28_init gNew
  dsimp only
  rw [← hg, l_bI, l_P gi hb (by (show 3 < 4; omega)), l_NN, l_Fr hup_at rfl, (DD _).bV, (DD _).size, l_bnd, l_P hup_at hb (by (show 1 < 4; omega)), hup_up, l_P hup_at hb (by (show 2 < 4; omega)), hup_up, l_Fi (DD _).1 rfl, l_P hup_at hb (by (show 0 < 4; omega)), hup_up, l_bnd]
  refine ⟨_, rfl, by rw [hg]; rfl, by rw [hg]; rfl, fun q hq => by rw [hup_ne (by omega), gq q hq], ⟨-1, ?_⟩, DD _⟩
  rw [hup_at, Nat.add_zero, Nat.mod_eq_of_lt D.2.2.1, Nat.sub_zero]
  rfl
theorem DIt.has {it d el hd n k : Nat} {f : Nat → Option Nat} (I : DIt h it d el hd n k f) (hk : k ≤ n) : sJ28_hasNext G N (some it) h = some (.inl (bZ (k < n)), h) := by
  obtain ⟨⟨lr, i1⟩, D⟩ := I
  have := D.2.2.2
  unfold sJ28_hasNext
  rw [l_Fi i1 rfl]
  by_cases hc : k < n
  · rw [if_neg (by rw [n_0]; exact fun q => absurd ((nI_leI (by omega) (by omega)).mp q) (by omega)), bZ_t hc]; rfl
  · rw [if_pos (by rw [n_0]; exact (nI_leI (by omega) (by omega)).mpr (by omega)), bZ_f hc]; rfl
theorem DIt.next {it d el hd n k x : Nat} {f : Nat → Option Nat} (I : DIt h it d el hd n k f) (hk : k < n) (hb : G.1 ≤ it) (hx : f ((hd + k) % 17) = some x) : ∃ h', sJ28_next G N (some it) h = some (.inl (some x), h') ∧ h'.1 = h.1 ∧ h'.2.1 = h.2.1 ∧ (∀ q, q ≠ it → h'.2.2 q = h.2.2 q) ∧ DIt h' it d el hd n (k + 1) f := by
  obtain ⟨⟨lr, i1⟩, D⟩ := I
  have hn := D.2.2.2
  have hm : (hd + k) % 17 < 17 := Nat.mod_lt _ (by omega)
  have dit : d ≠ it := cl_ne D.1 i1 (by decide)
  have eit : el ≠ it := mc_ne D.2.1 i1
  unfold sJ28_next sJ1_nonNullElementAt
  rw [l_Fi i1 rfl, if_pos (by rw [n_0]; exact (nI_ltI (by omega) (by omega)).mpr (by omega)), l_Fr i1 rfl, l_Fr D.1 rfl, l_Fi i1 rfl, l_Arv D.2.1 hm (by omega) hx, if_neg (by simp), l_bnd, l_Fi i1 rfl, l_P i1 hb (by (show 2 < 4; omega)), l_Lenr (by rw [hup_ne eit]; exact D.2.1) (by decide), q_inc _ hm, l_bnd, l_P hup_at hb (by (show 0 < 4; omega)), hup_up, l_Fi hup_at rfl, l_P hup_at hb (by (show 1 < 4; omega)), hup_up]
  refine ⟨_, rfl, rfl, rfl, fun q hq => hup_ne hq, ⟨nI ((hd + k) % 17), ?_⟩, by rw [hup_ne dit]; exact D.1, by rw [hup_ne eit]; exact D.2.1, D.2.2⟩
  rw [hup_at, show (hd + (k + 1)) % 17 = ((hd + k) % 17 + 1) % 17 by omega, n_1, pk_sub (by omega), show n - (k + 1) = n - k - 1 by omega]
  rfl
end Y1
/-- tags 2 are done with -/
def f2 (t : Nat) : Nat := if t = 2 then 0 else t
section Y2
variable {α : Type} {G : GG} {N : Nat} {h : Hp} {w y : Nat → Nat} {R : Row} {s0 st : Nat} {nl : Nat → List Nat} {mt cl se bu rd gr : Nat} {cb ru mp sp nn : Nat → Nat} {es : Nat → List En}
theorem w6_lt {n y0 q : Nat} (h : q < n) : w6 w n y0 q = w q := if_pos h
theorem w6_0 {n y0 : Nat} : w6 w n y0 n = 2 := by unfold w6; rw [if_neg (by omega), if_pos rfl]
theorem w6_y {n y0 q : Nat} (h1 : n < q) (h2 : q < n + 4) : w6 w n y0 q = y0 := by unfold w6; rw [if_neg (by omega), if_neg (by omega), if_pos h2]
theorem w6_1 {n y0 q : Nat} (h2 : n + 4 ≤ q) : w6 w n y0 q = 1 := by unfold w6; rw [if_neg (by omega), if_neg (by omega), if_neg (by omega)]
theorem f2_ne {t : Nat} (h : t ≠ 2) : f2 t = t := if_neg h
theorem Tr.weak {S S' : Nat → Prop} {c : Nat} {h h' : Hp} {w w' : Nat → Nat} (T : Tr S c h w h' w') (hS : ∀ q, q < h.1 → S (w q) → S' (w q)) : Tr S' c h w h' w' := ⟨T.1, T.2.1, T.2.2.1, T.2.2.2.1, fun q q1 q2 => T.2.2.2.2 q q1 (fun q3 => q2 (hS q q1 q3))⟩
theorem Tr.re2 {S : Nat → Prop} {c : Nat} {h h' : Hp} {w w' w'' : Nat → Nat} (T : Tr S c h w h' w') (hw : ∀ q, w'' q = f2 (w' q)) (h2 : ∀ q, q < h.1 → w q ≠ 2) : Tr S c h w h' w'' := by
  have e : ∀ q, q < h.1 → w'' q = w' q := fun q hq => by rw [hw, f2_ne]; rw [T.2.2.2.1 q hq]; exact h2 q hq
  refine ⟨T.1, T.2.1, T.2.2.1, fun q hq => by rw [e q hq]; exact T.2.2.2.1 q hq, fun q q1 q2 => ?_⟩
  rcases T.2.2.2.2 q q1 q2 with e1 | ⟨e1, f, g, e2, e3⟩ | ⟨tab, ve, sz, mc, th, lf, vk, vv, hd, tl, ve', vk', vv', e2, e3, V⟩
  · exact Or.inl e1
  · exact Or.inr (Or.inl ⟨by rw [e q q1]; exact e1, f, g, e2, e3⟩)
  · refine Or.inr (Or.inr ⟨tab, ve, sz, mc, th, lf, vk, vv, hd, tl, ve', vk', vv', e2, e3, fun V1 V2 V3 => ?_⟩)
    have dn : ∀ ci v, VwO h w'' q ci v → VwO h w' q ci v := fun ci v V a ha => by
      obtain ⟨p1, p2, p3⟩ := V a ha
      exact ⟨p1, by rw [← e a p1]; exact p2, p3⟩
    have up : ∀ ci v, VwO h' w' q ci v → VwO h' w'' q ci v := fun ci v V a ha => by
      obtain ⟨p1, p2, p3⟩ := V a ha
      exact ⟨p1, by rw [hw, p2]; rfl, p3⟩
    obtain ⟨v1, v2, v3⟩ := V (dn _ _ V1) (dn _ _ V2) (dn _ _ V3)
    exact ⟨up _ _ v1, up _ _ v2, up _ _ v3⟩
theorem c_copySt {fE : Nat → Option Nat} (A : StX G.1 h w (fun _ => 0) s0 R nl mt cl se bu rd gr cb ru mp sp nn es) (Y : TG y) (hb : G.1 ≤ h.1) (hst : Ow G.1 h w (y 0) st) (C : h.2.2 st = some (.inr (16, [.null, .null, .null, .null, .int 0, .int 0, .int 0, .int 0, .int 0, .int 0, .int 0, .int 0, .null, .null]))) (hE : h.2.2 (G.2.2.2.2 0) = some (.inl (5, 0, .inr (.inr (.inr (.inr fE)))))) (hE1 : G.2.2.2.2 0 < h.1) (hE0 : w (G.2.2.2.2 0) = 0) (hw2 : ∀ q, q < h.1 → w q ≠ 2) (hN : 2000 < N) :
    ∃ h' w' cl' se' bu' rd' gr' cb' ru' mp' nn' es', sX3_init_2 G N (some st) (some s0) h = some (.inl (), h') ∧ Tr (SY y) 3200 h w h' w' ∧ G.1 ≤ h'.1 ∧ StX G.1 h' w' y st R nl mt cl' se' bu' rd' gr' cb' ru' mp' sp nn' es' := by
  classical
  have A0 := A
  obtain ⟨a1, a2, ⟨a3, fe, s1, s2⟩, a6, a7, a8, a9, a10, H, a12⟩ := A
  have OK0 := H
  obtain ⟨h6, h7, h8, h9, l6, l7, l8, l9, hv⟩ := H
  have y1 : ∀ i, y i ≠ 1 := fun i q => by have := Y.2 i; omega
  have n0 : ∀ k, k ≤ 3 → ¬ (k = y 0) := fun k hk q => by have := Y.2 0; omega
  have sts : st ≠ s0 := fun q => by have := a2.2.2; rw [← q, hst.2.2] at this; exact n0 0 (by omega) this.symm
  unfold sX3_init_2
  rw [l_NN]
  refine Exists.elim (p := fun (K : Hp → Out Unit) => K = fun h19 => gFr h19 (some s0) 16 0 fun v20 =>
  gP G h19 (some st) 16 0 (va_rf v20) fun h21 =>
  gFr h21 (some s0) 16 2 fun v22 =>
  gFr h21 (some st) 16 2 fun v23 =>
  gCp G h21 v22 (0) v23 (0) (6) 0 .int fun h24 =>
  gFr h24 (some s0) 16 1 fun v25 =>
  bV h24 v25 24 (fun q85 => sJ12_iterator G N (some q85) h24) fun v26 h27 =>
  gJ (fun (x28 : Unit) (h29 : Hp) =>
  gFr h29 (some s0) 16 3 fun v31 =>
  bV h29 v31 22 (fun q66 => sJ1_iterator G N (some q66) h29) fun v32 h33 =>
  gJ (fun (x34 : Unit) (h35 : Hp) =>
  gFi h35 (some s0) 16 4 fun v37 =>
  gP G h35 (some st) 16 4 (.int v37) fun h38 =>
  gFi h38 (some s0) 16 5 fun v39 =>
  gP G h38 (some st) 16 5 (.int v39) fun h40 =>
  gFi h40 (some s0) 16 6 fun v41 =>
  gP G h40 (some st) 16 6 (.int v41) fun h42 =>
  gFi h42 (some s0) 16 7 fun v43 =>
  gP G h42 (some st) 16 7 (.int v43) fun h44 =>
  gFi h44 (some s0) 16 8 fun v45 =>
  gP G h44 (some st) 16 8 (.int v45) fun h46 =>
  gFi h46 (some s0) 16 9 fun v47 =>
  gP G h46 (some st) 16 9 (.int v47) fun h48 =>
  gFi h48 (some s0) 16 10 fun v49 =>
  gP G h48 (some st) 16 10 (.int v49) fun h50 =>
  gFi h50 (some s0) 16 11 fun v51 =>
  gP G h50 (some st) 16 11 (.int v51) fun h52 =>
  some (.inl (), h52)) fun j36 =>
  gLp (bX3_init_2_131 G N (some st) v32 j36) N () h33) fun j30 =>
  gLp (bX3_init_2_83 G N (some st) v26 j30) N () h27) ⟨_, rfl⟩ (fun K hK => ?_)
  obtain ⟨g, k1, k2, k3, k4, k5, k6, k7, k8, k9, k10⟩ := c_st0 (N := N) (y0 := y 0) hb hst C hE hE1 cb K
  -- its cells, with their tags
  obtain ⟨w1, hw1⟩ : ∃ w1, w1 = w6 w h.1 (y 0) := ⟨_, rfl⟩
  have w1lt : ∀ q, q < h.1 → w1 q = w q := fun q hq => by rw [hw1]; exact w6_lt hq
  have T1 : Tr (fun t => t = y 0) 12 h w g w1 := Tr.exact (by omega) (by omega) (by omega) w1lt (fun q q1 q2 => k4 q q1 (fun e => q2 (by rw [e]; exact hst.2.2)))
  have wst1 : w1 st = y 0 := by rw [w1lt st hst.2.1]; exact hst.2.2
  -- the mountain and the settings
  obtain ⟨u, hu⟩ : ∃ u, u = hup (hup g st (.inr (16, [.ref mt, .ref h.1, .ref (h.1 + 1), .ref (h.1 + 2), .int 0, .int 0, .int 0, .int 0, .int 0, .int 0, .int 0, .int 0, .ref (h.1 + 4), .ref (h.1 + 5)]))) (h.1 + 1) (.inl (0, 6, .inl (va_cpy fe (fun _ => 0) 0 0 6))) := ⟨_, rfl⟩
  have sth := hst.2.1
  have uq : ∀ q, q ≠ st → q ≠ h.1 + 1 → u.2.2 q = g.2.2 q := fun q q1 q2 => by rw [hu, hup_ne q2, hup_ne q1]
  have ust : u.2.2 st = some (.inr (16, [.ref mt, .ref h.1, .ref (h.1 + 1), .ref (h.1 + 2), .int 0, .int 0, .int 0, .int 0, .int 0, .int 0, .int 0, .int 0, .ref (h.1 + 4), .ref (h.1 + 5)])) := by rw [hu, hup_ne (by omega)]; exact hup_at
  have use : u.2.2 (h.1 + 1) = some (.inl (0, 6, .inl (va_cpy fe (fun _ => 0) 0 0 6))) := by rw [hu]; exact hup_at
  have u1 : u.1 = h.1 + 6 := by rw [hu]; exact k2
  have u2 : u.2.1 = h.2.1 + 45 := by rw [hu]; exact k3
  have T2 : Tr (fun t => t = y 0) 0 g w1 u w1 := Tr.ex (by rw [hu]; rfl) (by rw [hu]; rfl) (fun q _ q2 => uq q (fun e => q2 (by rw [e]; exact wst1)) (fun e => q2 (by rw [e, hw1]; exact w6_y (by omega) (by omega))))
  have T12 : Tr (fun t => t = y 0) 12 h w u w1 := (T1.trans T2 (n0 0 (by omega))).mono (fun _ q => q) (by omega)
  have A2 := A0.keep T12 (n0 0 (by omega)) (n0 1 (by omega)) (fun _ => ⟨n0 0 (by omega), by omega⟩)
  have Q2 := A2.q
  have hbu : G.1 ≤ u.1 := by omega
  -- the iterator of the cabins
  obtain ⟨g3, mcI, i1, i2, i3, i4, i5, eI, mI, fI, i6, i7, i8, i9, i10⟩ := al_iter (N := N) (G := G) A2.2.2.2.2.2.2.1.al hbu (by obtain ⟨ec, mcc, mc6, f6, q1, -⟩ := A2.2.2.2.2.2.2.1; exact q1.1)
  obtain ⟨w3, hw3⟩ : ∃ w3, w3 = nw w1 u.1 2 := ⟨_, rfl⟩
  have T3 : Tr (fun _ => False) 1 u w1 g3 w3 := Tr.exact (by omega) (by omega) (by omega) (fun q hq => by rw [hw3]; exact nw_lt hq) (fun q hq _ => i4 q hq)
  have A3 := A2.keep T3 id id (fun _ => ⟨id, by omega⟩)
  have clu : cl < u.1 := by obtain ⟨ec, mcc, mc6, f6, q1, -⟩ := A2.2.2.2.2.2.2.1; exact q1.1
  have eIu : eI < u.1 := by
    obtain ⟨ec, mcc, mc6, f6, q1, q2, -⟩ := A2.2.2.2.2.2.2.1
    have := q1.2.2
    rw [i6] at this
    have := Option.some.inj this
    injection this with this
    have := (Prod.mk.inj this).2
    simp only [List.cons.injEq, Value.int.injEq, Value.ref.injEq, and_true] at this
    rw [this.2]
    exact q2.1
  have L3 : LIt g3 u.1 cl (cN R) cb 0 := ⟨mcI, -1, eI, mI, fI, i5, by rw [i4 cl clu]; exact i6, by rw [i4 eI eIu]; exact i7, i8, i9, i10⟩
  have st3 : g3.2.2 st = some (.inr (16, [.ref mt, .ref h.1, .ref (h.1 + 1), .ref (h.1 + 2), .int 0, .int 0, .int 0, .int 0, .int 0, .int 0, .int 0, .int 0, .ref (h.1 + 4), .ref (h.1 + 5)])) := by rw [i4 st (by omega)]; exact ust
  have B3 : LB G g3 h.1 (G.2.2.2.2 0) 0 cb := by
    refine (k6.same (Nat.le_of_eq (by rw [hu]; rfl)) (uq _ (by omega) (by omega)) (uq _ ?_ (by omega))).same (by omega) (i4 _ (by omega)) (i4 _ (by omega))
    exact mc_ne hE C
  have st3O : Ow G.1 g3 w3 (y 0) st := ⟨hst.1, by omega, by rw [hw3, nw_lt (by omega)]; exact wst1⟩
  have hb3 : G.1 ≤ g3.1 := by omega
  have start : CpI G g3 w3 y st s0 R nl mt cl se bu rd gr cb ru mp sp nn es [.ref mt, .ref h.1, .ref (h.1 + 1), .ref (h.1 + 2), .int 0, .int 0, .int 0, .int 0, .int 0, .int 0, .int 0, .int 0, .ref (h.1 + 4), .ref (h.1 + 5)] h.1 u.1 0 g3 := ⟨w3, G.2.2.2.2 0, cb, ru, mp, nn, es, Tr.refl, L3, by omega, by rw [hw3]; exact nw_ge (Nat.le_refl _), B3, fun q => by omega, by omega, by rw [hw3, nw_lt (by omega), hw1]; exact w6_0, st3, fun j hj => by omega⟩
  have hE3 : g3.2.2 (G.2.2.2.2 0) = some (.inl (5, 0, .inr (.inr (.inr (.inr fE))))) := by
    rw [i4 _ (by omega), uq _ (mc_ne hE C) (by omega), k4 _ hE1 (mc_ne hE C)]; exact hE
  have hE03 : w3 (G.2.2.2.2 0) = 0 := by rw [hw3, nw_lt (by omega), w1lt _ hE1]; exact hE0
  obtain ⟨J30, hJ⟩ : ∃ J30 : Unit → Hp → Out Unit, J30 = fun (x28 : Unit) (h29 : Hp) =>
  gFr h29 (some s0) 16 3 fun v31 =>
  bV h29 v31 22 (fun q66 => sJ1_iterator G N (some q66) h29) fun v32 h33 =>
  gJ (fun (x34 : Unit) (h35 : Hp) =>
  gFi h35 (some s0) 16 4 fun v37 =>
  gP G h35 (some st) 16 4 (.int v37) fun h38 =>
  gFi h38 (some s0) 16 5 fun v39 =>
  gP G h38 (some st) 16 5 (.int v39) fun h40 =>
  gFi h40 (some s0) 16 6 fun v41 =>
  gP G h40 (some st) 16 6 (.int v41) fun h42 =>
  gFi h42 (some s0) 16 7 fun v43 =>
  gP G h42 (some st) 16 7 (.int v43) fun h44 =>
  gFi h44 (some s0) 16 8 fun v45 =>
  gP G h44 (some st) 16 8 (.int v45) fun h46 =>
  gFi h46 (some s0) 16 9 fun v47 =>
  gP G h46 (some st) 16 9 (.int v47) fun h48 =>
  gFi h48 (some s0) 16 10 fun v49 =>
  gP G h48 (some st) 16 10 (.int v49) fun h50 =>
  gFi h50 (some s0) 16 11 fun v51 =>
  gP G h50 (some st) 16 11 (.int v51) fun h52 =>
  some (.inl (), h52)) fun j36 =>
  gLp (bX3_init_2_131 G N (some st) v32 j36) N () h33 := ⟨_, rfl⟩
  obtain ⟨x, g4, I4, self, e4⟩ := lp_r (B := bX3_init_2_83 G N (some st) (some u.1) J30) (N := N) (n := cN R) (fun k x hh => CpI G g3 w3 y st s0 R nl mt cl se bu rd gr cb ru mp sp nn es [.ref mt, .ref h.1, .ref (h.1 + 1), .ref (h.1 + 2), .int 0, .int 0, .int 0, .int 0, .int 0, .int 0, .int 0, .int 0, .ref (h.1 + 4), .ref (h.1 + 5)] h.1 u.1 k hh) (x0 := ()) (h0 := g3) (by omega) start (fun k x hh hk I self => by
    obtain ⟨h', c1, c2⟩ := cp_step A3 Y hb3 st3O rfl hbu (by omega) (by omega) hk I hE3 (by omega) hE03 hN J30 self
    exact ⟨(), h', c1, c2⟩)
  obtain ⟨w4, e, cb', ru', mp', nn', es', T4, L4, it4, wit4, B4, we4, ln4, wln4, st4, C4⟩ := I4
  have nSC : ∀ k, k ≤ 3 → k ≠ 2 → ¬ SC y k := fun k hk h2 => Y.sc h2 hk
  have A4 := A3.keep T4 (nSC 0 (by omega) (by omega)) (nSC 1 (by omega) (by omega)) (fun _ => ⟨nSC 0 (by omega) (by omega), by omega⟩)
  have Q4 := A4.q
  obtain ⟨el0, hd0, i, fb, c1, c2, c3, c4, c5, c6, c7, c8⟩ := A4.2.2.2.1
  have D0 : DQ g4 bu el0 hd0 (min 10 i) fb := ⟨c2, c4, c5, by omega⟩
  have hb4 : G.1 ≤ g4.1 := by have := T4.1; omega
  have h34 : g3.1 ≤ g4.1 := T4.1
  -- cells of the new state through the copying
  have keepY : ∀ {q : Nat} {x : GC}, q < g3.1 → w3 q = y 0 → g3.2.2 q = some x → (∀ fs, x ≠ .inr (26, fs)) → g4.2.2 q = some x := fun hq hw he hc => T4.cell hq (by rw [hw]; exact Y.sc0) he (Or.inl (by rw [hw]; exact y1 0)) hc
  have w3y : ∀ q, h.1 < q → q < h.1 + 4 → w3 q = y 0 := fun q q1 q2 => by rw [hw3, nw_lt (by omega), hw1]; exact w6_y q1 q2
  have D4 : DQ g4 (h.1 + 2) (h.1 + 3) 0 0 (fun _ => none) := by
    obtain ⟨d1, d2, d3, d4⟩ := k8
    refine ⟨keepY (by omega) (w3y _ (by omega) (by omega)) ?_ (ncl (by decide)), keepY (by omega) (w3y _ (by omega) (by omega)) ?_ nar, d3, d4⟩
    · rw [i4 _ (by omega), uq _ (by omega) (by omega)]; exact d1
    · rw [i4 _ (by omega), uq _ (by omega) (by omega)]; exact d2
  have se4 : g4.2.2 (h.1 + 1) = some (.inl (0, 6, .inl (va_cpy fe (fun _ => 0) 0 0 6))) := keepY (by omega) (w3y _ (by omega) (by omega)) (by rw [i4 _ (by omega)]; exact use) nar
  have rd3 : SumO G.1 g3 w3 (h.1 + 4) (h.1 + 5) := by
    refine ⟨⟨by omega, by omega, ?_⟩, ⟨by omega, by omega, ?_⟩, by omega, ⟨fun _ => 0, ?_⟩, ⟨fun _ => 0, ?_⟩⟩
    · rw [hw3, nw_lt (by omega), hw1]; exact w6_1 (by omega)
    · rw [hw3, nw_lt (by omega), hw1]; exact w6_1 (by omega)
    · rw [i4 _ (by omega), uq _ (by omega) (by omega)]; exact k9
    · rw [i4 _ (by omega), uq _ (by omega) (by omega)]; exact k10
  have rd4 := rd3.keep T4 (nSC 1 (by omega) (by omega))
  -- the iterator of the bulletins
  obtain ⟨g5, j1, j2, j3, j4, j5⟩ := dq_iter (N := N) (G := G) D0 hb4 c1.2.1 c3.2.1
  have D5 : DQ g5 (h.1 + 2) (h.1 + 3) 0 0 (fun _ => none) := ⟨by rw [j4 _ (by omega)]; exact D4.1, by rw [j4 _ (by omega)]; exact D4.2.1, D4.2.2⟩
  obtain ⟨w5, hw5⟩ : ∃ w5, w5 = nw w4 g4.1 2 := ⟨_, rfl⟩
  have T5 : Tr (fun _ => False) 1 g4 w4 g5 w5 := Tr.exact (by omega) (by omega) (by omega) (fun q hq => by rw [hw5]; exact nw_lt hq) (fun q hq _ => j4 q hq)
  have st5 : g5.2.2 st = some (.inr (16, [.ref mt, .ref h.1, .ref (h.1 + 1), .ref (h.1 + 2), .int 0, .int 0, .int 0, .int 0, .int 0, .int 0, .int 0, .int 0, .ref (h.1 + 4), .ref (h.1 + 5)])) := by rw [j4 st (by omega)]; exact st4
  have w4y : ∀ q, h.1 < q → q < h.1 + 4 → w4 q = y 0 := fun q q1 q2 => by rw [T4.2.2.2.1 q (by omega)]; exact w3y q q1 q2
  have bune : bu < h.1 ∧ el0 < h.1 := by
    have w0 : ∀ q, h.1 ≤ q → q < g4.1 → w4 q = 0 → q < h.1 ∨ True := fun _ _ _ _ => Or.inr trivial
    obtain ⟨el1, hd1, i1', fb1, e1, e2, e3, e4', -⟩ := a6
    refine ⟨e1.2.1, ?_⟩
    have wbu : w bu = 0 := e1.2.2
    have q1 := T12.cell (q := bu) e1.2.1 (by rw [wbu]; exact n0 0 (by omega)) e2 (Or.inl (by rw [wbu]; omega)) (ncl (by decide))
    have q2 := T3.cell (q := bu) (by have := e1.2.1; omega) id q1 (Or.inl (by rw [T12.2.2.2.1 _ e1.2.1, wbu]; omega)) (ncl (by decide))
    have q3 := T4.cell (q := bu) (by have := e1.2.1; omega) (by rw [T3.2.2.2.1 _ (by have := e1.2.1; omega), T12.2.2.2.1 _ e1.2.1, wbu]; exact nSC 0 (by omega) (by omega)) q2 (Or.inl (by rw [T3.2.2.2.1 _ (by have := e1.2.1; omega), T12.2.2.2.1 _ e1.2.1, wbu]; omega)) (ncl (by decide))
    rw [c2] at q3
    have := Option.some.inj q3
    injection this with this
    have := (Prod.mk.inj this).2
    simp only [List.cons.injEq, Value.ref.injEq] at this
    rw [this.1]
    exact e3.2.1
  obtain ⟨J36, hJ36⟩ : ∃ J36 : Unit → Hp → Out Unit, J36 = fun (x34 : Unit) (h35 : Hp) =>
  gFi h35 (some s0) 16 4 fun v37 =>
  gP G h35 (some st) 16 4 (.int v37) fun h38 =>
  gFi h38 (some s0) 16 5 fun v39 =>
  gP G h38 (some st) 16 5 (.int v39) fun h40 =>
  gFi h40 (some s0) 16 6 fun v41 =>
  gP G h40 (some st) 16 6 (.int v41) fun h42 =>
  gFi h42 (some s0) 16 7 fun v43 =>
  gP G h42 (some st) 16 7 (.int v43) fun h44 =>
  gFi h44 (some s0) 16 8 fun v45 =>
  gP G h44 (some st) 16 8 (.int v45) fun h46 =>
  gFi h46 (some s0) 16 9 fun v47 =>
  gP G h46 (some st) 16 9 (.int v47) fun h48 =>
  gFi h48 (some s0) 16 10 fun v49 =>
  gP G h48 (some st) 16 10 (.int v49) fun h50 =>
  gFi h50 (some s0) 16 11 fun v51 =>
  gP G h50 (some st) 16 11 (.int v51) fun h52 =>
  some (.inl (), h52) := ⟨_, rfl⟩
  obtain ⟨x6, g6, ⟨f6, I6, D6, v6, s61, s62, q6⟩, self6, e6⟩ := lp_r (B := bX3_init_2_131 G N (some st) (some g4.1) J36) (N := N) (n := min 10 i) (fun k x hh => ∃ f : Nat → Option Nat, DIt hh g4.1 bu el0 hd0 (min 10 i) k fb ∧ DQ hh (h.1 + 2) (h.1 + 3) 0 k f ∧ (∀ j, j < k → f j = fb ((hd0 + j) % 17)) ∧ hh.1 = g5.1 ∧ hh.2.1 = g5.2.1 ∧ ∀ q, q ≠ g4.1 → q ≠ h.1 + 2 → q ≠ h.1 + 3 → hh.2.2 q = g5.2.2 q) (x0 := ()) (h0 := g5) (by omega) ⟨fun _ => none, j5, D5, fun j hj => by omega, rfl, rfl, fun _ _ _ _ => rfl⟩ (fun k x hh hk I self => by
    obtain ⟨f, I1, D1, v1, s1', s2', q1⟩ := I
    obtain ⟨bl, b1, b2⟩ := c8 k hk
    obtain ⟨hn, m1, m2, m3, m4, m5⟩ := I1.next (N := N) (G := G) hk hb4 b1
    have blq : bl ≠ g4.1 ∧ bl ≠ h.1 + 2 ∧ bl ≠ h.1 + 3 := by
      refine ⟨by have := b2.1; omega, fun q => ?_, fun q => ?_⟩
      · have := b2.2.1; rw [q, w4y _ (by omega) (by omega)] at this; exact n0 0 (by omega) this.symm
      · have := b2.2.1; rw [q, w4y _ (by omega) (by omega)] at this; exact n0 0 (by omega) this.symm
    have blC : hn.2.2 bl = some (.inr (6, [.int (R (98 + 4 * ((i - 1 - k) % 10))), .int (R (98 + 4 * ((i - 1 - k) % 10) + 1)), .int (R (98 + 4 * ((i - 1 - k) % 10) + 2)), .int (R (98 + 4 * ((i - 1 - k) % 10) + 3))])) := by
      rw [m4 bl blq.1, q1 bl blq.1 blq.2.1 blq.2.2, j4 bl b2.1]; exact b2.2.2
    have Dn : DQ hn (h.1 + 2) (h.1 + 3) 0 k f := ⟨by rw [m4 _ (by omega)]; exact D1.1, by rw [m4 _ (by omega)]; exact D1.2.1, D1.2.2⟩
    obtain ⟨ha, t1, t2, t3, t4, t5⟩ := Dn.addLast (N := N) (G := G) (by omega) (by omega) (by omega) blC (by decide)
    refine ⟨(), ha, ⟨_, ?_, t5, fun j hj => ?_, by omega, by omega, fun q z1 z2 z3 => by rw [t4 q z2 z3, m4 q z1, q1 q z1 z2 z3]⟩, ?_⟩
    · obtain ⟨⟨lr, n1⟩, n2, n3, n4⟩ := m5
      exact ⟨⟨lr, by rw [t4 _ (by omega) (by omega)]; exact n1⟩, by rw [t4 _ (by omega) (by omega)]; exact n2, by rw [t4 _ (by omega) (by omega)]; exact n3, n4⟩
    · rw [va_upE]
      by_cases hq : j = k
      · rw [if_pos (by omega), hq, b1]
      · rw [if_neg (by omega)]; exact v1 j (by omega)
    · obtain ⟨⟨lr, n1⟩, -⟩ := id I1
      have stn : hn.2.2 st = some (.inr (16, [.ref mt, .ref h.1, .ref (h.1 + 1), .ref (h.1 + 2), .int 0, .int 0, .int 0, .int 0, .int 0, .int 0, .int 0, .int 0, .ref (h.1 + 4), .ref (h.1 + 5)])) := by
        rw [m4 _ (by omega), q1 _ (by omega) (by omega) (by omega)]; exact st5
      unfold bX3_init_2_131
      rw [l_bV n1, I1.has (by omega), l_bnd, if_neg (by rw [bZ_t hk]; decide), l_bV n1, m1, l_bnd, l_Ck blC (show 6 ∈ [6] by decide), l_Fr stn rfl, Dn.bV, t1, l_bnd])
  -- the numbers
  obtain ⟨v, hv'⟩ : ∃ v, v = hup g6 st (.inr (16, [.ref mt, .ref h.1, .ref (h.1 + 1), .ref (h.1 + 2), .int (R 90), .int (R 91), .int (R 92), .int (R 93), .int (R 94), .int (R 95), .int (R 96), .int (R 97), .ref (h.1 + 4), .ref (h.1 + 5)])) := ⟨_, rfl⟩
  have vq : ∀ q, q ≠ st → q ≠ g4.1 → q ≠ h.1 + 2 → q ≠ h.1 + 3 → v.2.2 q = g5.2.2 q := fun q q1 q2 q3 q4 => by rw [hv', hup_ne q1, q6 q q2 q3 q4]
  have v11 : v.1 = g5.1 := by rw [hv', hup_1]; exact s61
  have v12 : v.2.1 = g5.2.1 := by rw [hv', hup_2]; exact s62
  have w5lt : ∀ q, q < g4.1 → w5 q = w4 q := fun q hq => by rw [hw5]; exact nw_lt hq
  have w4st : w4 st = y 0 := by rw [T4.2.2.2.1 st (by omega)]; exact st3O.2.2
  have T7 : Tr (fun t => t = y 0) 1 g4 w4 v w5 := Tr.exact (by omega) (by omega) (by omega) w5lt (fun q q1 q2 => by
    rw [vq q (fun e => q2 (by rw [e]; exact w4st)) (by omega) (fun e => q2 (by rw [e]; exact w4y _ (by omega) (by omega))) (fun e => q2 (by rw [e]; exact w4y _ (by omega) (by omega)))]
    exact j4 q q1)
  obtain ⟨w7, hw7⟩ : ∃ w7 : Nat → Nat, w7 = fun q => f2 (w5 q) := ⟨_, rfl⟩
  have RT : Rt f2 v w5 w7 := ⟨rfl, rfl, fun q _ => by rw [hw7]⟩
  have fy : ∀ k, f2 (y k) = y k := fun k => f2_ne (fun q => by have := Y.2 k; omega)
  have yk0 : ∀ k, k ≠ 0 → ¬ (y k = y 0) := fun k hk => Y.ne hk
  have A7 := A4.2.2.2.2.2.1.keep T7 (n0 0 (by omega))
  have cabs : ∀ j, j < cN R → CabO G.1 v w7 (y (2 * j + 1)) (y (2 * j + 2)) j R (cb' j) (ru' j) (mp' j) (nn' j) (es' j) := fun j hj => by
    have := ((C4 j hj).keep T7 (n0 0 (by omega)) (yk0 _ (by omega)) (y1 _) (yk0 _ (by omega))).re RT
    rw [fy, fy] at this
    exact this
  have sum7 : SumO G.1 v w7 (h.1 + 4) (h.1 + 5) := (rd4.keep T7 (n0 1 (by omega))).re RT
  have ow7 : ∀ q, h.1 < q → q < h.1 + 4 → Ow G.1 v w7 (y 0) q := fun q q1 q2 => ⟨by omega, by omega, by rw [hw7]; show f2 (w5 q) = _; rw [w5lt q (by omega), w4y q q1 q2]; exact fy 0⟩
  have XX : StX G.1 v w7 y st R nl mt h.1 (h.1 + 1) (h.1 + 2) (h.1 + 4) (h.1 + 5) cb' ru' mp' sp nn' es' := by
    refine ⟨by unfold StC; rw [hv']; exact hup_at, ⟨hst.1, by omega, by rw [hw7]; show f2 (w5 st) = _; rw [w5lt st (by omega), w4st]; exact fy 0⟩, ⟨ow7 _ (by omega) (by omega), va_cpy fe (fun _ => 0) 0 0 6, ?_, fun k hk => ?_⟩, ?_, sum7, A7.re RT, ?_, cabs, OK0, a12⟩
    · rw [vq _ (by omega) (by omega) (by omega) (by omega), j4 _ (by omega)]; exact se4
    · rw [← s2 k hk]
      unfold va_cpy
      rw [if_pos (by omega)]
      congr 1
      omega
    · refine ⟨h.1 + 3, 0, i, f6, ow7 _ (by omega) (by omega), ?_, ow7 _ (by omega) (by omega), ?_, by omega, c6, c7, fun k hk => ?_⟩
      · rw [hv', hup_ne (by omega)]; exact D6.1
      · rw [hv', hup_ne (by omega)]; exact D6.2.1
      · obtain ⟨bl, b1, b2⟩ := c8 k hk
        refine ⟨bl, ?_, (b2.keep T7 (n0 0 (by omega)) (ncl (by decide))).re RT⟩
        rw [show (0 + k) % 17 = k by omega, v6 k hk]
        exact b1
    · -- the list, at rest
      obtain ⟨mc, f, b1, b2⟩ := B4
      have lnv : v.2.2 h.1 = some (.inr (24, [.int mc, .ref e, .int (nI (cN R))])) := by rw [vq _ (by omega) (by omega) (by omega) (by omega), j4 _ (by omega)]; exact b1
      have w7ln : w7 h.1 = 0 := by rw [hw7]; show f2 (w5 h.1) = 0; rw [w5lt _ (by omega), wln4]; rfl
      have wE4 : w4 (G.2.2.2.2 0) = 0 := by rw [T4.2.2.2.1 _ (by omega)]; exact hE03
      rcases b2 with ⟨b3, b4, b5⟩ | ⟨b2, b3, b4, b5, b6, b7⟩
      · refine ⟨e, 0, mc, f, ⟨by omega, w7ln, lnv⟩, ⟨by rw [b4]; omega, ?_, ?_⟩, by omega, by omega, fun k hk => by omega⟩
        · rw [hw7, b4]; show f2 (w5 _) = 0; rw [w5lt _ (by omega), wE4]; rfl
        · rw [vq e (mc_ne b5 st4) (by rw [b4]; omega) (by rw [b4]; omega) (by rw [b4]; omega), j4 e (by rw [b4]; omega)]
          exact b5
      · have hew : w4 e = 2 := we4 b2
        refine ⟨e, 10, mc, f, ⟨by omega, w7ln, lnv⟩, ⟨by omega, by rw [hw7]; show f2 (w5 e) = 0; rw [w5lt e b4, hew]; rfl, ?_⟩, b5, by omega, b7⟩
        rw [vq e (mc_ne b6 st4) (by omega) (fun q => ?_) (fun q => ?_), j4 e b4]
        · exact b6
        · rw [q, w4y _ (by omega) (by omega)] at hew; have := Y.2 0; omega
        · rw [q, w4y _ (by omega) (by omega)] at hew; have := Y.2 0; omega
  refine ⟨v, w7, _, _, _, _, _, cb', ru', mp', nn', es', ?_, ?_, by omega, XX⟩
  · refine Eq.trans (by rw [hK]) (k1.trans ?_)
    rw [hK]
    dsimp only
    have gs0 : g.2.2 s0 = some (.inr (16, [.ref mt, .ref cl, .ref se, .ref bu, .int (R 90), .int (R 91), .int (R 92), .int (R 93), .int (R 94), .int (R 95), .int (R 96), .int (R 97), .ref rd, .ref gr])) := by rw [k4 s0 a2.2.1 (Ne.symm sts)]; exact a1
    have gse : g.2.2 se = some (.inl (0, 6, .inl fe)) := by rw [k4 se a3.2.1 (mc_ne s1 C)]; exact s1
    rw [l_Fr gs0 rfl, l_P k5 hst.1 (by (show 0 < 14; omega)), l_Fr (by rw [hup_ne (Ne.symm sts)]; exact gs0) rfl, l_Fr hup_at rfl, n_0, show (6 : Int32) = nI 6 from rfl, l_Cp (by rw [hup_ne (mc_ne gse k5)]; exact gse) (by rw [hup_ne (by omega)]; exact k7) a3.1 (by omega) (by omega) (by omega) (by omega)]
    rw [← hJ]
    refine (congrArg (fun z => gFr z (some s0) 16 1 fun v25 => bV z v25 24 (fun q85 => sJ12_iterator G N (some q85) z) fun v26 h27 => gJ J30 fun j30 => gLp (bX3_init_2_83 G N (some st) v26 j30) N () h27) hu.symm).trans ?_
    rw [l_Fr Q2.1 rfl, al_bV A2.2.2.2.2.2.2.1.al, i1, l_bnd, l_J, e4]
    unfold bX3_init_2_83
    rw [L4.bV, L4.has (Nat.le_refl _), l_bnd, if_pos (by rw [bZ_f (by omega)]), hJ]
    dsimp only
    rw [l_Fr Q4.1 rfl, D0.bV, j1, l_bnd, ← hJ36, l_J, e6]
    unfold bX3_init_2_131
    obtain ⟨⟨lr, n1⟩, -⟩ := id I6
    rw [l_bV n1, I6.has (Nat.le_refl _), l_bnd, if_pos (by rw [bZ_f (by omega)]), hJ36]
    dsimp only
    have s06 : g6.2.2 s0 = some (.inr (16, [.ref mt, .ref cl, .ref se, .ref bu, .int (R 90), .int (R 91), .int (R 92), .int (R 93), .int (R 94), .int (R 95), .int (R 96), .int (R 97), .ref rd, .ref gr])) := by
      have := a2.2.1
      rw [q6 _ (by omega) (by omega) (by omega), j4 _ (by omega)]
      exact Q4.1
    have s0h : ∀ e, (hup g6 st e).2.2 s0 = some (.inr (16, [.ref mt, .ref cl, .ref se, .ref bu, .int (R 90), .int (R 91), .int (R 92), .int (R 93), .int (R 94), .int (R 95), .int (R 96), .int (R 97), .ref rd, .ref gr])) := fun e => by rw [hup_ne (Ne.symm sts)]; exact s06
    have st6 : g6.2.2 st = some (.inr (16, [.ref mt, .ref h.1, .ref (h.1 + 1), .ref (h.1 + 2), .int 0, .int 0, .int 0, .int 0, .int 0, .int 0, .int 0, .int 0, .ref (h.1 + 4), .ref (h.1 + 5)])) := by
      rw [q6 _ (by omega) (by omega) (by omega)]; exact st5
    rw [l_Fi s06 rfl, l_P st6 hst.1 (by (show 4 < 14; omega)), l_Fi (s0h _) rfl, l_P hup_at hst.1 (by (show 5 < 14; omega)), hup_up, l_Fi (s0h _) rfl, l_P hup_at hst.1 (by (show 6 < 14; omega)), hup_up, l_Fi (s0h _) rfl, l_P hup_at hst.1 (by (show 7 < 14; omega)), hup_up, l_Fi (s0h _) rfl, l_P hup_at hst.1 (by (show 8 < 14; omega)), hup_up, l_Fi (s0h _) rfl, l_P hup_at hst.1 (by (show 9 < 14; omega)), hup_up, l_Fi (s0h _) rfl, l_P hup_at hst.1 (by (show 10 < 14; omega)), hup_up, l_Fi (s0h _) rfl, l_P hup_at hst.1 (by (show 11 < 14; omega)), hup_up]
    exact congrArg (fun z => (some (.inl (), z) : Out Unit)) hv'.symm
  · have nz : ¬ (fun t => t = 2 ∨ SY y t) 0 := fun q => by
      rcases q with q | ⟨j, q⟩
      · omega
      · have := Y.2 j; omega
    have toS : ∀ t, t = y 0 → t = 2 ∨ SY y t := fun t q => Or.inr ⟨0, q⟩
    have TT := (((T12.mono toS (Nat.le_refl _)).trans (T3.mono (S' := fun t => t = 2 ∨ SY y t) (fun _ q => q.elim) (Nat.le_refl _)) nz).trans (T4.mono (S' := fun t => t = 2 ∨ SY y t) (fun t q => by
      rcases q with q | ⟨j, q⟩
      · exact Or.inl q
      · exact Or.inr ⟨_, q⟩) (Nat.le_refl _)) nz).trans (T7.mono toS (Nat.le_refl _)) nz
    have TT2 : Tr (SY y) 3200 h w v w5 := (TT.weak (S' := SY y) (fun q q1 q2 => q2.elim (fun e => absurd e (hw2 q q1)) id)).mono (fun _ q => q) (by omega)
    exact TT2.re2 (fun q => by rw [hw7]) hw2
end Y2
