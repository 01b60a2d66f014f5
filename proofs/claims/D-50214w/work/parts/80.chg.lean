/-! a change: the state is kept, a copy goes on -/
set_option maxRecDepth 100000
set_option maxHeartbeats 2000000
/-- tags that are kept at rest -/
def f9 (t : Nat) : Nat := if t = 1 ∨ t = 3 ∨ t = 4 ∨ t = 5 ∨ t = 6 then t else 0
def yS (i : Nat) : Nat := 10 + i
theorem yS_ok : TG yS := ⟨fun i j h => by unfold yS at h; omega, fun i => by unfold yS; omega⟩
/-- only tags at rest -/
def NT (h : Hp) (w : Nat → Nat) : Prop := ∀ q, q < h.1 → f9 (w q) = w q
theorem f9_f9 {t : Nat} : f9 (f9 t) = f9 t := by
  unfold f9
  by_cases h : t = 1 ∨ t = 3 ∨ t = 4 ∨ t = 5 ∨ t = 6
  · rw [if_pos h, if_pos h]
  · rw [if_neg h]; rfl
theorem f9_y {i : Nat} : f9 (yS i) = 0 := if_neg (by unfold yS; omega)
theorem NT.ne2 {h : Hp} {w : Nat → Nat} (A : NT h w) {q : Nat} (hq : q < h.1) : w q ≠ 2 ∧ ∀ i, w q ≠ yS i := by
  have := A q hq
  refine ⟨fun e => ?_, fun i e => ?_⟩
  · rw [e] at this; exact absurd this (by decide)
  · rw [e, f9_y] at this; unfold yS at this; omega
theorem NT.seal {h : Hp} {w : Nat → Nat} : NT h (fun q => f9 (w q)) := fun q _ => f9_f9
theorem Tr.seal {S : Nat → Prop} {c : Nat} {h h' : Hp} {w w' : Nat → Nat} (T : Tr S c h w h' w') (A : NT h w) : Tr S c h w h' (fun q => f9 (w' q)) := by
  have e : ∀ q, q < h.1 → f9 (w' q) = w' q := fun q hq => by rw [T.2.2.2.1 q hq]; exact A q hq
  refine ⟨T.1, T.2.1, T.2.2.1, fun q hq => (e q hq).trans (T.2.2.2.1 q hq), fun q q1 q2 => ?_⟩
  rcases T.2.2.2.2 q q1 q2 with e1 | ⟨e1, f, g, e2, e3⟩ | ⟨tab, ve, sz, mc, th, lf, vk, vv, hd, tl, ve', vk', vv', e2, e3, V⟩
  · exact Or.inl e1
  · exact Or.inr (Or.inl ⟨(e q q1).trans e1, f, g, e2, e3⟩)
  · refine Or.inr (Or.inr ⟨tab, ve, sz, mc, th, lf, vk, vv, hd, tl, ve', vk', vv', e2, e3, fun V1 V2 V3 => ?_⟩)
    have dn : ∀ ci v, VwO h (fun q => f9 (w' q)) q ci v → VwO h w' q ci v := fun ci v V a ha => by
      obtain ⟨p1, p2, p3⟩ := V a ha
      exact ⟨p1, (e a p1).symm.trans p2, p3⟩
    have up : ∀ ci v, VwO h' w' q ci v → VwO h' (fun q => f9 (w' q)) q ci v := fun ci v V a ha => by
      obtain ⟨p1, p2, p3⟩ := V a ha
      exact ⟨p1, by show f9 (w' a) = 0; rw [p2]; rfl, p3⟩
    obtain ⟨v1, v2, v3⟩ := V (dn _ _ V1) (dn _ _ V2) (dn _ _ V3)
    exact ⟨up _ _ v1, up _ _ v2, up _ _ v3⟩
theorem Rt.f9 {h : Hp} {w : Nat → Nat} : Rt f9 h w (fun q => f9 (w q)) := ⟨rfl, rfl, fun _ _ => rfl⟩
section A1
variable {S : Nat → Prop} {b c : Nat} {G : GG} {N : Nat} {nl : Nat → List Nat} {h h' : Hp} {w w' y : Nat → Nat} {st : Nat} {R R' : Row} {mt cl se bu rd gr : Nat} {cb ru mp sp nn : Nat → Nat} {es : Nat → List En}
theorem StX.seal (A : StX b h w yS st R nl mt cl se bu rd gr cb ru mp sp nn es) : StX b h (fun q => f9 (w q)) (fun _ => 0) st R nl mt cl se bu rd gr cb ru mp sp nn es := by
  have := A.re Rt.f9
  have e : (fun i => f9 (yS i)) = fun _ => 0 := funext fun i => f9_y
  rw [e] at this
  exact this
/-- rows that agree -/
theorem StX.congr (A : StX b h w y st R nl mt cl se bu rd gr cb ru mp sp nn es) (e : ∀ j, j < 1058 → R' j = R j) : StX b h w y st R' nl mt cl se bu rd gr cb ru mp sp nn es := by
  obtain ⟨a1, a2, ⟨a3, f, a4, a5⟩, a6, a7, a8, a9, a10, H, a12⟩ := A
  have OK := H.of (R' := R') (e 6 (by omega)) (e 7 (by omega)) (e 8 (by omega)) (e 9 (by omega)) (fun j _ h2 => Or.inl (e j h2))
  obtain ⟨h6, h7, h8, h9, l6, l7, l8, l9, hv⟩ := H
  refine ⟨?_, a2, ⟨a3, f, a4, fun k hk => by rw [e k (by omega)]; exact a5 k hk⟩, a6.row (fun j _ _ _ _ => e j (by omega)), a7, a8.row ⟨h6, h7, h8, h9, l6, l7, l8, l9, hv⟩ (fun j hj => e j (by omega)), by rw [OK.2.1]; exact a9, fun k hk => (a10 k (by rw [← OK.2.1]; exact hk)).row ?_ OK.2.1 OK.2.2.1, OK.1, fun j j1 j2 => by rw [e j j2]; exact a12 j (by rw [← OK.2.1]; exact j1) j2⟩
  · unfold StC
    rw [e 90 (by omega), e 91 (by omega), e 92 (by omega), e 93 (by omega), e 94 (by omega), e 95 (by omega), e 96 (by omega), e 97 (by omega)]
    exact a1
  · rw [OK.2.1] at hk
    exact ⟨fun i hi => e _ (by omega), e _ (by omega), e _ (by omega), e _ (by omega), e _ (by omega), fun s hs => e _ (by omega), fun p hp => e _ (by omega)⟩
/-- x's own cell -/
abbrev XC (bf : Nat) (bn pe ep : Int32) (now : Option Nat) (pa sv ob : Nat) : GC := .inr (3, [.ref bf, .int bn, .int pe, .int ep, va_rf now, .ref pa, .ref sv, .ref ob])
theorem c_change {x bf pa pel sv ob s0 hd n : Nat} {bn pe ep : Int32} {f : Nat → Option Nat} {fE : Nat → Option Nat} (A : StX G.1 h w (fun _ => 0) s0 R nl mt cl se bu rd gr cb ru mp sp nn es) (NTw : NT h w) (hb : G.1 ≤ h.1) (hx : Ow G.1 h w 3 x) (X : h.2.2 x = some (XC bf bn pe ep (some s0) pa sv ob)) (hpa : Ow G.1 h w 3 pa) (hpel : Ow G.1 h w 3 pel) (D : DQ h pa pel hd n f) (hn : n ≤ 8) (hf : ∀ k, k < n → ∃ s, f ((hd + k) % 17) = some s) (hE : h.2.2 (G.2.2.2.2 0) = some (.inl (5, 0, .inr (.inr (.inr (.inr fE)))))) (hE1 : G.2.2.2.2 0 < h.1) (hE0 : w (G.2.2.2.2 0) = 0) (hN : 2000 < N) :
    ∃ h' w' hd' f' cl' se' bu' rd' gr' cb' ru' mp' nn' es', sX1_change G N (some x) h = some (.inl (some h.1), h') ∧ Tr (fun t => t = 3 ∨ SY yS t) 3300 h w h' w' ∧ (∀ q, q < h.1 → w q = 3 → q ≠ x → q ≠ pa → q ≠ pel → (∀ fs, h.2.2 q ≠ some (.inr (26, fs))) → h'.2.2 q = h.2.2 q) ∧ G.1 ≤ h'.1 ∧ h'.2.2 x = some (XC bf bn pe ep (some h.1) pa sv ob) ∧ DQ h' pa pel hd' (min n 7 + 1) f' ∧ (∀ k, k < min n 7 → f' ((hd' + k) % 17) = f ((hd + (n - min n 7) + k) % 17)) ∧ f' ((hd' + min n 7) % 17) = some s0 ∧ StX G.1 h' w' yS h.1 R nl mt cl' se' bu' rd' gr' cb' ru' mp' sp nn' es' := by
  classical
  have Q := A.q
  have xpa : x ≠ pa := cl_ne X D.1 (by decide)
  have xpel : x ≠ pel := fun q => mc_ne D.2.1 X q.symm
  have wS : ∀ q, w q = 3 → q ≠ s0 := fun q hq e => by have := A.2.1.2.2; rw [← e, hq] at this; exact absurd this (by decide)
  have s0pa : s0 ≠ pa := Ne.symm (wS pa hpa.2.2)
  have s0pel : s0 ≠ pel := Ne.symm (wS pel hpel.2.2)
  have s0x : s0 ≠ x := Ne.symm (wS x hx.2.2)
  -- room in the deque
  have room : ∃ g hd1 f1, (∀ (K : Unit → Hp → Out (Option Nat)), gJ K (fun j6 => if nI n = (8 : Int32) then (gFr h (some x) 3 5 fun v20 => bV h v20 22 (fun q23 => sJ1_removeFirst G N (some q23) h) fun v21 h22 => j6 () h22) else j6 () h) = K () g) ∧ g.1 = h.1 ∧ g.2.1 = h.2.1 ∧ (∀ q, q ≠ pa → q ≠ pel → g.2.2 q = h.2.2 q) ∧ DQ g pa pel hd1 (min n 7) f1 ∧ ∀ k, k < min n 7 → f1 ((hd1 + k) % 17) = f ((hd + (n - min n 7) + k) % 17) := by
    by_cases h8 : n = 8
    · obtain ⟨s, hs⟩ := hf 0 (by omega)
      have d3 := D.2.2.1
      rw [Nat.add_zero, Nat.mod_eq_of_lt d3] at hs
      obtain ⟨g, r1, r2, r3, r4, r5⟩ := D.removeFirst (N := N) (by omega) hpa.1 hpel.1 hs
      refine ⟨g, (hd + 1) % 17, va_up f hd none, fun K => ?_, r2, r3, r4, by rw [show min n 7 = n - 1 by omega]; exact r5, fun k hk => ?_⟩
      · rw [l_J, if_pos (by rw [h8]; rfl), l_Fr X rfl, D.bV, r1, l_bnd]
      · rw [va_upE, if_neg (by omega), show n - min n 7 = 1 by omega]
        congr 1
        omega
    · refine ⟨h, hd, f, fun K => ?_, rfl, rfl, fun _ _ _ => rfl, by rw [show min n 7 = n by omega]; exact D, fun k hk => ?_⟩
      · rw [l_J, if_neg (show ¬ nI n = (8 : Int32) from fun q => h8 ((nI_eq (a := n) (b := 8) (by omega) (by omega)).mp q))]
      · rw [show n - min n 7 = 0 by omega, Nat.add_zero]
  obtain ⟨g, hd1, f1, k1, k2, k3, k4, k5, k6⟩ := room
  have gx : g.2.2 x = some (XC bf bn pe ep (some s0) pa sv ob) := by rw [k4 x xpa xpel]; exact X
  have gs0 : g.2.2 s0 = _ := (k4 s0 s0pa s0pel).trans Q.1
  obtain ⟨g2, m1, m2, m3, m4, m5⟩ := k5.addLast (N := N) (G := G) (by omega) hpa.1 hpel.1 gs0 (by decide)
  have g2x : g2.2.2 x = some (XC bf bn pe ep (some s0) pa sv ob) := by rw [m4 x xpa xpel]; exact gx
  have fr2 : ∀ q, q ≠ pa → q ≠ pel → g2.2.2 q = h.2.2 q := fun q q1 q2 => by rw [m4 q q1 q2, k4 q q1 q2]
  have T2 : Tr (fun t => t = 3) 0 h w g2 w := Tr.ex (by rw [m2, k2]) (by rw [m3, k3]) (fun q _ q2 => fr2 q (fun e => q2 (by rw [e]; exact hpa.2.2)) (fun e => q2 (by rw [e]; exact hpel.2.2)))
  have A2 := A.keep T2 (by decide) (by decide) (fun _ => ⟨by decide, by decide⟩)
  have e21 : g2.1 = h.1 := by rw [m2, k2]
  -- the new state's cell
  obtain ⟨g3, hg3⟩ : ∃ g3, g3 = hnw g2 (.inr (16, [.null, .null, .null, .null, .int 0, .int 0, .int 0, .int 0, .int 0, .int 0, .int 0, .int 0, .null, .null])) 14 := ⟨_, rfl⟩
  obtain ⟨w3, hw3⟩ : ∃ w3, w3 = nw w g2.1 (yS 0) := ⟨_, rfl⟩
  have T3 : Tr (fun _ => False) 4 g2 w g3 w3 := by
    rw [hg3, hw3]
    exact ⟨by rw [hnw_1]; omega, by rw [hnw_1]; omega, by rw [hnw_2]; omega, fun q hq => nw_lt hq, fun q hq _ => Or.inl (hnw_ne (by omega))⟩
  have A3 := A2.keep T3 id id (fun _ => ⟨id, by decide⟩)
  have g3st : g3.2.2 h.1 = some (.inr (16, [.null, .null, .null, .null, .int 0, .int 0, .int 0, .int 0, .int 0, .int 0, .int 0, .int 0, .null, .null])) := by rw [hg3, ← e21]; exact hnw_at
  have s31 : g3.1 = h.1 + 1 := by rw [hg3, hnw_1, e21]
  have g3q : ∀ q, q < h.1 → g3.2.2 q = g2.2.2 q := fun q hq => by rw [hg3, hnw_ne (by omega)]
  have w3lt : ∀ q, q < h.1 → w3 q = w q := fun q hq => by rw [hw3]; exact nw_lt (by omega)
  have Epa : G.2.2.2.2 0 ≠ pa := fun e => by rw [e, hpa.2.2] at hE0; exact absurd hE0 (by decide)
  have Epel : G.2.2.2.2 0 ≠ pel := fun e => by rw [e, hpel.2.2] at hE0; exact absurd hE0 (by decide)
  obtain ⟨h', w', cl', se', bu', rd', gr', cb', ru', mp', nn', es', p1, p2, p3, p4⟩ := c_copySt (N := N) (st := h.1) (fE := fE) A3 yS_ok (by omega) ⟨hb, by omega, by rw [hw3]; exact nw_ge (by omega)⟩ g3st (by rw [g3q _ hE1, fr2 _ Epa Epel]; exact hE) (by omega) (by rw [w3lt _ hE1]; exact hE0) (fun q hq => by
    by_cases hq2 : q < h.1
    · rw [w3lt q hq2]; exact (NTw.ne2 hq2).1
    · rw [hw3, nw_ge (by omega)]; decide) hN
  have n3 : ¬ SY yS 3 := fun ⟨i, e⟩ => by unfold yS at e; omega
  have n03 : ¬ SY yS 0 := fun ⟨i, e⟩ => by unfold yS at e; omega
  have top : ∀ {q : Nat} {e : GC}, q < h.1 → w q = 3 → g2.2.2 q = some e → (∀ fs, e ≠ .inr (26, fs)) → h'.2.2 q = some e := fun hq hw he hc => p2.cell (by omega) (by rw [w3lt _ hq, hw]; exact n3) (by rw [g3q _ hq]; exact he) (Or.inl (by rw [w3lt _ hq, hw]; decide)) hc
  have hxE := top hx.2.1 hx.2.2 g2x (ncl (by decide))
  obtain ⟨u, hu⟩ : ∃ u, u = hup h' x (XC bf bn pe ep (some h.1) pa sv ob) := ⟨_, rfl⟩
  have w'x : w' x = 3 := by rw [p2.2.2.2.1 x (by have := hx.2.1; omega), w3lt x hx.2.1]; exact hx.2.2
  have T5 : Tr (fun t => t = 3) 0 h' w' u w' := Tr.ex (by rw [hu]; rfl) (by rw [hu]; rfl) (fun q _ q2 => by rw [hu, hup_ne (fun e => q2 (by rw [e]; exact w'x))])
  have yn3 : ∀ i, ¬ (yS i = 3) := fun i e => by unfold yS at e; omega
  refine ⟨u, w', hd1, va_up f1 ((hd1 + min n 7) % 17) (some s0), cl', se', bu', rd', gr', cb', ru', mp', nn', es', ?_, ?_, fun q q1 q2 q3 q4 q5 q6 => ?_, by have := T5.1; omega, by rw [hu]; exact hup_at, ?_, fun k hk => ?_, ?_, p4.keep T5 (by decide) (by decide) (fun i => ⟨yn3 i, by unfold yS; omega⟩)⟩
  · unfold sX1_change gNew
    rw [l_Fr X rfl, D.bV, D.size, l_bnd, k1, l_Fr gx rfl, l_Fr gx rfl, k5.bV, m1, l_bnd]
    dsimp only
    rw [← hg3, e21, l_Fr (by rw [g3q x hx.2.1]; exact g2x) rfl, l_bI, p1, l_bnd, l_P hxE hx.1 (by (show 4 < 8; omega))]
    refine (congrArg (fun z => gFr z (some x) 3 4 fun v17 => (some (.inl v17, z) : Out (Option Nat))) hu.symm).trans ?_
    rw [l_Fr (y := h.1) (by rw [hu]; exact hup_at) rfl]
  · have nz : ¬ (fun t => t = 3 ∨ SY yS t) 0 := fun q => q.elim (by decide) n03
    have := (((T2.mono (S' := fun t => t = 3 ∨ SY yS t) (fun _ q => Or.inl q) (Nat.le_refl _)).trans (T3.mono (fun _ q => q.elim) (Nat.le_refl _)) nz).trans (p2.mono (fun _ q => Or.inr q) (Nat.le_refl _)) nz).trans (T5.mono (fun _ q => Or.inl q) (Nat.le_refl _)) nz
    exact this.mono (fun _ q => q) (by omega)
  · rw [hu, hup_ne q3]
    have e2 : g2.2.2 q = h.2.2 q := fr2 q q4 q5
    rcases p2.2.2.2.2 q (by omega) (by rw [w3lt q q1, q2]; exact n3) with e | ⟨e, -⟩ | ⟨tab, ve, sz, mc, th, lf, vk, vv, hd, tl, ve', vk', vv', e, -⟩
    · rw [e, g3q q q1, e2]
    · rw [p2.2.2.2.1 q (by omega), w3lt q q1, q2] at e; exact absurd e (by decide)
    · rw [g3q q q1, e2] at e; exact absurd e (q6 _)
  · obtain ⟨d1, d2, d3, d4⟩ := m5
    refine ⟨?_, ?_, d3, d4⟩
    · rw [hu, hup_ne (Ne.symm xpa)]; exact top hpa.2.1 hpa.2.2 d1 (ncl (by decide))
    · rw [hu, hup_ne (Ne.symm xpel)]; exact top hpel.2.1 hpel.2.2 d2 nar
  · rw [va_upE, if_neg (by have := k5.2.2.1; omega)]
    exact k6 k hk
  · rw [va_upE, if_pos rfl]
end A1
