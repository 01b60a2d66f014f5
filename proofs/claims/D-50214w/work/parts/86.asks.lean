/-! calls that only ask: the twin's answers, the law's steps -/
set_option maxRecDepth 100000
set_option maxHeartbeats 4000000
section S2
variable {b c c0 s0 n a0 m tb ou od x bf pa pel sv ob i : Nat} {G : GG} {N : Nat} {nl : Nat → List Nat} {h : Hp} {w : Nat → Nat} {sc : Nat → Int32} {T : TS}
theorem l_ifB {P : Prop} {h : Hp} : (if bZ P = 0 then (gRtZ (0 : Int32) h : Out Int32) else gRtZ (1 : Int32) h) = some (.inl (bZ P), h) := by
  by_cases hp : P
  · rw [if_neg (fun q => bZ_0.mp q hp), bZ_t hp]; rfl
  · rw [if_pos (bZ_0.mpr hp), bZ_f hp]; rfl
theorem t_mayAsk {p : Prop} (hb : G.1 ≤ tb) (hp : T.1 8 = bZ p) : sX2_mayAsk G N (some tb) (hT tb T h) = some (.inl (bZ (p ∧ True ∧ True)), hT tb (tI T 0 (th3 p True True)) h) := by
  unfold sX2_mayAsk
  rw [t_fi8, t_bV, t_may hb hp (show (1 : Int32) = bZ True from (bZ_t trivial).symm) (show (1 : Int32) = bZ True from (bZ_t trivial).symm), l_bnd, l_RZb]
theorem t_Arun {p : Prop} {a1 a2 : Int32} (hb : G.1 ≤ tb) (hp : T.1 8 = bZ p) (H : p → ROK (T.2.2.1 1)) (hN : 2000 < N) : ∃ v, sX2_run G N (some tb) a1 a2 (hT tb T h) = some (.inl v, hT tb (tI T 0 (th3 p (inC (T.2.2.1 1) a1 ∧ inS (T.2.2.1 1) a2) True)) h) ∧ (p → (inC (T.2.2.1 1) a1 ∧ inS (T.2.2.1 1) a2) → v = (T.2.2.1 1) (178 + 8 * ix a1 + ix a2)) := by
  classical
  unfold sX2_run
  rw [t_bV, t_mayBoth hb hp, l_bnd]
  by_cases hz : p ∧ inC (T.2.2.1 1) a1 ∧ inS (T.2.2.1 1) a2
  · have H0 := H hz.1
    obtain ⟨h6, h7, h8, h9, l6, l7, l8, l9, hv⟩ := id H0
    obtain ⟨k, k1, k2⟩ := inR_of (by omega) ((inC_is H0).mp hz.2.1)
    obtain ⟨s, s1, s2⟩ := inR_of (by omega) ((inS_is H0).mp hz.2.2)
    rw [if_neg (fun q => bZ_0.mp q hz), t_bV, k2, s2, t_runOf (T := tI T 0 _) (by omega) (by omega), l_bnd]
    exact ⟨_, rfl, fun _ _ => by rw [ix_nI (by omega), ix_nI (by omega)]; rfl⟩
  · rw [if_pos (bZ_0.mpr hz)]
    exact ⟨_, rfl, fun z1 z2 => absurd ⟨z1, z2⟩ hz⟩
theorem step_23 {j20 : Unit → Hp → Out Int32} (L : LI G c0 s0 n h w a0 m sc x bf pa pel sv ob tb ou od nl T) (hi : i + 6 ≤ m) (hm : m ≤ 144) (hN : 2000 < N) : ∃ h' w' T', (gAi h (some a0) 0 ((nI i) + (1 : Int32)) fun v369 =>
  gAi h (some a0) 0 ((nI i) + (2 : Int32)) fun v370 =>
  bnd (sX0_run G N (some x) v369 v370 (some ou) h) fun v371 h372 =>
  gAi h372 (some a0) 0 ((nI i) + (1 : Int32)) fun v373 =>
  gAi h372 (some a0) 0 ((nI i) + (2 : Int32)) fun v374 =>
  bV h372 (some tb) 18 (fun q384 => sX2_run G N (some q384) v373 v374 h372) fun v375 h376 =>
  bV h376 (some tb) 18 (fun q383 => sX2_thrown G N (some q383) h376) fun v377 h378 =>
  if v377 = v371 then (gJ (fun (x379 : Unit) (h380 : Hp) =>
  j20 () h380) fun j381 =>
  if v371 = 0 then (gAl h378 (some ou) 3 (0 : Int32) fun v382 =>
  if (lg_cmp v382 (v375.toInt64)) = 0 then (j381 () h378)
  else gRtZ (0 : Int32) h378)
  else j381 () h378)
  else gRtZ (0 : Int32) h378) = j20 () h' ∧ LI G c0 s0 (n + 1) h' w' a0 m sc x bf pa pel sv ob tb ou od nl T' := by
  have I := L.2.2.2.2.1
  have tbo : G.1 ≤ tb := (L.2.1 0 (by omega)).2.1
  rw [n_1, n_2, sc_at I rfl (by omega) hm, sc_at I rfl (by omega) hm]
  obtain ⟨h1, w1, p, e1, e2, e3, C, O, ho⟩ := ask_c (kInt (G := G) (ou := ou)) (f := fun q4 => sX1_run G N (some q4) (sc (i + 1)) (sc (i + 2)) h) (kx := fun q5 h6 => gSw h6 (some q5) 0 (some (.inl (1), h6)) (gSw h6 (some q5) 2 (some (.inl (2), h6)) (none))) L (c := 0) (by omega) (fun now NN _ => q_run (N := N) NN) (fun q h' e => l_Swy e) (fun _ q h' e => (l_Swn e (by decide)).trans (l_Swy e)) (fun hr => absurd trivial hr)
  have I1 := O.2.2.2.1
  obtain ⟨v, t1, t2⟩ := t_Arun (N := N) (G := G) (h := h1) (T := T) (a1 := sc (i + 1)) (a2 := sc (i + 2)) tbo e1 (fun hp => (e2 hp).1) hN
  rw [O.1.eq] at t1
  have eth : th3 p (inC (T.2.2.1 1) (sc (i + 1)) ∧ inS (T.2.2.1 1) (sc (i + 2))) True = th3 p (inR (sc (i + 1)) (cN (T.2.2.1 1)) ∧ inR (sc (i + 2)) (sN (T.2.2.1 1))) True := th3_c (fun hp => by rw [inC_is (e2 hp).1, inS_is (e2 hp).1]) (fun _ _ => Iff.rfl)
  rw [eth] at t1
  have fin := fin_i (N := N) (j20 := j20) cInt C O (k := th3 p (inR (sc (i + 1)) (cN (T.2.2.1 1)) ∧ inR (sc (i + 2)) (sN (T.2.2.1 1))) True) tI_at (t := fun q => sX2_run G N (some q) (sc (i + 1)) (sc (i + 2)) h1) t1 (fun hz => by
    obtain ⟨g, g1, g2⟩ := ho hz
    have := th3_p.mp hz
    refine ⟨g, g1, ?_⟩
    rw [g2, t2 this.1 (by rw [inC_is (e2 this.1).1, inS_is (e2 this.1).1]; exact this.2.1)])
  refine ⟨_, w1, _, ?_, fin.2⟩
  unfold sX0_run
  rw [e3, l_bnd, sc_at I1 rfl (by omega) hm, sc_at I1 rfl (by omega) hm]
  exact fin.1
theorem t_Adistance {p : Prop} {a1 a2 : Int32} (hb : G.1 ≤ tb) (hp : T.1 8 = bZ p) (H : p → ROK (T.2.2.1 1)) (hN : 2000 < N) : ∃ v, sX2_distance G N (some tb) a1 a2 (hT tb T h) = some (.inl v, hT tb (tI T 0 (th3 p (inC (T.2.2.1 1) a1 ∧ inS (T.2.2.1 1) a2) True)) h) ∧ (p → (inC (T.2.2.1 1) a1 ∧ inS (T.2.2.1 1) a2) → v = qFar (T.2.2.1 1) (ix a1) (ix a2)) := by
  classical
  unfold sX2_distance
  rw [t_bV, t_mayBoth hb hp, l_bnd]
  by_cases hz : p ∧ inC (T.2.2.1 1) a1 ∧ inS (T.2.2.1 1) a2
  · have H0 := H hz.1
    obtain ⟨h6, h7, h8, h9, l6, l7, l8, l9, hv⟩ := id H0
    obtain ⟨k, k1, k2⟩ := inR_of (by omega) ((inC_is H0).mp hz.2.1)
    obtain ⟨s, s1, s2⟩ := inR_of (by omega) ((inS_is H0).mp hz.2.2)
    rw [if_neg (fun q => bZ_0.mp q hz), t_bV, k2, s2, t_far (T := tI T 0 _) H0 (by omega) (by omega), l_bnd]
    exact ⟨_, rfl, fun _ _ => by rw [ix_nI (by omega), ix_nI (by omega)]; rfl⟩
  · rw [if_pos (bZ_0.mpr hz)]
    exact ⟨_, rfl, fun z1 z2 => absurd ⟨z1, z2⟩ hz⟩
theorem step_16 {j20 : Unit → Hp → Out Int32} (L : LI G c0 s0 n h w a0 m sc x bf pa pel sv ob tb ou od nl T) (hi : i + 6 ≤ m) (hm : m ≤ 144) (hN : 2000 < N) : ∃ h' w' T', (gAi h (some a0) 0 ((nI i) + (1 : Int32)) fun v247 =>
  gAi h (some a0) 0 ((nI i) + (2 : Int32)) fun v248 =>
  bnd (sX0_distance G N (some x) v247 v248 (some ou) h) fun v249 h250 =>
  gAi h250 (some a0) 0 ((nI i) + (1 : Int32)) fun v251 =>
  gAi h250 (some a0) 0 ((nI i) + (2 : Int32)) fun v252 =>
  bV h250 (some tb) 18 (fun q262 => sX2_distance G N (some q262) v251 v252 h250) fun v253 h254 =>
  bV h254 (some tb) 18 (fun q261 => sX2_thrown G N (some q261) h254) fun v255 h256 =>
  if v255 = v249 then (gJ (fun (x257 : Unit) (h258 : Hp) =>
  j20 () h258) fun j259 =>
  if v249 = 0 then (gAl h256 (some ou) 3 (0 : Int32) fun v260 =>
  if (lg_cmp v260 (v253.toInt64)) = 0 then (j259 () h256)
  else gRtZ (0 : Int32) h256)
  else j259 () h256)
  else gRtZ (0 : Int32) h256) = j20 () h' ∧ LI G c0 s0 (n + 1) h' w' a0 m sc x bf pa pel sv ob tb ou od nl T' := by
  have I := L.2.2.2.2.1
  have tbo : G.1 ≤ tb := (L.2.1 0 (by omega)).2.1
  rw [n_1, n_2, sc_at I rfl (by omega) hm, sc_at I rfl (by omega) hm]
  obtain ⟨h1, w1, p, e1, e2, e3, C, O, ho⟩ := ask_c (kInt (G := G) (ou := ou)) (f := fun q4 => sX1_distance G N (some q4) (sc (i + 1)) (sc (i + 2)) h) (kx := fun q5 h6 => gSw h6 (some q5) 0 (some (.inl (1), h6)) (gSw h6 (some q5) 2 (some (.inl (2), h6)) (none))) L (c := 0) (by omega) (fun now NN _ => q_distance (N := N) NN) (fun q h' e => l_Swy e) (fun _ q h' e => (l_Swn e (by decide)).trans (l_Swy e)) (fun hr => absurd trivial hr)
  have I1 := O.2.2.2.1
  obtain ⟨v, t1, t2⟩ := t_Adistance (N := N) (G := G) (h := h1) (T := T) (a1 := sc (i + 1)) (a2 := sc (i + 2)) tbo e1 (fun hp => (e2 hp).1) hN
  rw [O.1.eq] at t1
  have eth : th3 p (inC (T.2.2.1 1) (sc (i + 1)) ∧ inS (T.2.2.1 1) (sc (i + 2))) True = th3 p (inR (sc (i + 1)) (cN (T.2.2.1 1)) ∧ inR (sc (i + 2)) (sN (T.2.2.1 1))) True := th3_c (fun hp => by rw [inC_is (e2 hp).1, inS_is (e2 hp).1]) (fun _ _ => Iff.rfl)
  rw [eth] at t1
  have fin := fin_i (N := N) (j20 := j20) cInt C O (k := th3 p (inR (sc (i + 1)) (cN (T.2.2.1 1)) ∧ inR (sc (i + 2)) (sN (T.2.2.1 1))) True) tI_at (t := fun q => sX2_distance G N (some q) (sc (i + 1)) (sc (i + 2)) h1) t1 (fun hz => by
    obtain ⟨g, g1, g2⟩ := ho hz
    have := th3_p.mp hz
    refine ⟨g, g1, ?_⟩
    rw [g2, t2 this.1 (by rw [inC_is (e2 this.1).1, inS_is (e2 this.1).1]; exact this.2.1)])
  refine ⟨_, w1, _, ?_, fin.2⟩
  unfold sX0_distance
  rw [e3, l_bnd, sc_at I1 rfl (by omega) hm, sc_at I1 rfl (by omega) hm]
  exact fin.1
theorem t_AridgesBetween {p : Prop} {a1 a2 : Int32} (hb : G.1 ≤ tb) (hp : T.1 8 = bZ p) (H : p → ROK (T.2.2.1 1)) (hN : 2000 < N) : ∃ v, sX2_ridgesBetween G N (some tb) a1 a2 (hT tb T h) = some (.inl v, hT tb (tI T 0 (th3 p (inC (T.2.2.1 1) a1 ∧ inC (T.2.2.1 1) a2) True)) h) ∧ (p → (inC (T.2.2.1 1) a1 ∧ inC (T.2.2.1 1) a2) → v = qPart (T.2.2.1 1) (10 + 3 * ix a1) (10 + 3 * ix a2)) := by
  classical
  unfold sX2_ridgesBetween
  rw [t_bV, t_mayCabins hb hp, l_bnd]
  by_cases hz : p ∧ inC (T.2.2.1 1) a1 ∧ inC (T.2.2.1 1) a2
  · have H0 := H hz.1
    obtain ⟨h6, h7, h8, h9, l6, l7, l8, l9, hv⟩ := id H0
    obtain ⟨k, k1, k2⟩ := inR_of (by omega) ((inC_is H0).mp hz.2.1)
    obtain ⟨s, s1, s2⟩ := inR_of (by omega) ((inC_is H0).mp hz.2.2)
    rw [if_neg (fun q => bZ_0.mp q hz), p_cabinAt, l_bnd, p_cabinAt, l_bnd, t_bV, k2, s2, n_3, n_10, pk_mul, pk_mul, nI_add, nI_add, t_parting (T := tI T 0 _) H0 (by omega) (by omega) (by omega), l_bnd]
    exact ⟨_, rfl, fun _ _ => by rw [ix_nI (by omega), ix_nI (by omega)]; rfl⟩
  · rw [if_pos (bZ_0.mpr hz)]
    exact ⟨_, rfl, fun z1 z2 => absurd ⟨z1, z2⟩ hz⟩
theorem step_19 {j20 : Unit → Hp → Out Int32} (L : LI G c0 s0 n h w a0 m sc x bf pa pel sv ob tb ou od nl T) (hi : i + 6 ≤ m) (hm : m ≤ 144) (hN : 2000 < N) : ∃ h' w' T', (gAi h (some a0) 0 ((nI i) + (1 : Int32)) fun v293 =>
  gAi h (some a0) 0 ((nI i) + (2 : Int32)) fun v294 =>
  bnd (sX0_ridgesBetween G N (some x) v293 v294 (some ou) h) fun v295 h296 =>
  gAi h296 (some a0) 0 ((nI i) + (1 : Int32)) fun v297 =>
  gAi h296 (some a0) 0 ((nI i) + (2 : Int32)) fun v298 =>
  bV h296 (some tb) 18 (fun q308 => sX2_ridgesBetween G N (some q308) v297 v298 h296) fun v299 h300 =>
  bV h300 (some tb) 18 (fun q307 => sX2_thrown G N (some q307) h300) fun v301 h302 =>
  if v301 = v295 then (gJ (fun (x303 : Unit) (h304 : Hp) =>
  j20 () h304) fun j305 =>
  if v295 = 0 then (gAl h302 (some ou) 3 (0 : Int32) fun v306 =>
  if (lg_cmp v306 (v299.toInt64)) = 0 then (j305 () h302)
  else gRtZ (0 : Int32) h302)
  else j305 () h302)
  else gRtZ (0 : Int32) h302) = j20 () h' ∧ LI G c0 s0 (n + 1) h' w' a0 m sc x bf pa pel sv ob tb ou od nl T' := by
  have I := L.2.2.2.2.1
  have tbo : G.1 ≤ tb := (L.2.1 0 (by omega)).2.1
  rw [n_1, n_2, sc_at I rfl (by omega) hm, sc_at I rfl (by omega) hm]
  obtain ⟨h1, w1, p, e1, e2, e3, C, O, ho⟩ := ask_c (kInt (G := G) (ou := ou)) (f := fun q4 => sX1_ridgesBetween G N (some q4) (sc (i + 1)) (sc (i + 2)) h) (kx := fun q5 h6 => gSw h6 (some q5) 0 (some (.inl (1), h6)) (gSw h6 (some q5) 2 (some (.inl (2), h6)) (none))) L (c := 0) (by omega) (fun now NN _ => q_ridges (N := N) NN (by omega)) (fun q h' e => l_Swy e) (fun _ q h' e => (l_Swn e (by decide)).trans (l_Swy e)) (fun hr => absurd trivial hr)
  have I1 := O.2.2.2.1
  obtain ⟨v, t1, t2⟩ := t_AridgesBetween (N := N) (G := G) (h := h1) (T := T) (a1 := sc (i + 1)) (a2 := sc (i + 2)) tbo e1 (fun hp => (e2 hp).1) hN
  rw [O.1.eq] at t1
  have eth : th3 p (inC (T.2.2.1 1) (sc (i + 1)) ∧ inC (T.2.2.1 1) (sc (i + 2))) True = th3 p (inR (sc (i + 1)) (cN (T.2.2.1 1)) ∧ inR (sc (i + 2)) (cN (T.2.2.1 1))) True := th3_c (fun hp => by rw [inC_is (e2 hp).1, inC_is (e2 hp).1]) (fun _ _ => Iff.rfl)
  rw [eth] at t1
  have fin := fin_i (N := N) (j20 := j20) cInt C O (k := th3 p (inR (sc (i + 1)) (cN (T.2.2.1 1)) ∧ inR (sc (i + 2)) (cN (T.2.2.1 1))) True) tI_at (t := fun q => sX2_ridgesBetween G N (some q) (sc (i + 1)) (sc (i + 2)) h1) t1 (fun hz => by
    obtain ⟨g, g1, g2⟩ := ho hz
    have := th3_p.mp hz
    refine ⟨g, g1, ?_⟩
    rw [g2, t2 this.1 (by rw [inC_is (e2 this.1).1, inC_is (e2 this.1).1]; exact this.2.1)])
  refine ⟨_, w1, _, ?_, fin.2⟩
  unfold sX0_ridgesBetween
  rw [e3, l_bnd, sc_at I1 rfl (by omega) hm, sc_at I1 rfl (by omega) hm]
  exact fin.1
theorem t_AisClosed {p : Prop} {a1 a2 : Int32} (hb : G.1 ≤ tb) (hp : T.1 8 = bZ p) (H : p → ROK (T.2.2.1 1)) (hN : 2000 < N) : ∃ v, sX2_isClosed G N (some tb) a1 a2 (hT tb T h) = some (.inl v, hT tb (tI T 0 (th3 p (inC (T.2.2.1 1) a1 ∧ inS (T.2.2.1 1) a2) True)) h) ∧ (p → (inC (T.2.2.1 1) a1 ∧ inS (T.2.2.1 1) a2) → v = bZ (hasB ((T.2.2.1 1) (138 + ix a1)) (nI (ix a2)))) := by
  classical
  unfold sX2_isClosed
  rw [t_bV, t_mayBoth hb hp, l_bnd, l_J]
  by_cases hz : p ∧ inC (T.2.2.1 1) a1 ∧ inS (T.2.2.1 1) a2
  · have H0 := H hz.1
    obtain ⟨h6, h7, h8, h9, l6, l7, l8, l9, hv⟩ := id H0
    obtain ⟨k, k1, k2⟩ := inR_of (by omega) ((inC_is H0).mp hz.2.1)
    obtain ⟨s, s1, s2⟩ := inR_of (by omega) ((inS_is H0).mp hz.2.2)
    rw [if_neg (fun q => bZ_0.mp q hz), t_bV, k2, s2, t_holds (T := tI T 0 _) (by omega), l_bnd]
    exact ⟨_, l_ifB, fun _ _ => by rw [ix_nI (by omega), ix_nI (by omega)]; rfl⟩
  · rw [if_pos (bZ_0.mpr hz)]
    exact ⟨_, rfl, fun z1 z2 => absurd ⟨z1, z2⟩ hz⟩
theorem step_24 {j20 : Unit → Hp → Out Int32} (L : LI G c0 s0 n h w a0 m sc x bf pa pel sv ob tb ou od nl T) (hi : i + 6 ≤ m) (hm : m ≤ 144) (hN : 2000 < N) : ∃ h' w' T', (gAi h (some a0) 0 ((nI i) + (1 : Int32)) fun v385 =>
  gAi h (some a0) 0 ((nI i) + (2 : Int32)) fun v386 =>
  bnd (sX0_isClosed G N (some x) v385 v386 (some ou) h) fun v387 h388 =>
  gAi h388 (some a0) 0 ((nI i) + (1 : Int32)) fun v389 =>
  gAi h388 (some a0) 0 ((nI i) + (2 : Int32)) fun v390 =>
  bV h388 (some tb) 18 (fun q403 => sX2_isClosed G N (some q403) v389 v390 h388) fun v391 h392 =>
  bV h392 (some tb) 18 (fun q402 => sX2_thrown G N (some q402) h392) fun v393 h394 =>
  if v393 = v387 then (gJ (fun (x395 : Unit) (h396 : Hp) =>
  j20 () h396) fun j397 =>
  if v387 = 0 then (gAl h394 (some ou) 3 (0 : Int32) fun v398 =>
  gJ (fun (x399 : Int64) (h400 : Hp) =>
  if (lg_cmp v398 x399) = 0 then (j397 () h400)
  else gRtZ (0 : Int32) h400) fun j401 =>
  if v391 = 0 then (j401 (0 : Int64) h394)
  else j401 (1 : Int64) h394)
  else j397 () h394)
  else gRtZ (0 : Int32) h394) = j20 () h' ∧ LI G c0 s0 (n + 1) h' w' a0 m sc x bf pa pel sv ob tb ou od nl T' := by
  have I := L.2.2.2.2.1
  have tbo : G.1 ≤ tb := (L.2.1 0 (by omega)).2.1
  rw [n_1, n_2, sc_at I rfl (by omega) hm, sc_at I rfl (by omega) hm]
  obtain ⟨h1, w1, p, e1, e2, e3, C, O, ho⟩ := ask_c (kBool (G := G) (ou := ou)) (f := fun q4 => sX1_isClosed G N (some q4) (sc (i + 1)) (sc (i + 2)) h) (kx := fun q5 h6 => gSw h6 (some q5) 0 (some (.inl (1), h6)) (gSw h6 (some q5) 2 (some (.inl (2), h6)) (none))) L (c := 0) (by omega) (fun now NN _ => q_isClosed (N := N) NN) (fun q h' e => l_Swy e) (fun _ q h' e => (l_Swn e (by decide)).trans (l_Swy e)) (fun hr => absurd trivial hr)
  have I1 := O.2.2.2.1
  obtain ⟨v, t1, t2⟩ := t_AisClosed (N := N) (G := G) (h := h1) (T := T) (a1 := sc (i + 1)) (a2 := sc (i + 2)) tbo e1 (fun hp => (e2 hp).1) hN
  rw [O.1.eq] at t1
  have eth : th3 p (inC (T.2.2.1 1) (sc (i + 1)) ∧ inS (T.2.2.1 1) (sc (i + 2))) True = th3 p (inR (sc (i + 1)) (cN (T.2.2.1 1)) ∧ inR (sc (i + 2)) (sN (T.2.2.1 1))) True := th3_c (fun hp => by rw [inC_is (e2 hp).1, inS_is (e2 hp).1]) (fun _ _ => Iff.rfl)
  rw [eth] at t1
  have fin := fin_i (N := N) (j20 := j20) cBool C O (k := th3 p (inR (sc (i + 1)) (cN (T.2.2.1 1)) ∧ inR (sc (i + 2)) (sN (T.2.2.1 1))) True) tI_at (t := fun q => sX2_isClosed G N (some q) (sc (i + 1)) (sc (i + 2)) h1) t1 (fun hz => by
    obtain ⟨g, g1, g2⟩ := ho hz
    have := th3_p.mp hz
    refine ⟨g, g1, ?_⟩
    rw [g2, t2 this.1 (by rw [inC_is (e2 this.1).1, inS_is (e2 this.1).1]; exact this.2.1)])
  refine ⟨_, w1, _, ?_, fin.2⟩
  unfold sX0_isClosed
  rw [e3, l_bnd, sc_at I1 rfl (by omega) hm, sc_at I1 rfl (by omega) hm]
  exact fin.1
theorem t_AtoldClosed {p : Prop} {a1 a2 : Int32} (hb : G.1 ≤ tb) (hp : T.1 8 = bZ p) (H : p → ROK (T.2.2.1 1)) (hN : 2000 < N) : ∃ v, sX2_toldClosed G N (some tb) a1 a2 (hT tb T h) = some (.inl v, hT tb (tI T 0 (th3 p (inC (T.2.2.1 1) a1 ∧ inS (T.2.2.1 1) a2) True)) h) ∧ (p → (inC (T.2.2.1 1) a1 ∧ inS (T.2.2.1 1) a2) → v = bZ (tells (T.2.2.1 1) (ix a1) (ix a2))) := by
  classical
  unfold sX2_toldClosed
  rw [t_bV, t_mayBoth hb hp, l_bnd, l_J]
  by_cases hz : p ∧ inC (T.2.2.1 1) a1 ∧ inS (T.2.2.1 1) a2
  · have H0 := H hz.1
    obtain ⟨h6, h7, h8, h9, l6, l7, l8, l9, hv⟩ := id H0
    obtain ⟨k, k1, k2⟩ := inR_of (by omega) ((inC_is H0).mp hz.2.1)
    obtain ⟨s, s1, s2⟩ := inR_of (by omega) ((inS_is H0).mp hz.2.2)
    rw [if_neg (fun q => bZ_0.mp q hz), t_bV, k2, s2, t_tellsClosed (T := tI T 0 _) H0 (by omega) (by omega) (by omega), l_bnd]
    exact ⟨_, l_ifB, fun _ _ => by rw [ix_nI (by omega), ix_nI (by omega)]; rfl⟩
  · rw [if_pos (bZ_0.mpr hz)]
    exact ⟨_, rfl, fun z1 z2 => absurd ⟨z1, z2⟩ hz⟩
theorem step_25 {j20 : Unit → Hp → Out Int32} (L : LI G c0 s0 n h w a0 m sc x bf pa pel sv ob tb ou od nl T) (hi : i + 6 ≤ m) (hm : m ≤ 144) (hN : 2000 < N) : ∃ h' w' T', (gAi h (some a0) 0 ((nI i) + (1 : Int32)) fun v404 =>
  gAi h (some a0) 0 ((nI i) + (2 : Int32)) fun v405 =>
  bnd (sX0_toldClosed G N (some x) v404 v405 (some ou) h) fun v406 h407 =>
  gAi h407 (some a0) 0 ((nI i) + (1 : Int32)) fun v408 =>
  gAi h407 (some a0) 0 ((nI i) + (2 : Int32)) fun v409 =>
  bV h407 (some tb) 18 (fun q422 => sX2_toldClosed G N (some q422) v408 v409 h407) fun v410 h411 =>
  bV h411 (some tb) 18 (fun q421 => sX2_thrown G N (some q421) h411) fun v412 h413 =>
  if v412 = v406 then (gJ (fun (x414 : Unit) (h415 : Hp) =>
  j20 () h415) fun j416 =>
  if v406 = 0 then (gAl h413 (some ou) 3 (0 : Int32) fun v417 =>
  gJ (fun (x418 : Int64) (h419 : Hp) =>
  if (lg_cmp v417 x418) = 0 then (j416 () h419)
  else gRtZ (0 : Int32) h419) fun j420 =>
  if v410 = 0 then (j420 (0 : Int64) h413)
  else j420 (1 : Int64) h413)
  else j416 () h413)
  else gRtZ (0 : Int32) h413) = j20 () h' ∧ LI G c0 s0 (n + 1) h' w' a0 m sc x bf pa pel sv ob tb ou od nl T' := by
  have I := L.2.2.2.2.1
  have tbo : G.1 ≤ tb := (L.2.1 0 (by omega)).2.1
  rw [n_1, n_2, sc_at I rfl (by omega) hm, sc_at I rfl (by omega) hm]
  obtain ⟨h1, w1, p, e1, e2, e3, C, O, ho⟩ := ask_c (kBool (G := G) (ou := ou)) (f := fun q4 => sX1_toldClosed G N (some q4) (sc (i + 1)) (sc (i + 2)) h) (kx := fun q5 h6 => gSw h6 (some q5) 0 (some (.inl (1), h6)) (gSw h6 (some q5) 2 (some (.inl (2), h6)) (none))) L (c := 0) (by omega) (fun now NN _ => q_toldClosed (N := N) NN (by omega)) (fun q h' e => l_Swy e) (fun _ q h' e => (l_Swn e (by decide)).trans (l_Swy e)) (fun hr => absurd trivial hr)
  have I1 := O.2.2.2.1
  obtain ⟨v, t1, t2⟩ := t_AtoldClosed (N := N) (G := G) (h := h1) (T := T) (a1 := sc (i + 1)) (a2 := sc (i + 2)) tbo e1 (fun hp => (e2 hp).1) hN
  rw [O.1.eq] at t1
  have eth : th3 p (inC (T.2.2.1 1) (sc (i + 1)) ∧ inS (T.2.2.1 1) (sc (i + 2))) True = th3 p (inR (sc (i + 1)) (cN (T.2.2.1 1)) ∧ inR (sc (i + 2)) (sN (T.2.2.1 1))) True := th3_c (fun hp => by rw [inC_is (e2 hp).1, inS_is (e2 hp).1]) (fun _ _ => Iff.rfl)
  rw [eth] at t1
  have fin := fin_i (N := N) (j20 := j20) cBool C O (k := th3 p (inR (sc (i + 1)) (cN (T.2.2.1 1)) ∧ inR (sc (i + 2)) (sN (T.2.2.1 1))) True) tI_at (t := fun q => sX2_toldClosed G N (some q) (sc (i + 1)) (sc (i + 2)) h1) t1 (fun hz => by
    obtain ⟨g, g1, g2⟩ := ho hz
    have := th3_p.mp hz
    refine ⟨g, g1, ?_⟩
    rw [g2, t2 this.1 (by rw [inC_is (e2 this.1).1, inS_is (e2 this.1).1]; exact this.2.1)])
  refine ⟨_, w1, _, ?_, fin.2⟩
  unfold sX0_toldClosed
  rw [e3, l_bnd, sc_at I1 rfl (by omega) hm, sc_at I1 rfl (by omega) hm]
  exact fin.1
theorem t_AseesSlope {p : Prop} {a1 a2 : Int32} (hb : G.1 ≤ tb) (hp : T.1 8 = bZ p) (H : p → ROK (T.2.2.1 1)) (hN : 2000 < N) : ∃ v, sX2_seesSlope G N (some tb) a1 a2 (hT tb T h) = some (.inl v, hT tb (tI T 0 (th3 p (inC (T.2.2.1 1) a1 ∧ inS (T.2.2.1 1) a2) True)) h) ∧ (p → (inC (T.2.2.1 1) a1 ∧ inS (T.2.2.1 1) a2) → v = bZ (isSee (T.2.2.1 1) (10 + 3 * ix a1) (40 + 3 * ix a2))) := by
  classical
  unfold sX2_seesSlope
  rw [t_bV, t_mayBoth hb hp, l_bnd, l_J]
  by_cases hz : p ∧ inC (T.2.2.1 1) a1 ∧ inS (T.2.2.1 1) a2
  · have H0 := H hz.1
    obtain ⟨h6, h7, h8, h9, l6, l7, l8, l9, hv⟩ := id H0
    obtain ⟨k, k1, k2⟩ := inR_of (by omega) ((inC_is H0).mp hz.2.1)
    obtain ⟨s, s1, s2⟩ := inR_of (by omega) ((inS_is H0).mp hz.2.2)
    rw [if_neg (fun q => bZ_0.mp q hz), p_cabinAt, l_bnd, p_slopeAt, l_bnd, t_bV, k2, s2, n_3, n_10, n_40, pk_mul, pk_mul, nI_add, nI_add, t_see (T := tI T 0 _) H0 (by omega) (by omega) (by omega), l_bnd]
    exact ⟨_, l_ifB, fun _ _ => by rw [ix_nI (by omega), ix_nI (by omega)]; rfl⟩
  · rw [if_pos (bZ_0.mpr hz)]
    exact ⟨_, rfl, fun z1 z2 => absurd ⟨z1, z2⟩ hz⟩
theorem step_14 {j20 : Unit → Hp → Out Int32} (L : LI G c0 s0 n h w a0 m sc x bf pa pel sv ob tb ou od nl T) (hi : i + 6 ≤ m) (hm : m ≤ 144) (hN : 2000 < N) : ∃ h' w' T', (gAi h (some a0) 0 ((nI i) + (1 : Int32)) fun v214 =>
  gAi h (some a0) 0 ((nI i) + (2 : Int32)) fun v215 =>
  bnd (sX0_seesSlope G N (some x) v214 v215 (some ou) h) fun v216 h217 =>
  gAi h217 (some a0) 0 ((nI i) + (1 : Int32)) fun v218 =>
  gAi h217 (some a0) 0 ((nI i) + (2 : Int32)) fun v219 =>
  bV h217 (some tb) 18 (fun q232 => sX2_seesSlope G N (some q232) v218 v219 h217) fun v220 h221 =>
  bV h221 (some tb) 18 (fun q231 => sX2_thrown G N (some q231) h221) fun v222 h223 =>
  if v222 = v216 then (gJ (fun (x224 : Unit) (h225 : Hp) =>
  j20 () h225) fun j226 =>
  if v216 = 0 then (gAl h223 (some ou) 3 (0 : Int32) fun v227 =>
  gJ (fun (x228 : Int64) (h229 : Hp) =>
  if (lg_cmp v227 x228) = 0 then (j226 () h229)
  else gRtZ (0 : Int32) h229) fun j230 =>
  if v220 = 0 then (j230 (0 : Int64) h223)
  else j230 (1 : Int64) h223)
  else j226 () h223)
  else gRtZ (0 : Int32) h223) = j20 () h' ∧ LI G c0 s0 (n + 1) h' w' a0 m sc x bf pa pel sv ob tb ou od nl T' := by
  have I := L.2.2.2.2.1
  have tbo : G.1 ≤ tb := (L.2.1 0 (by omega)).2.1
  rw [n_1, n_2, sc_at I rfl (by omega) hm, sc_at I rfl (by omega) hm]
  obtain ⟨h1, w1, p, e1, e2, e3, C, O, ho⟩ := ask_c (kBool (G := G) (ou := ou)) (f := fun q4 => sX1_seesSlope G N (some q4) (sc (i + 1)) (sc (i + 2)) h) (kx := fun q5 h6 => gSw h6 (some q5) 0 (some (.inl (1), h6)) (gSw h6 (some q5) 2 (some (.inl (2), h6)) (none))) L (c := 0) (by omega) (fun now NN _ => q_seesSlope (N := N) NN (by omega)) (fun q h' e => l_Swy e) (fun _ q h' e => (l_Swn e (by decide)).trans (l_Swy e)) (fun hr => absurd trivial hr)
  have I1 := O.2.2.2.1
  obtain ⟨v, t1, t2⟩ := t_AseesSlope (N := N) (G := G) (h := h1) (T := T) (a1 := sc (i + 1)) (a2 := sc (i + 2)) tbo e1 (fun hp => (e2 hp).1) hN
  rw [O.1.eq] at t1
  have eth : th3 p (inC (T.2.2.1 1) (sc (i + 1)) ∧ inS (T.2.2.1 1) (sc (i + 2))) True = th3 p (inR (sc (i + 1)) (cN (T.2.2.1 1)) ∧ inR (sc (i + 2)) (sN (T.2.2.1 1))) True := th3_c (fun hp => by rw [inC_is (e2 hp).1, inS_is (e2 hp).1]) (fun _ _ => Iff.rfl)
  rw [eth] at t1
  have fin := fin_i (N := N) (j20 := j20) cBool C O (k := th3 p (inR (sc (i + 1)) (cN (T.2.2.1 1)) ∧ inR (sc (i + 2)) (sN (T.2.2.1 1))) True) tI_at (t := fun q => sX2_seesSlope G N (some q) (sc (i + 1)) (sc (i + 2)) h1) t1 (fun hz => by
    obtain ⟨g, g1, g2⟩ := ho hz
    have := th3_p.mp hz
    refine ⟨g, g1, ?_⟩
    rw [g2, t2 this.1 (by rw [inC_is (e2 this.1).1, inS_is (e2 this.1).1]; exact this.2.1)])
  refine ⟨_, w1, _, ?_, fin.2⟩
  unfold sX0_seesSlope
  rw [e3, l_bnd, sc_at I1 rfl (by omega) hm, sc_at I1 rfl (by omega) hm]
  exact fin.1
theorem t_Asees {p : Prop} {a1 a2 : Int32} (hb : G.1 ≤ tb) (hp : T.1 8 = bZ p) (H : p → ROK (T.2.2.1 1)) (hN : 2000 < N) : ∃ v, sX2_sees G N (some tb) a1 a2 (hT tb T h) = some (.inl v, hT tb (tI T 0 (th3 p (inC (T.2.2.1 1) a1 ∧ inC (T.2.2.1 1) a2) True)) h) ∧ (p → (inC (T.2.2.1 1) a1 ∧ inC (T.2.2.1 1) a2) → v = bZ (seeOne (T.2.2.1 1) (ix a1) (ix a2))) := by
  classical
  unfold sX2_sees
  rw [t_bV, t_mayCabins hb hp, l_bnd, l_J]
  by_cases hz : p ∧ inC (T.2.2.1 1) a1 ∧ inC (T.2.2.1 1) a2
  · have H0 := H hz.1
    obtain ⟨h6, h7, h8, h9, l6, l7, l8, l9, hv⟩ := id H0
    obtain ⟨k, k1, k2⟩ := inR_of (by omega) ((inC_is H0).mp hz.2.1)
    obtain ⟨s, s1, s2⟩ := inR_of (by omega) ((inC_is H0).mp hz.2.2)
    rw [if_neg (fun q => bZ_0.mp q hz), t_bV, k2, s2, t_seeOne (T := tI T 0 _) H0 (by omega) (by omega) (by omega), l_bnd]
    exact ⟨_, l_ifB, fun _ _ => by rw [ix_nI (by omega), ix_nI (by omega)]; rfl⟩
  · rw [if_pos (bZ_0.mpr hz)]
    exact ⟨_, rfl, fun z1 z2 => absurd ⟨z1, z2⟩ hz⟩
theorem step_13 {j20 : Unit → Hp → Out Int32} (L : LI G c0 s0 n h w a0 m sc x bf pa pel sv ob tb ou od nl T) (hi : i + 6 ≤ m) (hm : m ≤ 144) (hN : 2000 < N) : ∃ h' w' T', (gAi h (some a0) 0 ((nI i) + (1 : Int32)) fun v195 =>
  gAi h (some a0) 0 ((nI i) + (2 : Int32)) fun v196 =>
  bnd (sX0_sees G N (some x) v195 v196 (some ou) h) fun v197 h198 =>
  gAi h198 (some a0) 0 ((nI i) + (1 : Int32)) fun v199 =>
  gAi h198 (some a0) 0 ((nI i) + (2 : Int32)) fun v200 =>
  bV h198 (some tb) 18 (fun q213 => sX2_sees G N (some q213) v199 v200 h198) fun v201 h202 =>
  bV h202 (some tb) 18 (fun q212 => sX2_thrown G N (some q212) h202) fun v203 h204 =>
  if v203 = v197 then (gJ (fun (x205 : Unit) (h206 : Hp) =>
  j20 () h206) fun j207 =>
  if v197 = 0 then (gAl h204 (some ou) 3 (0 : Int32) fun v208 =>
  gJ (fun (x209 : Int64) (h210 : Hp) =>
  if (lg_cmp v208 x209) = 0 then (j207 () h210)
  else gRtZ (0 : Int32) h210) fun j211 =>
  if v201 = 0 then (j211 (0 : Int64) h204)
  else j211 (1 : Int64) h204)
  else j207 () h204)
  else gRtZ (0 : Int32) h204) = j20 () h' ∧ LI G c0 s0 (n + 1) h' w' a0 m sc x bf pa pel sv ob tb ou od nl T' := by
  have I := L.2.2.2.2.1
  have tbo : G.1 ≤ tb := (L.2.1 0 (by omega)).2.1
  rw [n_1, n_2, sc_at I rfl (by omega) hm, sc_at I rfl (by omega) hm]
  obtain ⟨h1, w1, p, e1, e2, e3, C, O, ho⟩ := ask_c (kBool (G := G) (ou := ou)) (f := fun q4 => sX1_sees G N (some q4) (sc (i + 1)) (sc (i + 2)) h) (kx := fun q5 h6 => gSw h6 (some q5) 0 (some (.inl (1), h6)) (gSw h6 (some q5) 2 (some (.inl (2), h6)) (none))) L (c := 0) (by omega) (fun now NN _ => q_sees (N := N) NN (by omega)) (fun q h' e => l_Swy e) (fun _ q h' e => (l_Swn e (by decide)).trans (l_Swy e)) (fun hr => absurd trivial hr)
  have I1 := O.2.2.2.1
  obtain ⟨v, t1, t2⟩ := t_Asees (N := N) (G := G) (h := h1) (T := T) (a1 := sc (i + 1)) (a2 := sc (i + 2)) tbo e1 (fun hp => (e2 hp).1) hN
  rw [O.1.eq] at t1
  have eth : th3 p (inC (T.2.2.1 1) (sc (i + 1)) ∧ inC (T.2.2.1 1) (sc (i + 2))) True = th3 p (inR (sc (i + 1)) (cN (T.2.2.1 1)) ∧ inR (sc (i + 2)) (cN (T.2.2.1 1))) True := th3_c (fun hp => by rw [inC_is (e2 hp).1, inC_is (e2 hp).1]) (fun _ _ => Iff.rfl)
  rw [eth] at t1
  have fin := fin_i (N := N) (j20 := j20) cBool C O (k := th3 p (inR (sc (i + 1)) (cN (T.2.2.1 1)) ∧ inR (sc (i + 2)) (cN (T.2.2.1 1))) True) tI_at (t := fun q => sX2_sees G N (some q) (sc (i + 1)) (sc (i + 2)) h1) t1 (fun hz => by
    obtain ⟨g, g1, g2⟩ := ho hz
    have := th3_p.mp hz
    refine ⟨g, g1, ?_⟩
    rw [g2, t2 this.1 (by rw [inC_is (e2 this.1).1, inC_is (e2 this.1).1]; exact this.2.1)])
  refine ⟨_, w1, _, ?_, fin.2⟩
  unfold sX0_sees
  rw [e3, l_bnd, sc_at I1 rfl (by omega) hm, sc_at I1 rfl (by omega) hm]
  exact fin.1
theorem t_Aseers {p : Prop} {a1 : Int32} (hb : G.1 ≤ tb) (hp : T.1 8 = bZ p) (H : p → ROK (T.2.2.1 1)) (hN : 2000 < N) : ∃ v, sX2_seers G N (some tb) a1 (hT tb T h) = some (.inl v, hT tb (tI T 0 (th3 p (inC (T.2.2.1 1) a1) True)) h) ∧ (p → (inC (T.2.2.1 1) a1) → v = qSeen (T.2.2.1 1) (ix a1)) := by
  classical
  unfold sX2_seers
  rw [t_bV, t_mayCabin hb hp, l_bnd]
  by_cases hz : p ∧ inC (T.2.2.1 1) a1
  · have H0 := H hz.1
    obtain ⟨h6, h7, h8, h9, l6, l7, l8, l9, hv⟩ := id H0
    obtain ⟨k, k1, k2⟩ := inR_of (by omega) ((inC_is H0).mp hz.2)
    rw [if_neg (fun q => bZ_0.mp q hz), t_bV, k2, t_seen (T := tI T 0 _) H0 (by omega) (by omega), l_bnd]
    exact ⟨_, rfl, fun _ _ => by rw [ix_nI (by omega)]; rfl⟩
  · rw [if_pos (bZ_0.mpr hz)]
    exact ⟨_, rfl, fun z1 z2 => absurd ⟨z1, z2⟩ hz⟩
theorem step_15 {j20 : Unit → Hp → Out Int32} (L : LI G c0 s0 n h w a0 m sc x bf pa pel sv ob tb ou od nl T) (hi : i + 6 ≤ m) (hm : m ≤ 144) (hN : 2000 < N) : ∃ h' w' T', (gAi h (some a0) 0 ((nI i) + (1 : Int32)) fun v233 =>
  bnd (sX0_seers G N (some x) v233 (some ou) h) fun v234 h235 =>
  gAi h235 (some a0) 0 ((nI i) + (1 : Int32)) fun v236 =>
  bV h235 (some tb) 18 (fun q246 => sX2_seers G N (some q246) v236 h235) fun v237 h238 =>
  bV h238 (some tb) 18 (fun q245 => sX2_thrown G N (some q245) h238) fun v239 h240 =>
  if v239 = v234 then (gJ (fun (x241 : Unit) (h242 : Hp) =>
  j20 () h242) fun j243 =>
  if v234 = 0 then (gAl h240 (some ou) 3 (0 : Int32) fun v244 =>
  if (lg_cmp v244 (v237.toInt64)) = 0 then (j243 () h240)
  else gRtZ (0 : Int32) h240)
  else j243 () h240)
  else gRtZ (0 : Int32) h240) = j20 () h' ∧ LI G c0 s0 (n + 1) h' w' a0 m sc x bf pa pel sv ob tb ou od nl T' := by
  have I := L.2.2.2.2.1
  have tbo : G.1 ≤ tb := (L.2.1 0 (by omega)).2.1
  rw [n_1, sc_at I rfl (by omega) hm]
  obtain ⟨h1, w1, p, e1, e2, e3, C, O, ho⟩ := ask_c (kInt (G := G) (ou := ou)) (f := fun q4 => sX1_seers G N (some q4) (sc (i + 1)) h) (kx := fun q5 h6 => gSw h6 (some q5) 0 (some (.inl (1), h6)) (gSw h6 (some q5) 2 (some (.inl (2), h6)) (none))) L (c := 0) (by omega) (fun now NN _ => q_seers (N := N) NN (by omega)) (fun q h' e => l_Swy e) (fun _ q h' e => (l_Swn e (by decide)).trans (l_Swy e)) (fun hr => absurd trivial hr)
  have I1 := O.2.2.2.1
  obtain ⟨v, t1, t2⟩ := t_Aseers (N := N) (G := G) (h := h1) (T := T) (a1 := sc (i + 1)) tbo e1 (fun hp => (e2 hp).1) hN
  rw [O.1.eq] at t1
  have eth : th3 p (inC (T.2.2.1 1) (sc (i + 1))) True = th3 p (inR (sc (i + 1)) (cN (T.2.2.1 1))) True := th3_c (fun hp => by rw [inC_is (e2 hp).1]) (fun _ _ => Iff.rfl)
  rw [eth] at t1
  have fin := fin_i (N := N) (j20 := j20) cInt C O (k := th3 p (inR (sc (i + 1)) (cN (T.2.2.1 1))) True) tI_at (t := fun q => sX2_seers G N (some q) (sc (i + 1)) h1) t1 (fun hz => by
    obtain ⟨g, g1, g2⟩ := ho hz
    have := th3_p.mp hz
    refine ⟨g, g1, ?_⟩
    rw [g2, t2 this.1 (by rw [inC_is (e2 this.1).1]; exact this.2.1)])
  refine ⟨_, w1, _, ?_, fin.2⟩
  unfold sX0_seers
  rw [e3, l_bnd, sc_at I1 rfl (by omega) hm]
  exact fin.1
theorem t_Aclosers {p : Prop} {a1 : Int32} (hb : G.1 ≤ tb) (hp : T.1 8 = bZ p) (H : p → ROK (T.2.2.1 1)) (hN : 2000 < N) : ∃ v, sX2_closers G N (some tb) a1 (hT tb T h) = some (.inl v, hT tb (tI T 0 (th3 p (inS (T.2.2.1 1) a1) True)) h) ∧ (p → (inS (T.2.2.1 1) a1) → v = qClosers (T.2.2.1 1) (ix a1)) := by
  classical
  unfold sX2_closers
  rw [t_bV, t_maySlope hb hp, l_bnd]
  by_cases hz : p ∧ inS (T.2.2.1 1) a1
  · have H0 := H hz.1
    obtain ⟨h6, h7, h8, h9, l6, l7, l8, l9, hv⟩ := id H0
    obtain ⟨k, k1, k2⟩ := inR_of (by omega) ((inS_is H0).mp hz.2)
    rw [if_neg (fun q => bZ_0.mp q hz), t_bV, k2, t_closersOf (T := tI T 0 _) H0 (by omega), l_bnd]
    exact ⟨_, rfl, fun _ _ => by rw [ix_nI (by omega)]; rfl⟩
  · rw [if_pos (bZ_0.mpr hz)]
    exact ⟨_, rfl, fun z1 z2 => absurd ⟨z1, z2⟩ hz⟩
theorem step_26 {j20 : Unit → Hp → Out Int32} (L : LI G c0 s0 n h w a0 m sc x bf pa pel sv ob tb ou od nl T) (hi : i + 6 ≤ m) (hm : m ≤ 144) (hN : 2000 < N) : ∃ h' w' T', (gAi h (some a0) 0 ((nI i) + (1 : Int32)) fun v423 =>
  bnd (sX0_closers G N (some x) v423 (some ou) h) fun v424 h425 =>
  gAi h425 (some a0) 0 ((nI i) + (1 : Int32)) fun v426 =>
  bV h425 (some tb) 18 (fun q436 => sX2_closers G N (some q436) v426 h425) fun v427 h428 =>
  bV h428 (some tb) 18 (fun q435 => sX2_thrown G N (some q435) h428) fun v429 h430 =>
  if v429 = v424 then (gJ (fun (x431 : Unit) (h432 : Hp) =>
  j20 () h432) fun j433 =>
  if v424 = 0 then (gAl h430 (some ou) 3 (0 : Int32) fun v434 =>
  if (lg_cmp v434 (v427.toInt64)) = 0 then (j433 () h430)
  else gRtZ (0 : Int32) h430)
  else j433 () h430)
  else gRtZ (0 : Int32) h430) = j20 () h' ∧ LI G c0 s0 (n + 1) h' w' a0 m sc x bf pa pel sv ob tb ou od nl T' := by
  have I := L.2.2.2.2.1
  have tbo : G.1 ≤ tb := (L.2.1 0 (by omega)).2.1
  rw [n_1, sc_at I rfl (by omega) hm]
  obtain ⟨h1, w1, p, e1, e2, e3, C, O, ho⟩ := ask_c (kInt (G := G) (ou := ou)) (f := fun q4 => sX1_closers G N (some q4) (sc (i + 1)) h) (kx := fun q5 h6 => gSw h6 (some q5) 0 (some (.inl (1), h6)) (gSw h6 (some q5) 2 (some (.inl (2), h6)) (none))) L (c := 0) (by omega) (fun now NN _ => q_closers (N := N) NN (by omega)) (fun q h' e => l_Swy e) (fun _ q h' e => (l_Swn e (by decide)).trans (l_Swy e)) (fun hr => absurd trivial hr)
  have I1 := O.2.2.2.1
  obtain ⟨v, t1, t2⟩ := t_Aclosers (N := N) (G := G) (h := h1) (T := T) (a1 := sc (i + 1)) tbo e1 (fun hp => (e2 hp).1) hN
  rw [O.1.eq] at t1
  have eth : th3 p (inS (T.2.2.1 1) (sc (i + 1))) True = th3 p (inR (sc (i + 1)) (sN (T.2.2.1 1))) True := th3_c (fun hp => by rw [inS_is (e2 hp).1]) (fun _ _ => Iff.rfl)
  rw [eth] at t1
  have fin := fin_i (N := N) (j20 := j20) cInt C O (k := th3 p (inR (sc (i + 1)) (sN (T.2.2.1 1))) True) tI_at (t := fun q => sX2_closers G N (some q) (sc (i + 1)) h1) t1 (fun hz => by
    obtain ⟨g, g1, g2⟩ := ho hz
    have := th3_p.mp hz
    refine ⟨g, g1, ?_⟩
    rw [g2, t2 this.1 (by rw [inS_is (e2 this.1).1]; exact this.2.1)])
  refine ⟨_, w1, _, ?_, fin.2⟩
  unfold sX0_closers
  rw [e3, l_bnd, sc_at I1 rfl (by omega) hm]
  exact fin.1
theorem t_Asight {p : Prop} (hb : G.1 ≤ tb) (hp : T.1 8 = bZ p) (H : p → ROK (T.2.2.1 1)) (hN : 2000 < N) : ∃ v, sX2_sight G N (some tb)  (hT tb T h) = some (.inl v, hT tb (tI T 0 (th3 p (True) True)) h) ∧ (p → (True) → v = qSight (T.2.2.1 1)) := by
  classical
  unfold sX2_sight
  rw [t_bV, t_mayAsk hb hp, l_bnd]
  by_cases hz : p ∧ True ∧ True
  · have H0 := H hz.1
    obtain ⟨h6, h7, h8, h9, l6, l7, l8, l9, hv⟩ := id H0
    rw [if_neg (fun q => bZ_0.mp q hz), t_bV, t_sightNow (T := tI T 0 _) H0 (by omega), l_bnd]
    exact ⟨_, rfl, fun _ _ => by rfl⟩
  · rw [if_pos (bZ_0.mpr hz)]
    exact ⟨_, rfl, fun z1 z2 => absurd ⟨z1, trivial, trivial⟩ hz⟩
theorem step_12 {j20 : Unit → Hp → Out Int32} (L : LI G c0 s0 n h w a0 m sc x bf pa pel sv ob tb ou od nl T) (hi : i + 6 ≤ m) (hm : m ≤ 144) (hN : 2000 < N) : ∃ h' w' T', (bnd (sX0_sight G N (some x) (some ou) h) fun v183 h184 =>
  bV h184 (some tb) 18 (fun q194 => sX2_sight G N (some q194) h184) fun v185 h186 =>
  bV h186 (some tb) 18 (fun q193 => sX2_thrown G N (some q193) h186) fun v187 h188 =>
  if v187 = v183 then (gJ (fun (x189 : Unit) (h190 : Hp) =>
  j20 () h190) fun j191 =>
  if v183 = 0 then (gAl h188 (some ou) 3 (0 : Int32) fun v192 =>
  if (lg_cmp v192 (v185.toInt64)) = 0 then (j191 () h188)
  else gRtZ (0 : Int32) h188)
  else j191 () h188)
  else gRtZ (0 : Int32) h188) = j20 () h' ∧ LI G c0 s0 (n + 1) h' w' a0 m sc x bf pa pel sv ob tb ou od nl T' := by
  have I := L.2.2.2.2.1
  have tbo : G.1 ≤ tb := (L.2.1 0 (by omega)).2.1
  obtain ⟨h1, w1, p, e1, e2, e3, C, O, ho⟩ := ask_c (kInt (G := G) (ou := ou)) (f := fun q4 => sX1_sight G N (some q4)  h) (kx := fun q5 h6 => gSw h6 (some q5) 0 (some (.inl (1), h6)) (none)) L (c := 0) (by omega) (fun now NN _ => q_sight (N := N) NN (by omega)) (fun q h' e => l_Swy e) (fun hr => absurd trivial hr) (fun hr => absurd trivial hr)
  have I1 := O.2.2.2.1
  obtain ⟨v, t1, t2⟩ := t_Asight (N := N) (G := G) (h := h1) (T := T) tbo e1 (fun hp => (e2 hp).1) hN
  rw [O.1.eq] at t1
  have fin := fin_i (N := N) (j20 := j20) cInt C O (k := th3 p (True) True) tI_at (t := fun q => sX2_sight G N (some q)  h1) t1 (fun hz => by
    obtain ⟨g, g1, g2⟩ := ho hz
    have := th3_p.mp hz
    refine ⟨g, g1, ?_⟩
    rw [g2, t2 this.1 this.2.1])
  refine ⟨_, w1, _, ?_, fin.2⟩
  unfold sX0_sight
  rw [e3, l_bnd]
  exact fin.1
end S2
