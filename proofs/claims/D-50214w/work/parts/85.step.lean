/-! steps of the law: one call, as the law makes it -/
set_option maxRecDepth 100000
set_option maxHeartbeats 2000000
section S1
variable {b c c0 s0 n a0 m tb ou od x bf pa pel sv ob i : Nat} {G : GG} {N : Nat} {nl : Nat → List Nat} {h : Hp} {w : Nat → Nat} {sc : Nat → Int32} {T : TS}
theorem inC_is {R : Row} {a : Int32} (H : ROK R) : inC R a ↔ inR a (cN R) := by
  obtain ⟨h6, h7, h8, h9, l6, l7, l8, l9, hv⟩ := H
  unfold inC inR
  rw [h6]
theorem inS_is {R : Row} {a : Int32} (H : ROK R) : inS R a ↔ inR a (sN R) := by
  obtain ⟨h6, h7, h8, h9, l6, l7, l8, l9, hv⟩ := H
  unfold inS inR
  rw [h7]
theorem sc_at {j : Nat} {x13 : Int32} {α : Type} {k : Int32 → Out α} (I : ImC h w a0 (.inl (0, m, .inl sc))) (hx : x13 = nI i) (hj : i + j < m) (hm : m ≤ 144) : gAi h (some a0) 0 (x13 + nI j) k = k (sc (i + j)) := by
  rw [hx, nI_add, l_Ai I.2.2 hj (by omega)]
theorem bZ_if {α : Type} {p : Prop} {a b : α} : (if bZ p = 0 then a else b) = (@ite α p (Classical.propDecidable p) b a) := by
  by_cases h : p
  · rw [if_neg (fun q => bZ_0.mp q h), if_pos h]
  · rw [if_pos (bZ_0.mpr h), if_neg h]
theorem th3_p {p q r : Prop} : th3 p q r = 0 ↔ p ∧ q ∧ r := by
  classical
  unfold th3
  by_cases hp : p
  · rw [if_pos hp]
    by_cases hq : q
    · rw [if_pos hq]
      by_cases hr : r
      · rw [if_pos hr]; simp [hp, hq, hr]
      · rw [if_neg hr]; simp [hr]
    · rw [if_neg hq]; simp [hq]
  · rw [if_neg hp]; simp [hp]
theorem th3_c {p q r q' r' : Prop} (hq : p → (q ↔ q')) (hr : p → q → (r ↔ r')) : th3 p q r = th3 p q' r' := by
  classical
  unfold th3
  by_cases hp : p
  · rw [if_pos hp, if_pos hp]
    by_cases h1 : q
    · rw [if_pos h1, if_pos ((hq hp).mp h1)]
      by_cases h2 : r
      · rw [if_pos h2, if_pos ((hr hp h1).mp h2)]
      · rw [if_neg h2, if_neg (fun z => h2 ((hr hp h1).mpr z))]
    · rw [if_neg h1, if_neg (fun z => h1 ((hq hp).mpr z))]
  · rw [if_neg hp, if_neg hp]
/-- the twin's answer to rules -/
theorem t_rules {p : Prop} {a1 a2 : Int32} (hb : G.1 ≤ tb) (hp : T.1 8 = bZ p) (H : p → ROK (T.2.2.1 1)) (hN : 400 < N) : ∃ v, sX2_rules G N (some tb) a1 a2 (hT tb T h) = some (.inl v, hT tb (tI T 0 (th3 p (inC (T.2.2.1 1) a1 ∧ inS (T.2.2.1 1) a2) True)) h) ∧ (p → inC (T.2.2.1 1) a1 ∧ inS (T.2.2.1 1) a2 → v = qRule (T.2.2.1 1) (ix a1) (ix a2)) := by
  classical
  unfold sX2_rules
  rw [t_bV, t_mayBoth hb hp, l_bnd]
  by_cases hz : p ∧ inC (T.2.2.1 1) a1 ∧ inS (T.2.2.1 1) a2
  · have H0 := H hz.1
    obtain ⟨h6, h7, h8, h9, l6, l7, l8, l9, hv⟩ := id H0
    obtain ⟨k, k1, k2⟩ := inR_of (by omega) ((inC_is H0).mp hz.2.1)
    obtain ⟨s, s1, s2⟩ := inR_of (by omega) ((inS_is H0).mp hz.2.2)
    rw [if_neg (fun q => bZ_0.mp q hz), t_bV, k2, s2, t_ruling (T := tI T 0 _) H0 (by omega) (by omega) (by omega), l_bnd]
    exact ⟨_, rfl, fun _ _ => by rw [ix_nI (by omega), ix_nI (by omega)]; rfl⟩
  · rw [if_pos (bZ_0.mpr hz)]
    exact ⟨_, rfl, fun z1 z2 => absurd ⟨z1, z2⟩ hz⟩
theorem step_22 {j20 : Unit → Hp → Out Int32} (L : LI G c0 s0 n h w a0 m sc x bf pa pel sv ob tb ou od nl T) (hi : i + 6 ≤ m) (hm : m ≤ 144) (hN : 400 < N) : ∃ h' w' T', (gAi h (some a0) 0 (nI i + (1 : Int32)) fun v353 =>
  gAi h (some a0) 0 (nI i + (2 : Int32)) fun v354 =>
  bnd (sX0_rules G N (some x) v353 v354 (some ou) h) fun v355 h356 =>
  gAi h356 (some a0) 0 (nI i + (1 : Int32)) fun v357 =>
  gAi h356 (some a0) 0 (nI i + (2 : Int32)) fun v358 =>
  bV h356 (some tb) 18 (fun q368 => sX2_rules G N (some q368) v357 v358 h356) fun v359 h360 =>
  bV h360 (some tb) 18 (fun q367 => sX2_thrown G N (some q367) h360) fun v361 h362 =>
  if v361 = v355 then (gJ (fun (x363 : Unit) (h364 : Hp) =>
  j20 () h364) fun j365 =>
  if v355 = 0 then (gAl h362 (some ou) 3 (0 : Int32) fun v366 =>
  if (lg_cmp v366 (v359.toInt64)) = 0 then (j365 () h362)
  else gRtZ (0 : Int32) h362)
  else j365 () h362)
  else gRtZ (0 : Int32) h362) = j20 () h' ∧ LI G c0 s0 (n + 1) h' w' a0 m sc x bf pa pel sv ob tb ou od nl T' := by
  have I := L.2.2.2.2.1
  have tbo : G.1 ≤ tb := (L.2.1 0 (by omega)).2.1
  rw [n_1, n_2, sc_at I rfl (by omega) hm, sc_at I rfl (by omega) hm]
  obtain ⟨h1, w1, p, e1, e2, e3, C, O, ho⟩ := ask_c (kInt (G := G) (ou := ou)) (f := fun q4 => sX1_rules G N (some q4) (sc (i + 1)) (sc (i + 2)) h) (kx := fun q5 h6 => gSw h6 (some q5) 0 (some (.inl (1), h6)) (gSw h6 (some q5) 2 (some (.inl (2), h6)) (none))) L (c := 0) (by omega) (fun now NN _ => q_rules (N := N) NN hN) (fun q h' e => l_Swy e) (fun _ q h' e => (l_Swn e (by decide)).trans (l_Swy e)) (fun hr => absurd trivial hr)
  have I1 := O.2.2.2.1
  obtain ⟨v, t1, t2⟩ := t_rules (N := N) (G := G) (h := h1) (T := T) (a1 := sc (i + 1)) (a2 := sc (i + 2)) tbo e1 (fun hp => (e2 hp).1) hN
  rw [O.1.eq] at t1
  have eth : th3 p (inC (T.2.2.1 1) (sc (i + 1)) ∧ inS (T.2.2.1 1) (sc (i + 2))) True = th3 p (inR (sc (i + 1)) (cN (T.2.2.1 1)) ∧ inR (sc (i + 2)) (sN (T.2.2.1 1))) True := th3_c (fun hp => by rw [inC_is (e2 hp).1, inS_is (e2 hp).1]) (fun _ _ => Iff.rfl)
  rw [eth] at t1
  have fin := fin_i (N := N) (j20 := j20) cInt C O (k := th3 p (inR (sc (i + 1)) (cN (T.2.2.1 1)) ∧ inR (sc (i + 2)) (sN (T.2.2.1 1))) True) tI_at (t := fun q => sX2_rules G N (some q) (sc (i + 1)) (sc (i + 2)) h1) t1 (fun hz => by
    obtain ⟨g, g1, g2⟩ := ho hz
    have := th3_p.mp hz
    refine ⟨g, g1, ?_⟩
    rw [g2, t2 this.1 (by rw [inC_is (e2 this.1).1, inS_is (e2 this.1).1]; exact this.2.1)])
  refine ⟨_, w1, _, ?_, fin.2⟩
  unfold sX0_rules
  rw [e3, l_bnd, sc_at I1 rfl (by omega) hm, sc_at I1 rfl (by omega) hm]
  exact fin.1
end S1
