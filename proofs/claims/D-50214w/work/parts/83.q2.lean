/-! the component's calls that only ask, one by one -/
set_option maxRecDepth 100000
set_option maxHeartbeats 2000000
def ix (a : Int32) : Nat := a.toNatClampNeg
theorem ix_nI {k : Nat} (h : k < 100000) : ix (nI k) = k := nI_clamp (by omega)
/-- the least share that a rule would want -/
noncomputable def qLeast (R : Row) (o s : Nat) : Int32 := if qSum R o s True = 0 then -1 else if gD (nI 100 * qSum R o s True) (qSum R o s True + qSum R o s False) = 0 then -1 else gD (nI 100 * qSum R o s True) (qSum R o s True + qSum R o s False)
where gD (a b : Int32) : Int32 := a / b
section R1
variable {G : GG} {N : Nat} {nl : Nat → List Nat} {h : Hp} {w : Nat → Nat} {x : Nat} {now : Option Nat} {R : Row} {mt cl se bu rd gr : Nat} {cb ru mp sp nn : Nat → Nat} {es : Nat → List En}
theorem StX.lim {st : Nat} {b : Nat} {y : Nat → Nat} (A : StX b h w y st R nl mt cl se bu rd gr cb ru mp sp nn es) : cN R ≤ 10 ∧ sN R ≤ 8 := by
  have H := A.2.2.2.2.2.2.2.2.1
  obtain ⟨h6, h7, h8, h9, l6, l7, l8, l9, hv⟩ := H
  exact ⟨l6, l7⟩
theorem q_rules {a1 a2 : Int32} (H : Now G h w x now nl R) (hN : 400 < N) : Q4 0 h w (now ≠ none) (inR a1 (cN R) ∧ inR a2 (sN R)) True (qRule R (ix a1) (ix a2)) (sX1_rules G N (some x) a1 a2 h) := by
  unfold sX1_rules
  refine H.both (fun st k s mt cl se bu rd gr cb ru mp sp nn es e1 e2 hk hs en A => ?_)
  obtain ⟨l6, l7⟩ := A.lim
  subst e1 e2 en
  obtain ⟨hh, f, g, t1, t2, t3, t4, t5, t6, t7⟩ := H.lay (N := N) A hk hN
  have Q := t4.q
  refine ⟨hh, w, ?_, t2⟩
  rw [H.1.now, st_bV A.1, t1, l_bnd, t3.now, st_bV Q.1, c_rules Q.1 Q.2.2.1 t5 t6 (by omega) (t7 s hs).1 (t7 s hs).2, l_bnd, ix_nI (by omega), ix_nI (by omega)]
theorem q_weights {a1 a2 rd9 : Int32} {p : Prop} (hr : rd9 = bZ p) (H : Now G h w x now nl R) (hN : 400 < N) : Q4 0 h w (now ≠ none) (inR a1 (cN R) ∧ inR a2 (sN R)) True (qSum R (ix a1) (ix a2) p) (sX1_weights G N (some x) a1 a2 rd9 h) := by
  subst hr
  unfold sX1_weights
  refine H.both (fun st k s mt cl se bu rd gr cb ru mp sp nn es e1 e2 hk hs en A => ?_)
  obtain ⟨l6, l7⟩ := A.lim
  subst e1 e2 en
  obtain ⟨hh, f, g, t1, t2, t3, t4, t5, t6, t7⟩ := H.lay (N := N) A hk hN
  have Q := t4.q
  refine ⟨hh, w, ?_, t2⟩
  rw [H.1.now, st_bV A.1, t1, l_bnd, ix_nI (by omega), ix_nI (by omega)]
  by_cases hp : p
  · rw [if_neg (fun q => bZ_0.mp q hp), t3.now, l_Fr Q.1 rfl, l_Ai t5 (by omega) (by omega), (t7 s hs).1, show p = True from eq_true hp]
  · rw [if_pos (bZ_0.mpr hp), t3.now, l_Fr Q.1 rfl, l_Ai t6 (by omega) (by omega), (t7 s hs).2, show p = False from eq_false hp]
theorem q_run {a1 a2 : Int32} (H : Now G h w x now nl R) : Q4 0 h w (now ≠ none) (inR a1 (cN R) ∧ inR a2 (sN R)) True (R (178 + 8 * ix a1 + ix a2)) (sX1_run G N (some x) a1 a2 h) := by
  unfold sX1_run
  refine H.both (fun st k s mt cl se bu rd gr cb ru mp sp nn es e1 e2 hk hs en A => ?_)
  obtain ⟨l6, l7⟩ := A.lim
  subst e1 e2 en
  obtain ⟨b1, b2, ⟨b3, f, b4, b5⟩, b6, b7⟩ := A.2.2.2.2.2.2.2.1 k hk
  refine ⟨h, w, ?_, Tr.refl⟩
  rw [l_Fr b2 rfl, l_Ai b4 (by omega) (by omega), b5 s (by omega), ix_nI (by omega), ix_nI (by omega)]
theorem q_isClosed {a1 a2 : Int32} (H : Now G h w x now nl R) : Q4 0 h w (now ≠ none) (inR a1 (cN R) ∧ inR a2 (sN R)) True (bZ (hasB (R (138 + ix a1)) (nI (ix a2)))) (sX1_isClosed G N (some x) a1 a2 h) := by
  unfold sX1_isClosed
  refine H.both (fun st k s mt cl se bu rd gr cb ru mp sp nn es e1 e2 hk hs en A => ?_)
  obtain ⟨l6, l7⟩ := A.lim
  subst e1 e2 en
  have Q := A.q
  refine ⟨h, w, ?_, Tr.refl⟩
  rw [cab_bV (Q.2.1.2 k hk), c_holds Q.2.1 hk, l_bnd, l_RZb, ix_nI (by omega), ix_nI (by omega)]
theorem q_toldClosed {a1 a2 : Int32} (H : Now G h w x now nl R) (hN : 400 < N) : Q4 0 h w (now ≠ none) (inR a1 (cN R) ∧ inR a2 (sN R)) True (bZ (tells R (ix a1) (ix a2))) (sX1_toldClosed G N (some x) a1 a2 h) := by
  unfold sX1_toldClosed
  refine H.both (fun st k s mt cl se bu rd gr cb ru mp sp nn es e1 e2 hk hs en A => ?_)
  obtain ⟨l6, l7⟩ := A.lim
  subst e1 e2 en
  have Q := A.q
  refine ⟨h, w, ?_, Tr.refl⟩
  rw [H.1.now, st_bV Q.1, c_tells Q hk (by omega), l_bnd, l_RZb, ix_nI (by omega), ix_nI (by omega)]
theorem q_seesSlope {a1 a2 : Int32} (H : Now G h w x now nl R) (hN : 400 < N) : Q4 0 h w (now ≠ none) (inR a1 (cN R) ∧ inR a2 (sN R)) True (bZ (isSee R (10 + 3 * ix a1) (40 + 3 * ix a2))) (sX1_seesSlope G N (some x) a1 a2 h) := by
  unfold sX1_seesSlope
  refine H.both (fun st k s mt cl se bu rd gr cb ru mp sp nn es e1 e2 hk hs en A => ?_)
  obtain ⟨l6, l7⟩ := A.lim
  subst e1 e2 en
  have Q := A.q
  refine ⟨h, w, ?_, Tr.refl⟩
  rw [H.1.now, st_bV Q.1, c_seesSlope Q hk hs (by omega), l_bnd, l_RZb, ix_nI (by omega), ix_nI (by omega)]
theorem q_distance {a1 a2 : Int32} (H : Now G h w x now nl R) : Q4 0 h w (now ≠ none) (inR a1 (cN R) ∧ inR a2 (sN R)) True (qFar R (ix a1) (ix a2)) (sX1_distance G N (some x) a1 a2 h) := by
  unfold sX1_distance
  refine H.both (fun st k s mt cl se bu rd gr cb ru mp sp nn es e1 e2 hk hs en A => ?_)
  obtain ⟨l6, l7⟩ := A.lim
  subst e1 e2 en
  have Q := A.q
  refine ⟨h, w, ?_, Tr.refl⟩
  rw [H.1.now, st_bV Q.1, c_slope Q.1 Q.2.2.2.2.2.1 hs, l_bnd, cab_bV (Q.2.1.2 k hk), c_dist (Q.2.1.2 k hk) (Q.2.2.2.2.2.1.loc hs), l_bnd, ix_nI (by omega), ix_nI (by omega)]
  rfl
theorem q_sees {a1 a2 : Int32} (H : Now G h w x now nl R) (hN : 400 < N) : Q4 0 h w (now ≠ none) (inR a1 (cN R) ∧ inR a2 (cN R)) True (bZ (seeOne R (ix a1) (ix a2))) (sX1_sees G N (some x) a1 a2 h) := by
  unfold sX1_sees
  refine H.two (fun st k s mt cl se bu rd gr cb ru mp sp nn es e1 e2 hk hs en A => ?_)
  obtain ⟨l6, l7⟩ := A.lim
  subst e1 e2 en
  have Q := A.q
  refine ⟨h, w, ?_, Tr.refl⟩
  rw [H.1.now, st_bV Q.1, c_sees Q hk hs (by omega), l_bnd, l_RZb, ix_nI (by omega), ix_nI (by omega)]
theorem q_ridges {a1 a2 : Int32} (H : Now G h w x now nl R) (hN : 400 < N) : Q4 0 h w (now ≠ none) (inR a1 (cN R) ∧ inR a2 (cN R)) True (qPart R (10 + 3 * ix a1) (10 + 3 * ix a2)) (sX1_ridgesBetween G N (some x) a1 a2 h) := by
  unfold sX1_ridgesBetween
  refine H.two (fun st k s mt cl se bu rd gr cb ru mp sp nn es e1 e2 hk hs en A => ?_)
  obtain ⟨l6, l7⟩ := A.lim
  subst e1 e2 en
  have Q := A.q
  have H9 := Q.2.2.2.2.2.2
  obtain ⟨h6, h7, h8, h9, m6, m7, m8, m9, hv⟩ := H9
  obtain ⟨fs, fl, fg, z1, -⟩ := id Q.2.2.2.2.1
  refine ⟨h, w, ?_, Tr.refl⟩
  rw [H.1.now, l_Fr Q.1 rfl, H.1.now, st_bV Q.1, c_cabin Q.1 Q.2.1 hs, l_bnd, l_bV z1, c_ridges Q.2.2.2.2.1 (Q.2.1.2 k hk).loc (Q.2.1.2 s hs).loc m8 (by omega), l_bnd, ix_nI (by omega), ix_nI (by omega)]
theorem q_seers {a1 : Int32} (H : Now G h w x now nl R) (hN : 400 < N) : Q4 0 h w (now ≠ none) (inR a1 (cN R)) True (qSeen R (ix a1)) (sX1_seers G N (some x) a1 h) := by
  unfold sX1_seers
  refine H.cabin (fun st k mt cl se bu rd gr cb ru mp sp nn es e1 hk en A => ?_)
  obtain ⟨l6, l7⟩ := A.lim
  subst e1 en
  have Q := A.q
  refine ⟨h, w, ?_, Tr.refl⟩
  rw [H.1.now, st_bV Q.1, c_seers Q hk (by omega), l_bnd, ix_nI (by omega)]
theorem q_reached {a1 : Int32} (H : Now G h w x now nl R) (hN : 400 < N) : Q4 0 h w (now ≠ none) (inR a1 (cN R)) True (spI R (1 <<< (nI (ix a1) &&& 31)) (cN R)) (sX1_reached G N (some x) a1 h) := by
  unfold sX1_reached
  refine H.cabin (fun st k mt cl se bu rd gr cb ru mp sp nn es e1 hk en A => ?_)
  obtain ⟨l6, l7⟩ := A.lim
  subst e1 en
  have Q := A.q
  refine ⟨h, w, ?_, Tr.refl⟩
  rw [H.1.now, H.1.now, st_bV Q.1, c_size Q.1 Q.2.1, l_bnd, st_bV Q.1, c_reached Q (by omega) (by omega), l_bnd, ix_nI (by omega)]
theorem q_closers {a1 : Int32} (H : Now G h w x now nl R) (hN : 400 < N) : Q4 0 h w (now ≠ none) (inR a1 (sN R)) True (qClosers R (ix a1)) (sX1_closers G N (some x) a1 h) := by
  unfold sX1_closers
  refine H.slope (fun st s mt cl se bu rd gr cb ru mp sp nn es e1 hs en A => ?_)
  obtain ⟨l6, l7⟩ := A.lim
  subst e1 en
  have Q := A.q
  refine ⟨h, w, ?_, Tr.refl⟩
  rw [H.1.now, st_bV Q.1, c_closers Q.1 Q.2.1 Q.2.2.2.2.2.2 (by omega), l_bnd, ix_nI (by omega)]
theorem q_sight (H : Now G h w x now nl R) (hN : 400 < N) : Q4 0 h w (now ≠ none) True True (qSight R) (sX1_sight G N (some x) h) := by
  unfold sX1_sight
  refine H.any (fun st mt cl se bu rd gr cb ru mp sp nn es en A => ?_)
  subst en
  have Q := A.q
  have H9 := Q.2.2.2.2.2.2
  obtain ⟨h6, h7, h8, h9, m6, m7, m8, m9, hv⟩ := H9
  refine ⟨h, w, ?_, Tr.refl⟩
  rw [st_bV Q.1, c_sight Q.1 Q.2.2.1 Q.2.2.2.1 m9 (by omega), l_bnd]
end R1
