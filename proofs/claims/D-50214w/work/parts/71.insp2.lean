/-! a state: an inspection, whole -/
set_option maxRecDepth 100000
set_option maxHeartbeats 2000000
noncomputable def fInspect (R : Row) (o s : Nat) : Row := upd (upd (fIns R o s (cN R)) 94 (R 94 + nIns R o s (cN R))) (258 + 80 * o + 8 * o + s) (voteMade R (hasB (R 97) (nI s)))
section N1
variable {G : GG} {N : Nat} {nl : Nat → List Nat} {h : Hp} {w y : Nat → Nat} {st o : Nat} {R : Row} {mt cl se bu rd gr : Nat} {cb ru mp sp nn : Nat → Nat} {es : Nat → List En}
theorem upd_comm {f : Nat → Int32} {i j : Nat} {a b : Int32} (h : i ≠ j) : upd (upd f i a) j b = upd (upd f j b) i a := funext fun k => by
  rw [l_upd, l_upd, l_upd, l_upd]
  by_cases h1 : k = j
  · by_cases h2 : k = i
    · omega
    · rw [if_pos h1, if_neg h2, if_pos h1]
  · by_cases h2 : k = i
    · rw [if_neg h1, if_pos h2, if_pos h2]
    · rw [if_neg h1, if_neg h2, if_neg h2, if_neg h1]
theorem c_inspects {s tm : Nat} (A : StX G.1 h w y st R nl mt cl se bu rd gr cb ru mp sp nn es) (Y : TG y) (hb : G.1 ≤ h.1) (ho : o < cN R) (hs : s < sN R) (ht : R 90 = nI tm) (htm : tm ≤ 9000) (B : TruB R) (hN : 400 < N) :
    ∃ h' w' nn' es', sX3_inspects G N (some st) (nI o) (nI s) h = some (.inl (nIns R o s (cN R)), h') ∧ Tr (SY y) 200 h w h' w' ∧ G.1 ≤ h'.1 ∧ StX G.1 h' w' y st (fInspect R o s) nl mt cl se bu rd gr cb ru mp sp nn' es' := by
  classical
  have A0 := A
  obtain ⟨a1, a2, a3, a6, a7, a8, a9, a10, H, a12⟩ := A
  have OK0 := H
  obtain ⟨h6, h7, h8, h9, l6, l7, l8, l9, hv⟩ := H
  have yF : ∀ i, ¬ (fun _ => False) (y i) ∧ y i ≠ 1 := fun i => ⟨id, by have := Y.2 i; omega⟩
  have Q0 := A0.q
  have voJ : ∀ c, c < 10 → R (258 + 80 * o + 8 * c + s) = nI (vo R (258 + 80 * o + 8 * c + s)) := fun c hc => (hv _ (by omega) (by omega)).1
  unfold sX3_inspects
  rw [st_bV Q0.1, c_cabin Q0.1 Q0.2.1 ho, l_bnd, l_Fr (Q0.2.1.2 o ho) rfl, l_J]
  -- what is after the loop
  refine Exists.elim (p := fun (K : Int32 → Hp → Out Int32) => K = fun (x4 : Int32) (h5 : Hp) =>
  gNew h5 10 [.int 0, .int 0] 2 fun v7 h8 =>
  bI v7 (fun q25 => sX7_init G N (some q25) (nI o) (nI s) h8) fun v9 h10 =>
  gNew h10 17 [.int 0, .int 0] 2 fun v11 h12 =>
  bV h12 (some st) 16 (fun q24 => sX3_isDangerous G N (some q24) (nI s) h12) fun v13 h14 =>
  gFi h14 (some st) 16 4 fun v15 =>
  bI v11 (fun q23 => sX17_init G N (some q23) v13 v15 h14) fun v16 h17 =>
  bV h17 (some (mp o)) 26 (fun q22 => sJ23_put_c26 G N (some q22) v7 v11 h17) fun v18 h19 =>
  gFi h19 (some st) 16 8 fun v20 =>
  gP G h19 (some st) 16 8 (.int (v20 + x4)) fun h21 =>
  some (.inl x4, h21)) ⟨_, rfl⟩ (fun K hK => ?_)
  rw [← hK]
  obtain ⟨x, hh, ⟨z1, w3, nn3, es3, X3, T3, hb3⟩, self, e3⟩ := lp_r (B := bX3_inspects_15 G N (some st) (nI s) (some (mp o)) K) (N := N) (n := cN R) (fun c x hh => x = (nIns R o s c, nI c) ∧ ∃ w3 nn3 es3, StX G.1 hh w3 y st (fIns R o s c) nl mt cl se bu rd gr cb ru mp sp nn3 es3 ∧ Tr (SY y) c h w hh w3 ∧ G.1 ≤ hh.1) (x0 := (0, 0)) (h0 := h) (by omega) ⟨rfl, w, nn, es, A0, Tr.refl, hb⟩ (fun c x hh hc I self => by
    obtain ⟨z1, w3, nn3, es3, X3, T3, hb3⟩ := I
    have hc10 : c < 10 := by omega
    have OK := fIns_ok OK0 (o := o) (s := s) (n := c) (by omega)
    have Q := X3.q
    -- the key
    obtain ⟨g1, hg1⟩ : ∃ g, g = hnw hh (.inr (10, [.int (nI c), .int (nI s)])) 2 := ⟨_, rfl⟩
    have T1 : Tr (fun _ => False) 1 hh w3 g1 (nw w3 hh.1 0) := by rw [hg1]; exact Tr.new (by omega)
    have X1 := X3.keep T1 id id yF
    have k1 : ImC g1 (nw w3 hh.1 0) hh.1 (.inr (10, [.int (nI c), .int (nI s)])) := by rw [hg1]; exact ImC.new
    have hb1 : G.1 ≤ g1.1 := by rw [hg1, hnw_1]; omega
    have T31 : Tr (SY y) (c + 1) h w g1 (nw w3 hh.1 0) := T3.trans (T1.mono (fun _ q => q.elim) (Nat.le_refl _)) (Y.sy (by omega))
    have kk : KeyAt g1 true hh.1 (8 * c + s) := by
      unfold KeyAt
      rw [if_pos rfl, show (8 * c + s) / 8 = c by omega, show (8 * c + s) % 8 = s by omega]
      exact k1.2.2
    have Q1 := X1.q
    obtain ⟨b1, b2, b3, b6, b7⟩ := X1.2.2.2.2.2.2.2.1 o (by rw [OK.2.1]; exact ho)
    have hlen := b6.nle
    have eJ : fIns R o s c (258 + 80 * o + 8 * c + s) = R (258 + 80 * o + 8 * c + s) := fIns_ne (fun k hk => by omega)
    have e97 : fIns R o s c 97 = R 97 := fIns_ne (fun k hk => by omega)
    have e5 : fIns R o s c 5 = R 5 := fIns_ne (fun k hk => by omega)
    have eT : fIns R o s c (158 + c) = R (158 + c) := fIns_ne (fun k hk => by omega)
    have pre : bX3_inspects_15 G N (some st) (nI s) (some (mp o)) K self x hh = gCk g1 ((look (es3 o) (8 * c + s)).map (fun e => e.2.2.2)) [17] (gJ (fun (x37) (h38 : Hp) =>
  self (x37, nI c + (1)) h38) fun j39 =>
  if (look (es3 o) (8 * c + s)).map (fun e => e.2.2.2) = none then (j39 (nIns R o s c) g1)
  else bV g1 (some st) 16 (fun q62 => sX3_isDangerous G N (some q62) (nI s) g1) fun v40 h41 =>
  bV h41 ((look (es3 o) (8 * c + s)).map (fun e => e.2.2.2)) 17 (fun q61 => sX17_isFalse G N (some q61) v40 h41) fun v42 h43 =>
  if v42 = 0 then (bV h43 (some st) 16 (fun q49 => sX3_cabin G N (some q49) (nI c) h43) fun v44 h45 =>
  bV h45 v44 7 (fun q48 => sX12_trusts G N (some q48) (1) h45) fun v46 h47 =>
  j39 (nIns R o s c) h47)
  else bV h43 (some st) 16 (fun q60 => sX3_cabin G N (some q60) (nI c) h43) fun v50 h51 =>
  gFr h51 (some st) 16 2 fun v52 =>
  gAi h51 v52 0 (5) fun v53 =>
  bV h51 v50 7 (fun q59 => sX12_trusts G N (some q59) (-v53) h51) fun v54 h55 =>
  bV h55 (some (mp o)) 26 (fun q58 => sJ23_remove_c26 G N (some q58) (some hh.1) h55) fun v56 h57 =>
  gCk h57 v56 [17] (j39 (nIns R o s c + (1)) h57)) := by
      unfold bX3_inspects_15
      rw [z1]
      dsimp only
      rw [st_bV Q.1, c_size Q.1 Q.2.1, l_bnd, OK.2.1, if_neg (fun q => absurd ((nI_leI (by omega) (by omega)).mp q) (by omega)), c_newKey hb3, ← hg1, m_bV b6.lhm, m_get b6.lhm (by omega) kk (by omega), l_bnd]
    have hv9 := b7.1 (8 * c + s) (by omega)
    rw [show 258 + 80 * o + (8 * c + s) = 258 + 80 * o + 8 * c + s by omega, eJ] at hv9
    obtain ⟨B1, d, B2, B3⟩ := B
    obtain ⟨ut, u1, u2⟩ := B1 c hc10
    rcases hv9 with ⟨q1, q2⟩ | ⟨e, rdp, tm2, q1, q2, q3, q4⟩
    · -- no vote
      have nv : ¬ 0 < vo R (258 + 80 * o + 8 * c + s) := by rw [vo_of q2 (by omega)]; omega
      have eS : fIns R o s (c + 1) = fIns R o s c := by
        conv => lhs; unfold fIns
        rw [if_neg nv]
      have eN : nIns R o s (c + 1) = nIns R o s c := by
        unfold nIns
        rw [sm_succ, pz_f (fun q => nv q.1)]
        exact Int32.add_zero _
      refine ⟨(nIns R o s (c + 1), nI (c + 1)), g1, ⟨rfl, _, nn3, es3, by rw [eS]; exact X1, T31, hb1⟩, ?_⟩
      rw [pre, q1]
      refine l_Ckn.trans ?_
      rw [l_J, if_pos (show Option.map (fun e : En => e.2.2.2) none = none from rfl), eN, n_1, nI_add]
    · have vE : vo R (258 + 80 * o + 8 * c + s) = mv tm2 rdp := vo_of q4 (by have := @mv_lt tm2 rdp; omega)
      have hvp : 0 < vo R (258 + 80 * o + 8 * c + s) := by rw [vE]; exact mv_pos
      have isE : isF R o s c ↔ ¬ (rdp ↔ hasB (R 97) (nI s)) := by
        unfold isF
        rw [vE, mv_par]
      have dang : sX3_isDangerous G N (some st) (nI s) g1 = some (.inl (bZ (hasB (R 97) (nI s))), g1) := by
        rw [c_isDangerous Q1.1, e97]
      have q2' := q2.2.2
      by_cases hF : isF R o s c
      · -- false
        obtain ⟨g2, t1, t2, t3, t4, t5, X2⟩ := c_trusts (N := N) (o := c) (by' := -(R 5)) X1 Y (by rw [OK.2.1]; exact hc)
        have eR5 : imax 0 (imin (nI 100) (fIns R o s c (158 + c) + -(R 5))) = imax 0 (R (158 + c) - R 5) := by rw [eT, u2, B3]; exact (tru_dn ut u1 d B2).1
        rw [eR5] at X2
        have OK2 : cN (upd (fIns R o s c) (158 + c) (imax 0 (R (158 + c) - R 5))) = cN R := by rw [cN_eq (R := fIns R o s c) (l_upd_ne (by omega))]; exact OK.2.1
        have OK2s : sN (upd (fIns R o s c) (158 + c) (imax 0 (R (158 + c) - R 5))) = sN R := by rw [sN_eq (R := fIns R o s c) (l_upd_ne (by omega))]; exact OK.2.2.1
        have Y1c : ∀ k, k ≤ 3 → ¬ (k = y (2 * c + 1)) := fun k hk q => by have := Y.2 (2 * c + 1); omega
        obtain ⟨b1', b2', b3', b6', b7'⟩ := X2.2.2.2.2.2.2.2.1 o (by rw [OK2]; exact ho)
        have y0 : y (2 * o + 2) ≠ 0 := by have := Y.2 (2 * o + 2); omega
        have kk2 := keyAt_keep kk k1.im t2 (Y1c 0 (by omega))
        obtain ⟨g3, r1, r2, r3, r4, r5⟩ := m_remove (N := N) b6' y0 (show 8 * c + s < 128 by omega) kk2 (by omega)
        have T3' : Tr (fun t => t = y (2 * o + 2)) 0 g2 (nw w3 hh.1 0) g3 (nw w3 hh.1 0) := Tr.ex r2 r3 r4
        have OK3 := vote_ok X2.2.2.2.2.2.2.2.2.1 (j := 258 + 80 * o + (8 * c + s)) (v := nI 0) (m := 0) (by omega) rfl (by omega)
        have X4 := X2.map (o := o) (nn' := nn3 o) (es' := rmv (es3 o) (8 * c + s)) Y T3' OK3.1 OK3.2.1 OK3.2.2.1 (fun j hj => l_upd_ne (by omega)) (fun k hk hko q hq => l_upd_ne (by omega)) (fun _ => ⟨r5, fun q hq => by
            rw [look_rmv]
            by_cases hqp : q = 8 * c + s
            · subst hqp
              exact Or.inl ⟨if_pos rfl, l_upd_eq⟩
            · rw [if_neg hqp, l_upd_ne (by omega)]
              rcases b7'.1 q hq with c1 | ⟨e2, rd2, tm3, c1, c2, c3⟩
              · exact Or.inl c1
              · exact Or.inr ⟨e2, rd2, tm3, c1, c2.keep T3' (fun e => y0 e.symm) (ncl (by decide)), c3⟩, fun e2 he2 => by
            rw [OK3.2.1, OK3.2.2.1]
            exact b7'.2 e2 (List.mem_filter.mp he2).1⟩) (fun j j1 j2 => by
            rw [l_upd]
            by_cases hq : j = 258 + 80 * o + (8 * c + s)
            · rw [if_pos hq]
            · rw [if_neg hq]; exact X2.2.2.2.2.2.2.2.2.2 j j1 j2)
        have eS : fIns R o s (c + 1) = upd (upd (fIns R o s c) (158 + c) (imax 0 (R (158 + c) - R 5))) (258 + 80 * o + (8 * c + s)) (nI 0) := by
          conv => lhs; unfold fIns
          rw [if_pos hvp, if_pos hF, show 258 + 80 * o + (8 * c + s) = 258 + 80 * o + 8 * c + s by omega]
        have eN : nIns R o s (c + 1) = nIns R o s c + 1 := by
          unfold nIns
          rw [sm_succ, pz_t ⟨hvp, hF⟩]
          rfl
        have Q2 := X2.q
        refine ⟨(nIns R o s (c + 1), nI (c + 1)), g3, ⟨rfl, _, _, _, by rw [eS]; exact X4, ?_, by rw [r2, t3]; exact hb1⟩, ?_⟩
        · have := (T31.trans (t2.mono (fun t q => ⟨_, q⟩) (Nat.le_refl _)) (Y.sy (by omega))).trans (T3'.mono (fun t q => ⟨_, q⟩) (Nat.le_refl _)) (Y.sy (by omega))
          exact this.mono (fun _ q => q) (by omega)
        · obtain ⟨fe, s1, s2⟩ := Q1.2.2.1
          rw [pre, q1]
          refine (l_Ck q2' (show 17 ∈ [17] by decide)).trans ?_
          rw [l_J, if_neg (by simp), st_bV Q1.1, dang, l_bnd]
          refine (l_bV q2').trans ?_
          rw [c_isFalse q2', l_bnd, if_neg (fun q => bZ_0.mp q (isE.mp hF)), st_bV Q1.1, c_cabin Q1.1 Q1.2.1 (by rw [OK.2.1]; exact hc), l_bnd, l_Fr Q1.1 rfl, n_5, l_Ai s1 (by omega) (by omega), s2 5 (by omega), e5, cab_bV (Q1.2.1.2 c (by rw [OK.2.1]; exact hc)), t1, l_bnd, m_bV b6'.lhm, r1, l_bnd, q1]
          have hE : g3.2.2 e.2.2.2 = some (.inr (17, [.int (bZ rdp), .int (nI tm2)])) := ((q2.keep t2 (Y1c 0 (by omega)) (ncl (by decide))).keep T3' (fun e => y0 e.symm) (ncl (by decide))).2.2
          refine (l_Ck hE (show 17 ∈ [17] by decide)).trans ?_
          rw [eN, n_1, nI_add]
      · -- true
        obtain ⟨g2, t1, t2, t3, t4, t5, X2⟩ := c_trusts (N := N) (o := c) (by' := 1) X1 Y (by rw [OK.2.1]; exact hc)
        have eR5 : imax 0 (imin (nI 100) (fIns R o s c (158 + c) + 1)) = imin (nI 100) (R (158 + c) + nI 1) := by rw [eT, u2]; exact (tru_up ut u1).1
        rw [eR5] at X2
        have eS : fIns R o s (c + 1) = upd (fIns R o s c) (158 + c) (imin (nI 100) (R (158 + c) + nI 1)) := by
          conv => lhs; unfold fIns
          rw [if_pos hvp, if_neg hF]
        have eN : nIns R o s (c + 1) = nIns R o s c := by
          unfold nIns
          rw [sm_succ, pz_f (fun q => hF q.2)]
          exact Int32.add_zero _
        refine ⟨(nIns R o s (c + 1), nI (c + 1)), g2, ⟨rfl, _, _, _, by rw [eS]; exact X2, ?_, by rw [t3]; exact hb1⟩, ?_⟩
        · exact (T31.trans (t2.mono (fun t q => ⟨_, q⟩) (Nat.le_refl _)) (Y.sy (by omega))).mono (fun _ q => q) (by omega)
        · rw [pre, q1]
          refine (l_Ck q2' (show 17 ∈ [17] by decide)).trans ?_
          rw [l_J, if_neg (by simp), st_bV Q1.1, dang, l_bnd]
          refine (l_bV q2').trans ?_
          rw [c_isFalse q2', l_bnd, if_pos (bZ_0.mpr (fun q => hF (isE.mpr q))), st_bV Q1.1, c_cabin Q1.1 Q1.2.1 (by rw [OK.2.1]; exact hc), l_bnd, cab_bV (Q1.2.1.2 c (by rw [OK.2.1]; exact hc)), t1, l_bnd, eN, n_1, nI_add])
  -- behind it
  have OK := fIns_ok OK0 (o := o) (s := s) (n := cN R) l6
  have Q := X3.q
  have e97 : fIns R o s (cN R) 97 = R 97 := fIns_ne (fun k hk => by omega)
  have e90 : fIns R o s (cN R) 90 = R 90 := fIns_ne (fun k hk => by omega)
  have e94 : fIns R o s (cN R) 94 = R 94 := fIns_ne (fun k hk => by omega)
  obtain ⟨g1, hg1⟩ : ∃ g, g = hnw hh (.inr (10, [.int (nI o), .int (nI s)])) 2 := ⟨_, rfl⟩
  have T1 : Tr (fun _ => False) 1 hh w3 g1 (nw w3 hh.1 0) := by rw [hg1]; exact Tr.new (by omega)
  have X1 := X3.keep T1 id id yF
  have k1 : ImC g1 (nw w3 hh.1 0) hh.1 (.inr (10, [.int (nI o), .int (nI s)])) := by rw [hg1]; exact ImC.new
  have hb1 : G.1 ≤ g1.1 := by rw [hg1, hnw_1]; omega
  obtain ⟨g2, hg2⟩ : ∃ g, g = hnw g1 (.inr (17, [.int (bZ (hasB (R 97) (nI s))), .int (R 90)])) 2 := ⟨_, rfl⟩
  obtain ⟨w2, hw2⟩ : ∃ w2, w2 = nw (nw w3 hh.1 0) g1.1 0 := ⟨_, rfl⟩
  have T2 : Tr (fun _ => False) 1 g1 (nw w3 hh.1 0) g2 w2 := by rw [hg2, hw2]; exact Tr.new (by omega)
  have X2 := X1.keep T2 id id yF
  have k2 := k1.keep T2 id (ncl (by decide))
  have v2 : ImC g2 w2 g1.1 (.inr (17, [.int (bZ (hasB (R 97) (nI s))), .int (nI tm)])) := by rw [← ht, hg2, hw2]; exact ImC.new
  have hb2 : G.1 ≤ g2.1 := by rw [hg2, hnw_1]; omega
  have kk : KeyAt g2 true hh.1 (8 * o + s) := by
    unfold KeyAt
    rw [if_pos rfl, show (8 * o + s) / 8 = o by omega, show (8 * o + s) % 8 = s by omega]
    exact k2.2.2
  obtain ⟨h4, nn4, es4, r, p1, p2, p3, p4⟩ := c_put (N := N) (o := o) (p := 8 * o + s) X2 Y hb2 (by rw [OK.2.1]; exact ho) (by omega) (by rw [OK.2.1]; omega) (by rw [OK.2.2.1]; omega) kk k2.im v2 htm hN
  rw [← voteMade_nI ht] at p4
  -- the count
  have Q4 := p4.q
  have OK4 := vote_ok OK.1 (j := 258 + 80 * o + (8 * o + s)) (v := voteMade R (hasB (R 97) (nI s))) (m := mv tm (hasB (R 97) (nI s))) (by omega) (voteMade_nI ht) (by have := @mv_lt tm (hasB (R 97) (nI s)); omega)
  obtain ⟨g5, hg5⟩ : ∃ g5, g5 = hup h4 st (.inr (16, ([.ref mt, .ref cl, .ref se, .ref bu, .int (upd (fIns R o s (cN R)) (258 + 80 * o + (8 * o + s)) (voteMade R (hasB (R 97) (nI s))) 90), .int (upd (fIns R o s (cN R)) (258 + 80 * o + (8 * o + s)) (voteMade R (hasB (R 97) (nI s))) 91), .int (upd (fIns R o s (cN R)) (258 + 80 * o + (8 * o + s)) (voteMade R (hasB (R 97) (nI s))) 92), .int (upd (fIns R o s (cN R)) (258 + 80 * o + (8 * o + s)) (voteMade R (hasB (R 97) (nI s))) 93), .int (upd (fIns R o s (cN R)) (258 + 80 * o + (8 * o + s)) (voteMade R (hasB (R 97) (nI s))) 94), .int (upd (fIns R o s (cN R)) (258 + 80 * o + (8 * o + s)) (voteMade R (hasB (R 97) (nI s))) 95), .int (upd (fIns R o s (cN R)) (258 + 80 * o + (8 * o + s)) (voteMade R (hasB (R 97) (nI s))) 96), .int (upd (fIns R o s (cN R)) (258 + 80 * o + (8 * o + s)) (voteMade R (hasB (R 97) (nI s))) 97), .ref rd, .ref gr].set 8 (.int (upd (fIns R o s (cN R)) (258 + 80 * o + (8 * o + s)) (voteMade R (hasB (R 97) (nI s))) 94 + nIns R o s (cN R)))))) := ⟨_, rfl⟩
  have w4st : nw w2 g2.1 (y (2 * o + 2)) st = y 0 := p4.2.1.2.2
  have gst : ∀ q, q ≠ st → g5.2.2 q = h4.2.2 q := fun q hq => by rw [hg5, hup_ne hq]
  have T5 : Tr (fun t => t = y 0) 0 h4 (nw w2 g2.1 (y (2 * o + 2))) g5 (nw w2 g2.1 (y (2 * o + 2))) := Tr.ex (by rw [hg5]; rfl) (by rw [hg5]; rfl) (fun q _ q2 => gst q (fun e => q2 (by rw [e]; exact w4st)))
  have eRow : fInspect R o s = upd (upd (fIns R o s (cN R)) (258 + 80 * o + (8 * o + s)) (voteMade R (hasB (R 97) (nI s)))) 94 (R 94 + nIns R o s (cN R)) := by
    unfold fInspect
    rw [upd_comm (by omega), show 258 + 80 * o + (8 * o + s) = 258 + 80 * o + 8 * o + s by omega]
  have OK5 : ROK (fInspect R o s) ∧ cN (fInspect R o s) = cN (upd (fIns R o s (cN R)) (258 + 80 * o + (8 * o + s)) (voteMade R (hasB (R 97) (nI s)))) ∧ sN (fInspect R o s) = sN (upd (fIns R o s (cN R)) (258 + 80 * o + (8 * o + s)) (voteMade R (hasB (R 97) (nI s)))) := by
    rw [eRow]
    have q9 := OK4.1.of (R' := upd (upd (fIns R o s (cN R)) (258 + 80 * o + (8 * o + s)) (voteMade R (hasB (R 97) (nI s)))) 94 (R 94 + nIns R o s (cN R))) (l_upd_ne (by omega)) (l_upd_ne (by omega)) (l_upd_ne (by omega)) (l_upd_ne (by omega)) (fun j _ _ => Or.inl (l_upd_ne (by omega)))
    exact ⟨q9.1, q9.2.1, q9.2.2.1⟩
  obtain ⟨fe, s1, s2⟩ := p4.2.2.1.2
  have S4 := p4.1
  have X5 : StX G.1 g5 (nw w2 g2.1 (y (2 * o + 2))) y st (fInspect R o s) nl mt cl se bu rd gr cb ru mp sp nn4 es4 := by
    refine p4.self Y T5 OK5.1 OK5.2.1 OK5.2.2 (fun j hj => by rw [eRow]; exact l_upd_ne (by omega)) ?_ ⟨fe, by rw [gst se (mc_ne s1 S4)]; exact s1, fun k hk => by rw [eRow, l_upd_ne (by omega)]; exact s2 k hk⟩ ?_
    · rw [eRow]
      unfold StC
      rw [hg5, hup_at, l_upd_eq]
      repeat rw [l_upd_ne (by omega)]
      rw [e94]
      rfl
    · have B9 : BuR G.1 g5 (nw w2 g2.1 (y (2 * o + 2))) (y 0) bu (upd (fIns R o s (cN R)) (258 + 80 * o + (8 * o + s)) (voteMade R (hasB (R 97) (nI s)))) := by
        obtain ⟨el, hd, i, fb, c1, c2, c3, c4, c5⟩ := p4.2.2.2.1
        exact ⟨el, hd, i, fb, c1.keep T5, by rw [gst bu (cl_ne c2 S4 (by decide))]; exact c2, c3.keep T5, by rw [gst el (mc_ne c4 S4)]; exact c4, c5.1, c5.2.1, c5.2.2.1, fun k hk => by
          obtain ⟨bl, d1, d2⟩ := c5.2.2.2 k hk
          exact ⟨bl, d1, d2.keep T5 (by have := Y.2 0; omega) (ncl (by decide))⟩⟩
      exact B9.row (fun j j1 j2 j3 j4 => by rw [eRow]; exact l_upd_ne (by omega))
  refine ⟨g5, _, nn4, es4, ?_, ?_, by rw [hg5, hup_1]; exact p3, X5⟩
  · rw [e3]
    unfold bX3_inspects_15
    rw [z1]
    dsimp only
    rw [st_bV Q.1, c_size Q.1 Q.2.1, l_bnd, OK.2.1, if_pos ((nI_leI (by omega) (by omega)).mpr (Nat.le_refl _)), hK]
    dsimp only
    rw [c_newKey hb3, ← hg1]
    have S1' : StC (hnw g1 (.inr (17, [.int 0, .int 0])) 2) st (fIns R o s (cN R)) mt cl se bu rd gr := by
      have h1 := X1.q.1
      unfold StC at h1 ⊢
      rw [hnw_ne (by have := (X1.2.1).2.1; omega)]
      exact h1
    show (bV (hnw g1 (.inr (17, [.int 0, .int 0])) 2) (some st) 16 (fun q24 => sX3_isDangerous G N (some q24) (nI s) (hnw g1 (.inr (17, [.int 0, .int 0])) 2)) fun v13 h14 =>
      gFi h14 (some st) 16 4 fun v15 => bI (some g1.1) (fun q23 => sX17_init G N (some q23) v13 v15 h14) fun v16 h17 =>
      bV h17 (some (mp o)) 26 (fun q22 => sJ23_put_c26 G N (some q22) (some hh.1) (some g1.1) h17) fun v18 h19 =>
      gFi h19 (some st) 16 8 fun v20 => gP G h19 (some st) 16 8 (.int (v20 + nIns R o s (cN R))) fun h21 => (some (.inl (nIns R o s (cN R)), h21) : Out Int32)) = _
    rw [st_bV S1', c_isDangerous S1', e97, l_bnd, l_Fi S1' rfl, e90, c_newVote hb1, ← hg2, m_bV (X2.2.2.2.2.2.2.2.1 o (by rw [OK.2.1]; exact ho)).2.2.2.1.lhm, p1, l_bnd, l_Fi S4 rfl, l_P S4 p4.2.1.1 (by (show 8 < 14; omega)), ← hg5]
  · have t12 := (T1.trans T2 id).mono (S' := SY y) (fun _ q => q.elim) (Nat.le_refl _)
    have := ((T3.trans t12 (Y.sy (by omega))).trans p2 (Y.sy (by omega))).trans (T5.mono (fun t q => ⟨_, q⟩) (Nat.le_refl _)) (Y.sy (by omega))
    exact this.mono (fun _ q => q) (by omega)
end N1
