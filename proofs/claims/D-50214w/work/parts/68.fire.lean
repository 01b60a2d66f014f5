/-! a state: ticks; a flare -/
set_option maxRecDepth 100000
set_option maxHeartbeats 2000000
section K1
variable {S : Nat → Prop} {b c t o : Nat} {G : GG} {N : Nat} {nl : Nat → List Nat} {h h' : Hp} {w w' y : Nat → Nat} {st : Nat} {R R' : Row} {mt cl se bu rd gr : Nat} {cb ru mp sp nn : Nat → Nat} {es : Nat → List En}
theorem c_ticks {u n : Nat} (A : StX G.1 h w y st R nl mt cl se bu rd gr cb ru mp sp nn es) (Y : TG y) (B : RunB u R) (hn : n ≤ 1000) (hu : u + 100 * n < 2 ^ 30) (B2 : HelB R) (hN : 2000 < N) : ∃ h' es', sX3_ticks G N (some st) (nI n) h = some (.inl (some st), h') ∧ OwnOnly h w y h' ∧ StX G.1 h' w y st (fTicks R n) nl mt cl se bu rd gr cb ru mp sp nn es' ∧ RunB (u + 100 * n) (fTicks R n) ∧ HelB (fTicks R n) := by
  obtain ⟨x, hh, ⟨z1, es', X, OO, BB, CC⟩, self, e3⟩ := lp_r (B := bX3_ticks_2 G N (some st) (nI n)) (N := N) (n := n) (fun k x hh => x = nI k ∧ ∃ es', StX G.1 hh w y st (fTicks R k) nl mt cl se bu rd gr cb ru mp sp nn es' ∧ OwnOnly h w y hh ∧ RunB (u + 100 * k) (fTicks R k) ∧ HelB (fTicks R k)) (x0 := 0) (h0 := h) (by omega) ⟨rfl, es, A, OwnOnly.refl, B, B2⟩ (fun k x hh hk I self => by
    obtain ⟨z1, es', X, OO, BB, CC⟩ := I
    obtain ⟨h2, es2, r1, r2, r3, r4, r5⟩ := c_tick (N := N) X Y BB (by omega) CC (by omega)
    refine ⟨nI (k + 1), h2, ⟨rfl, es2, r3, OO.trans r2 Y, by rw [show u + 100 * (k + 1) = u + 100 * k + 100 by omega]; exact r4, r5⟩, ?_⟩
    unfold bX3_ticks_2
    rw [z1, if_neg (fun q => absurd ((nI_leI (by omega) (by omega)).mp q) (by omega)), st_bV X.1, r1, l_bnd, n_1, nI_add])
  refine ⟨hh, es', ?_, OO, X, BB, CC⟩
  unfold sX3_ticks
  rw [e3]
  unfold bX3_ticks_2
  rw [z1, if_pos ((nI_leI (by omega) (by omega)).mpr (Nat.le_refl _))]
theorem MR.nle {m n : Nat} {z : Bool} {es : List En} (A : MR b h w t z m n es) : 16 ≤ n ∧ n ≤ 256 ∧ es.length ≤ 128 := by
  obtain ⟨tab, mc, th, lf, ve, vk, vv, kk, X⟩ := A
  have hl := X.len
  refine ⟨?_, ?_, hl⟩
  · rw [X.1]; exact Nat.le_trans (by decide) (Nat.pow_le_pow_right (show 0 < 2 by omega) X.2.1)
  · rw [X.1]; exact Nat.le_trans (Nat.pow_le_pow_right (show 0 < 2 by omega) X.2.2.1) (by decide)
theorem okZ_b {p : Prop} : gOkZ (bZ p) = true := by
  by_cases h : p
  · rw [bZ_t h]; decide
  · rw [bZ_f h]; decide
/-- a new key, a new vote -/
theorem c_newKey {c s : Nat} (hb : G.1 ≤ h.1) {α : Type} {k : Option Nat → Unit → Hp → Out α} : gNew h 10 [.int 0, .int 0] 2 (fun v3 h4 => bI v3 (fun q31 => sX7_init G N (some q31) (nI c) (nI s) h4) (k v3)) = k (some h.1) () (hnw h (.inr (10, [.int (nI c), .int (nI s)])) 2) := by
  unfold gNew sX7_init
  dsimp only
  rw [l_bI, l_NN, l_P hnw_at hb (by (show 0 < 2; omega)), hnw_up, l_P hnw_at hb (by (show 1 < 2; omega)), hnw_up, l_bnd]
  rfl
theorem c_newVote {tm : Int32} {p : Prop} (hb : G.1 ≤ h.1) {α : Type} {k : Unit → Hp → Out α} : bI (some h.1) (fun q31 => sX17_init G N (some q31) (bZ p) tm (hnw h (.inr (17, [.int 0, .int 0])) 2)) k = k () (hnw h (.inr (17, [.int (bZ p), .int tm])) 2) := by
  unfold sX17_init gPz
  rw [l_bI, l_NN, if_pos okZ_b, l_P hnw_at hb (by (show 0 < 2; omega)), hnw_up, l_P hnw_at hb (by (show 1 < 2; omega)), hnw_up, l_bnd]
  rfl
/-- a cell made that never changes -/
theorem Tr.new {e : GC} {n : Nat} (hn : n ≤ 4) : Tr (fun _ => False) 1 h w (hnw h e n) (nw w h.1 0) := ⟨by rw [hnw_1]; omega, by rw [hnw_1]; omega, by rw [hnw_2]; omega, fun q hq => nw_lt hq, fun q hq _ => Or.inl (hnw_ne (by omega))⟩
theorem ImC.new {e : GC} {n : Nat} : ImC (hnw h e n) (nw w h.1 0) h.1 e := ⟨by rw [hnw_1]; omega, nw_ge (Nat.le_refl _), hnw_at⟩
/-- put into a cabin's votes -/
theorem c_put {k v p tm : Nat} {rdp : Prop} (A : StX G.1 h w y st R nl mt cl se bu rd gr cb ru mp sp nn es) (Y : TG y) (hb : G.1 ≤ h.1) (ho : o < cN R) (hp : p < 80) (hp1 : p / 8 < cN R) (hp2 : p % 8 < sN R) (K : KeyAt h true k p) (ik : Im h w k) (iv : ImC h w v (.inr (17, [.int (bZ rdp), .int (nI tm)]))) (ht : tm ≤ 9000) (hN : 400 < N) :
    ∃ h' nn' es' r, sJ23_put_c26 G N (some (mp o)) (some k) (some v) h = some (.inl r, h') ∧ Tr (SY y) 126 h w h' (nw w h.1 (y (2 * o + 2))) ∧ G.1 ≤ h'.1 ∧ StX G.1 h' (nw w h.1 (y (2 * o + 2))) y st (upd R (258 + 80 * o + p) (nI (mv tm rdp))) nl mt cl se bu rd gr cb ru mp sp nn' es' := by
  classical
  have A0 := A
  obtain ⟨a1, a2, a3, a6, a7, a8, a9, a10, H, a12⟩ := A
  have OK0 := H
  obtain ⟨h6, h7, h8, h9, l6, l7, l8, l9, hv⟩ := H
  obtain ⟨b1, b2, b3, b6, b7⟩ := a10 o ho
  have y0 : y (2 * o + 2) ≠ 0 := by have := Y.2 (2 * o + 2); omega
  obtain ⟨h', n', es', a, r1, r2, r3, r4, r5, r6⟩ := m_put (N := N) b6 y0 hb (show p < 128 by omega) K ik iv.im hN
  have s1 := b6.nle
  have s2 := r5.nle
  have T : Tr (fun t => t = y (2 * o + 2)) 126 h w h' (nw w h.1 (y (2 * o + 2))) := r3.mono (fun _ q => q) (by split <;> omega)
  have OK := vote_ok OK0 (j := 258 + 80 * o + p) (v := nI (mv tm rdp)) (m := mv tm rdp) (by omega) rfl (by have := @mv_lt tm rdp; omega)
  refine ⟨h', _, _, _, r2, T.mono (fun t ht => ⟨_, ht⟩) (Nat.le_refl _), by have := r3.1; omega, A0.map (nn' := n') (es' := es') Y T OK.1 OK.2.1 OK.2.2.1 (fun j hj => l_upd_ne (by omega)) (fun k hk hko q hq => l_upd_ne (by omega)) (fun _ => ⟨r5, ?_, ?_⟩) (fun j j1 j2 => by rw [l_upd_ne (by omega)]; exact a12 j j1 j2)⟩
  · intro q hq
    by_cases hqp : q = p
    · subst hqp
      obtain ⟨e, e1, e2⟩ := r6.at
      exact Or.inr ⟨e, rdp, tm, e1, by rw [e2]; exact iv.keep T (fun e => y0 e.symm) (ncl (by decide)), ht, l_upd_eq⟩
    · rw [l_upd_ne (by omega), r6.ne hqp]
      rcases b7.1 q hq with c1 | ⟨e2, rd2, tm2, c1, c2, c3⟩
      · exact Or.inl c1
      · exact Or.inr ⟨e2, rd2, tm2, c1, c2.keep T (fun e => y0 e.symm) (ncl (by decide)), c3⟩
  · intro e he
    rw [OK.2.1, OK.2.2.1]
    rcases r6.hs e he with q | ⟨e0, q1, q2⟩
    · rw [q]; exact ⟨hp, hp1, hp2⟩
    · rw [← q2]; exact b7.2 e0 q1
theorem c_fires {c s tm : Nat} {p : Prop} {rd9 : Int32} (A : StX G.1 h w y st R nl mt cl se bu rd gr cb ru mp sp nn es) (Y : TG y) (hb : G.1 ≤ h.1) (hc : c < cN R) (hs : s < sN R) (ht : R 90 = nI tm) (htm : tm ≤ 9000) (hr : rd9 = bZ p) (hN : 400 < N) :
    ∃ h' w' nn' es', sX3_fires G N (some st) (nI c) (nI s) rd9 h = some (.inl (qSeen R c), h') ∧ Tr (SY y) 1300 h w h' w' ∧ G.1 ≤ h'.1 ∧ StX G.1 h' w' y st (fShow R (qSeen R c) c s (voteMade R p) (cN R)) nl mt cl se bu rd gr cb ru mp sp nn' es' := by
  classical
  subst hr
  have A0 := A
  obtain ⟨a1, a2, a3, a6, a7, a8, a9, a10, H, a12⟩ := A
  have OK0 := H
  obtain ⟨h6, h7, h8, h9, l6, l7, l8, l9, hv⟩ := H
  have yF : ∀ i, ¬ (fun _ => False) (y i) ∧ y i ≠ 1 := fun i => ⟨id, by have := Y.2 i; omega⟩
  obtain ⟨g1, hg1⟩ : ∃ g, g = hnw h (.inr (10, [.int (nI c), .int (nI s)])) 2 := ⟨_, rfl⟩
  have T1 : Tr (fun _ => False) 1 h w g1 (nw w h.1 0) := by rw [hg1]; exact Tr.new (by omega)
  have X1 := A0.keep T1 id id yF
  have k1 : ImC g1 (nw w h.1 0) h.1 (.inr (10, [.int (nI c), .int (nI s)])) := by rw [hg1]; exact ImC.new
  have hb1 : G.1 ≤ g1.1 := by rw [hg1, hnw_1]; omega
  obtain ⟨g2, hg2⟩ : ∃ g, g = hnw g1 (.inr (17, [.int (bZ p), .int (R 90)])) 2 := ⟨_, rfl⟩
  obtain ⟨w2, hw2⟩ : ∃ w2, w2 = nw (nw w h.1 0) g1.1 0 := ⟨_, rfl⟩
  have T2 : Tr (fun _ => False) 1 g1 (nw w h.1 0) g2 w2 := by rw [hg2, hw2]; exact Tr.new (by omega)
  have X2 := X1.keep T2 id id yF
  have k2 := k1.keep T2 id (ncl (by decide))
  have v2 : ImC g2 w2 g1.1 (.inr (17, [.int (bZ p), .int (nI tm)])) := by rw [← ht, hg2, hw2]; exact ImC.new
  have hb2 : G.1 ≤ g2.1 := by rw [hg2, hnw_1]; omega
  have T12 : Tr (SY y) 2 h w g2 w2 := (Tr.trans T1 T2 id).mono (fun _ q => q.elim) (by omega)
  have kk : KeyAt g2 true h.1 (8 * c + s) := by
    unfold KeyAt
    rw [if_pos rfl, show (8 * c + s) / 8 = c by omega, show (8 * c + s) % 8 = s by omega]
    exact k2.2.2
  obtain ⟨x, hh, ⟨z1, w3, nn3, es3, X3, T3, hb3, K3, i3, v3⟩, self, e3⟩ := lp_r (B := bX3_fires_35 G N (some st) (qSeen R c) (some h.1) (some g1.1)) (N := N) (n := cN R) (fun o x hh => x = nI o ∧ ∃ w3 nn3 es3, StX G.1 hh w3 y st (fShow R (qSeen R c) c s (voteMade R p) o) nl mt cl se bu rd gr cb ru mp sp nn3 es3 ∧ Tr (SY y) (126 * o) g2 w2 hh w3 ∧ G.1 ≤ hh.1 ∧ KeyAt hh true h.1 (8 * c + s) ∧ Im hh w3 h.1 ∧ ImC hh w3 g1.1 (.inr (17, [.int (bZ p), .int (nI tm)]))) (x0 := 0) (h0 := g2) (by omega) ⟨rfl, w2, nn, es, X2, Tr.refl, hb2, kk, k2.im, v2⟩ (fun o x hh ho I self => by
    obtain ⟨z1, w3, nn3, es3, X3, T3, hb3, K3, i3, v3⟩ := I
    have Q := X3.q
    have OK := fShow_ok OK0 (set := qSeen R c) (c := c) (s := s) (n := o) (v := voteMade R p) (voteMade_nI ht) (by have := @mv_lt tm p; omega)
    unfold bX3_fires_35
    rw [z1, st_bV Q.1, c_size Q.1 Q.2.1, l_bnd, OK.2.1, if_neg (fun q => absurd ((nI_leI (by omega) (by omega)).mp q) (by omega)), c_has, l_bnd, l_J]
    by_cases hB : hasB (qSeen R c) (nI o)
    · obtain ⟨h4, nn4, es4, r, p1, p2, p3, p4⟩ := c_put (N := N) (o := o) (p := 8 * c + s) X3 Y hb3 (by rw [OK.2.1]; exact ho) (by omega) (by rw [OK.2.1]; omega) (by rw [OK.2.2.1]; omega) K3 i3 v3 htm hN
      have eS : upd (fShow R (qSeen R c) c s (voteMade R p) o) (258 + 80 * o + (8 * c + s)) (nI (mv tm p)) = fShow R (qSeen R c) c s (voteMade R p) (o + 1) := by
        show _ = @ite Row (hasB (qSeen R c) (nI o)) (Classical.propDecidable _) _ _
        rw [if_pos hB, voteMade_nI ht, show 258 + 80 * o + (8 * c + s) = 258 + 80 * o + 8 * c + s by omega]
      rw [eS] at p4
      refine ⟨nI (o + 1), h4, ⟨rfl, _, nn4, es4, p4, (T3.trans p2 (Y.sy (by omega))).mono (fun _ q => q) (by omega), p3, keyAt_keep K3 i3 p2 (Y.sy (by omega)), i3.keep p2, v3.keep p2 (Y.sy (by omega)) (ncl (by decide))⟩, ?_⟩
      rw [if_neg (fun q => bZ_0.mp q hB), st_bV Q.1, c_cabin Q.1 Q.2.1 (by rw [OK.2.1]; exact ho), l_bnd, l_Fr (Q.2.1.2 o (by rw [OK.2.1]; exact ho)) rfl, m_bV (X3.2.2.2.2.2.2.2.1 o (by rw [OK.2.1]; exact ho)).2.2.2.1.lhm, p1, l_bnd, n_1, nI_add]
    · have eS : fShow R (qSeen R c) c s (voteMade R p) o = fShow R (qSeen R c) c s (voteMade R p) (o + 1) := by
        show _ = @ite Row (hasB (qSeen R c) (nI o)) (Classical.propDecidable _) _ _
        rw [if_neg hB]
      refine ⟨nI (o + 1), hh, ⟨rfl, w3, nn3, es3, by rw [← eS]; exact X3, T3.mono (fun _ q => q) (by omega), hb3, K3, i3, v3⟩, ?_⟩
      rw [if_pos (bZ_0.mpr hB), n_1, nI_add])
  have Q := X3.q
  have OK := fShow_ok OK0 (set := qSeen R c) (c := c) (s := s) (n := cN R) (v := voteMade R p) (voteMade_nI ht) (by have := @mv_lt tm p; omega)
  refine ⟨hh, w3, nn3, es3, ?_, (T12.trans T3 (Y.sy (by omega))).mono (fun _ q => q) (by omega), hb3, X3⟩
  have Q0 := A0.q
  have S2 : StC (hnw g1 (.inr (17, [.int 0, .int 0])) 2) st R mt cl se bu rd gr := by
    have h1 := X1.q.1
    unfold StC at h1 ⊢
    rw [hnw_ne (by have := (X1.2.1).2.1; omega)]
    exact h1
  unfold sX3_fires
  rw [st_bV Q0.1, c_seers Q0 hc (by omega), l_bnd, c_newKey hb, ← hg1]
  show (gFi (hnw g1 (.inr (17, [.int 0, .int 0])) 2) (some st) 16 4 fun v9 => bI (some g1.1) (fun q30 => sX17_init G N (some q30) (bZ p) v9 (hnw g1 (.inr (17, [.int 0, .int 0])) 2)) fun v10 h11 => gLp (bX3_fires_35 G N (some st) (qSeen R c) (some h.1) (some g1.1)) N 0 h11) = _
  rw [l_Fi S2 rfl, c_newVote hb1, ← hg2, e3]
  unfold bX3_fires_35
  rw [z1, st_bV Q.1, c_size Q.1 Q.2.1, l_bnd, OK.2.1, if_pos ((nI_leI (by omega) (by omega)).mpr (Nat.le_refl _))]
end K1
