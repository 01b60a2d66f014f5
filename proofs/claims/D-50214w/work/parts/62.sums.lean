/-! a state: sums laid, what rules -/
set_option maxRecDepth 100000
set_option maxHeartbeats 2000000
theorem l_Si {α : Type} {G : GG} {h : Hp} {a t n i : Nat} {f : Nat → Int32} {v : Int32} {kont : Hp → Out α} (e : h.2.2 a = some (.inl (t, n, .inl f))) (hb : G.1 ≤ a) (hi : i < n) (hn : n < 2 ^ 31) : gSi G h (some a) t (nI i) v kont = kont (hup h a (.inl (t, n, .inl (upd f i v)))) := by
  unfold gSi; simp only [e]
  rw [if_pos ⟨trivial, hb, nI_in hi hn⟩, nI_clamp (by omega)]
theorem sm_0 {n : Nat} {f : Nat → Int32} (h : ∀ k, k < n → f k = nI 0) : sm n f = nI 0 := by
  induction n with
  | zero => rfl
  | succ n ih =>
    rw [sm_succ, ih (fun k hk => h k (by omega)), h n (by omega)]
    rfl
theorem mv_pos {t : Nat} {p : Prop} : 0 < mv t p := by unfold mv; omega
theorem mv_par {t : Nat} {p : Prop} : mv t p % 2 = 0 ↔ p := by
  classical
  unfold mv
  by_cases h : p
  · rw [if_pos h]; exact ⟨fun _ => h, fun _ => by omega⟩
  · rw [if_neg h]; exact ⟨fun q => by omega, fun q => absurd q h⟩
theorem mv_time {t : Nat} {p : Prop} : (mv t p - 1) / 2 = t := by
  classical
  unfold mv
  by_cases h : p
  · rw [if_pos h]; omega
  · rw [if_neg h]; omega
section D1
variable {α : Type} {G : GG} {N : Nat} {nl : Nat → List Nat} {h : Hp} {w y : Nat → Nat} {st : Nat} {R : Row} {mt cl se bu rd gr : Nat} {cb ru mp sp nn : Nat → Nat} {es : Nat → List En}
theorem vo_of {j n : Nat} (e : R j = nI n) (hn : n < 2 ^ 31) : vo R j = n := by unfold vo; rw [e]; exact nI_clamp hn
/-- what the sums are; all else is as it was -/
def LayX (h : Hp) (rd gr : Nat) (f g : Nat → Int32) (hh : Hp) : Prop := hh.1 = h.1 ∧ hh.2.1 = h.2.1 ∧ hh.2.2 rd = some (.inl (0, 8, .inl f)) ∧ hh.2.2 gr = some (.inl (0, 8, .inl g)) ∧ ∀ q, q ≠ rd → q ≠ gr → hh.2.2 q = h.2.2 q
theorem LayX.tr {f g : Nat → Int32} {hh : Hp} (I : LayX h rd gr f g hh) (A : SumO G.1 h w rd gr) : Tr (fun _ => False) 0 h w hh w := by
  obtain ⟨i1, i2, i3, i4, i5⟩ := I
  obtain ⟨a1, a2, a3, ⟨f0, a4⟩, ⟨g0, a5⟩⟩ := A
  refine ⟨by omega, by omega, by omega, fun _ _ => rfl, fun q _ _ => ?_⟩
  by_cases q1 : q = rd
  · subst q1; exact Or.inr (Or.inl ⟨a1.2.2, f0, f, a4, i3⟩)
  · by_cases q2 : q = gr
    · subst q2; exact Or.inr (Or.inl ⟨a2.2.2, g0, g, a5, i4⟩)
    · exact Or.inl (i5 q q1 q2)
theorem LayX.red {f g : Nat → Int32} {hh : Hp} {s : Nat} {v : Int32} (I : LayX h rd gr f g hh) (A : SumO G.1 h w rd gr) (hs : s < 8) : ∃ h', LayX h rd gr (upd f s v) g h' ∧ ∀ {β : Type} (k : Hp → Out β), gSi G hh (some rd) 0 (nI s) v k = k h' := by
  obtain ⟨i1, i2, i3, i4, i5⟩ := I
  exact ⟨hup hh rd (.inl (0, 8, .inl (upd f s v))), ⟨i1, i2, hup_at, by rw [hup_ne (Ne.symm A.2.2.1)]; exact i4, fun q q1 q2 => by rw [hup_ne q1]; exact i5 q q1 q2⟩, fun k => l_Si i3 A.1.1 hs (by omega)⟩
theorem LayX.green {f g : Nat → Int32} {hh : Hp} {s : Nat} {v : Int32} (I : LayX h rd gr f g hh) (A : SumO G.1 h w rd gr) (hs : s < 8) : ∃ h', LayX h rd gr f (upd g s v) h' ∧ ∀ {β : Type} (k : Hp → Out β), gSi G hh (some gr) 0 (nI s) v k = k h' := by
  obtain ⟨i1, i2, i3, i4, i5⟩ := I
  exact ⟨hup hh gr (.inl (0, 8, .inl (upd g s v))), ⟨i1, i2, by rw [hup_ne A.2.2.1]; exact i3, hup_at, fun q q1 q2 => by rw [hup_ne q2]; exact i5 q q1 q2⟩, fun k => l_Si i4 A.2.1.1 hs (by omega)⟩
theorem l_Ckn {cs : List Nat} {kont : Out α} : gCk h none cs kont = kont := rfl
theorem c_laySums {o : Nat} (A : StX G.1 h w y st R nl mt cl se bu rd gr cb ru mp sp nn es) (hy : ∀ i, y i ≠ 1) (ho : o < cN R) (hN : 400 < N) : ∃ hh f g, sX3_laySums G N (some st) (nI o) h = some (.inl (), hh) ∧ LayX h rd gr f g hh ∧ ∀ s, s < sN R → f s = qSum R o s True ∧ g s = qSum R o s False := by
  classical
  have A' := A
  obtain ⟨a1, a2, a3, a6, S7, a8, a9, a10, H, a12⟩ := A
  obtain ⟨h6, h7, h8, h9, l6, l7, l8, l9, hv⟩ := H
  have at' : ∀ {f g : Nat → Int32} {hh : Hp}, LayX h rd gr f g hh → StX G.1 hh w y st R nl mt cl se bu rd gr cb ru mp sp nn es := fun I => A'.keep (I.tr S7) id id (fun i => ⟨id, hy i⟩)
  obtain ⟨o1, o2, o3, ⟨f0, o4⟩, ⟨g0, o5⟩⟩ := id S7
  unfold sX3_laySums
  rw [l_J]
  -- all zero
  obtain ⟨x, hh, ⟨e1, f, g, I, e2⟩, self, e3⟩ := lp_r (B := bX3_laySums_2 G N (some st) (fun (x1 : Unit) (h2 : Hp) =>
  bV h2 (some st) 16 (fun q48 => sX3_cabin G N (some q48) (nI o) h2) fun v4 h5 =>
  gFr h5 v4 7 8 fun v6 =>
  gLp (bX3_laySums_41 G N (some st) v6) N (0) h5)) (N := N) (n := sN R) (fun j x hh => x = nI j ∧ ∃ f g, LayX h rd gr f g hh ∧ ∀ s, s < j → f s = nI 0 ∧ g s = nI 0) (x0 := 0) (h0 := h) (by omega) ⟨rfl, f0, g0, ⟨rfl, rfl, o4, o5, fun _ _ _ => rfl⟩, fun s hs => by omega⟩ (fun j x hh hj I self => by
    obtain ⟨e1, f, g, I, e2⟩ := I
    obtain ⟨h2, I2, k2⟩ := I.red (v := 0) S7 (show j < 8 by omega)
    obtain ⟨h3, I3, k3⟩ := I2.green (v := 0) S7 (show j < 8 by omega)
    have Q := (at' I).q
    have Q2 := (at' I2).q
    refine ⟨nI (j + 1), h3, ⟨rfl, _, _, I3, fun s hs => ?_⟩, ?_⟩
    · rw [l_upd, l_upd]
      by_cases hq : s = j
      · rw [if_pos hq, if_pos hq]; exact ⟨rfl, rfl⟩
      · rw [if_neg hq, if_neg hq]; exact e2 s (by omega)
    · unfold bX3_laySums_2
      rw [e1, st_bV Q.1, c_slopes Q.1 Q.2.2.2.2.2.1, l_bnd, if_neg (fun q => absurd ((nI_leI (by omega) (by omega)).mp q) (by omega)), l_Fr Q.1 rfl, k2, l_Fr Q2.1 rfl, k3, n_1, nI_add])
  have Q := (at' I).q
  rw [e3]
  unfold bX3_laySums_2
  rw [e1, st_bV Q.1, c_slopes Q.1 Q.2.2.2.2.2.1, l_bnd, if_pos ((nI_leI (by omega) (by omega)).mpr (Nat.le_refl _))]
  dsimp only
  rw [st_bV Q.1, c_cabin Q.1 Q.2.1 ho, l_bnd, l_Fr (Q.2.1.2 o ho) rfl]
  -- the votes
  obtain ⟨b1, b2, b3, bM, bV1, bV2⟩ := a10 o ho
  have vote : ∀ c s, c < 10 → s < 8 → (look (es o) (8 * c + s) = none ∧ R (258 + 80 * o + 8 * c + s) = nI 0) ∨ ∃ (e : En) (rd : Prop) (tm : Nat), look (es o) (8 * c + s) = some e ∧ ImC h w e.2.2.2 (.inr (17, [.int (bZ rd), .int (nI tm)])) ∧ tm ≤ 9000 ∧ R (258 + 80 * o + 8 * c + s) = nI (mv tm rd) := fun c s hc hs => by
    have := bV1 (8 * c + s) (by omega)
    rw [show 258 + 80 * o + (8 * c + s) = 258 + 80 * o + 8 * c + s by omega] at this
    exact this
  have none0 : ∀ c s p, R (258 + 80 * o + 8 * c + s) = nI 0 → pz (isVote R (258 + 80 * o + 8 * c + s) p) (qWeight R c s) = nI 0 := fun c s p e => by
    refine pz_f (fun q => ?_)
    have := q.1
    rw [vo_of e (by omega)] at this
    omega
  have some1 : ∀ c s p rd tm, R (258 + 80 * o + 8 * c + s) = nI (mv tm rd) → tm ≤ 9000 → (isVote R (258 + 80 * o + 8 * c + s) p ↔ (rd ↔ p)) := fun c s p rd tm e ht => by
    unfold isVote
    rw [vo_of e (by have := @mv_lt tm rd; omega), mv_par]
    exact ⟨fun q => q.2, fun q => ⟨mv_pos, q⟩⟩
  by_cases hes : (es o).length = 0
  · have hes2 := List.eq_nil_of_length_eq_zero hes
    have all0 : ∀ s p, s < 8 → qSum R o s p = nI 0 := fun s p hs => sm_0 (fun c hc => by
      rcases vote c s (by omega) hs with q | ⟨e, rd, tm, q, -⟩
      · exact none0 c s p q.2
      · rw [hes2] at q; cases q)
    refine ⟨hh, f, g, ?_, I, fun s hs => ?_⟩
    · obtain ⟨M', hM'⟩ : ∃ M', N = M' + 1 := ⟨N - 1, by omega⟩
      rw [hM']
      show bX3_laySums_41 G (M' + 1) _ _ _ _ _ = _
      rw [← hM']
      unfold bX3_laySums_41
      rw [st_bV Q.1, c_size Q.1 Q.2.1, l_bnd]
      by_cases hc : cN R ≤ 0
      · omega
      · have bM2 := ((at' I).2.2.2.2.2.2.2.1 o ho).2.2.2.1
        rw [if_neg (by rw [n_0]; exact fun q => hc ((nI_leI (by omega) (by omega)).mp q)), m_bV bM2.lhm, m_isEmpty bM2.lhm (by omega), l_bnd, if_neg]
        rw [bZ_t hes]
        decide
    · rw [all0 s True (by omega), all0 s False (by omega)]
      exact e2 s hs
  · have hlen : (es o).length ≤ 128 := by
      obtain ⟨tab, mc, th, lf, ve, vk, vv, kk, X⟩ := bM
      exact X.len
    obtain ⟨x, hh, ⟨e1, f, g, I, e2⟩, self, e3⟩ := lp_r (B := bX3_laySums_41 G N (some st) (some (mp o))) (N := N) (n := cN R) (fun c x hh => x = nI c ∧ ∃ f g, LayX h rd gr f g hh ∧ ∀ s, s < sN R → f s = sm c (fun c => pz (isVote R (258 + 80 * o + 8 * c + s) True) (qWeight R c s)) ∧ g s = sm c (fun c => pz (isVote R (258 + 80 * o + 8 * c + s) False) (qWeight R c s))) (x0 := 0) (h0 := hh) (by omega) ⟨rfl, f, g, I, e2⟩ (fun c x hh hc I self => by
      obtain ⟨e1, f, g, I, e2⟩ := I
      have Q := (at' I).q
      have bM2 := ((at' I).2.2.2.2.2.2.2.1 o ho).2.2.2.1
      -- over the slopes
      obtain ⟨x', h2, ⟨e1', f', g', I', e2'⟩, self', e3'⟩ := lp_r (B := bX3_laySums_61 G N (some st) (some (mp o)) (nI c) (fun (x14 : Unit) (h15 : Hp) => self (nI c + 1) h15)) (N := N) (n := sN R) (fun j x hh => x = nI j ∧ ∃ f g, LayX h rd gr f g hh ∧ ∀ s, s < sN R → f s = sm (if s < j then c + 1 else c) (fun c => pz (isVote R (258 + 80 * o + 8 * c + s) True) (qWeight R c s)) ∧ g s = sm (if s < j then c + 1 else c) (fun c => pz (isVote R (258 + 80 * o + 8 * c + s) False) (qWeight R c s))) (x0 := 0) (h0 := hh) (by omega) ⟨rfl, f, g, I, fun s hs => by rw [if_neg (by omega)]; exact e2 s hs⟩ (fun j x hh hj I self2 => by
        obtain ⟨e1, f, g, I, e2⟩ := I
        have X := at' I
        have Q := X.q
        have bM2 := (X.2.2.2.2.2.2.2.1 o ho).2.2.2.1
        obtain ⟨kk, k1, k2, k3, k4⟩ := X.2.2.2.2.2.1.key (G := G) (N := N) (show c < 10 by omega) (show j < 8 by omega)
        have other : ∀ s p, s < sN R → s ≠ j → sm (if s < j + 1 then c + 1 else c) (fun c => pz (isVote R (258 + 80 * o + 8 * c + s) p) (qWeight R c s)) = sm (if s < j then c + 1 else c) (fun c => pz (isVote R (258 + 80 * o + 8 * c + s) p) (qWeight R c s)) := fun s p hs hne => by
          by_cases hq : s < j
          · rw [if_pos hq, if_pos (by omega)]
          · rw [if_neg hq, if_neg (by omega)]
        have this0 : ∀ p, pz (isVote R (258 + 80 * o + 8 * c + j) p) (qWeight R c j) = nI 0 → sm (if j < j + 1 then c + 1 else c) (fun c => pz (isVote R (258 + 80 * o + 8 * c + j) p) (qWeight R c j)) = sm (if j < j then c + 1 else c) (fun c => pz (isVote R (258 + 80 * o + 8 * c + j) p) (qWeight R c j)) := fun p e => by
          rw [if_pos (by omega), if_neg (by omega), sm_succ, e]
          exact Int32.add_zero _
        have this1 : ∀ p, pz (isVote R (258 + 80 * o + 8 * c + j) p) (qWeight R c j) = qWeight R c j → sm (if j < j + 1 then c + 1 else c) (fun c => pz (isVote R (258 + 80 * o + 8 * c + j) p) (qWeight R c j)) = sm (if j < j then c + 1 else c) (fun c => pz (isVote R (258 + 80 * o + 8 * c + j) p) (qWeight R c j)) + qWeight R c j := fun p e => by
          rw [if_pos (by omega), if_neg (by omega), sm_succ, e]
        have pre : bX3_laySums_61 G N (some st) (some (mp o)) (nI c) (fun (x14 : Unit) (h15 : Hp) => self (nI c + 1) h15) self2 x hh = gCk hh ((look (es o) (8 * c + j)).map (fun e => e.2.2.2)) [17] (gJ (fun (x27 : Unit) (h28 : Hp) =>
  self2 (nI j + (1 : Int32)) h28) fun j29 =>
  if (look (es o) (8 * c + j)).map (fun e => e.2.2.2) = none then (j29 () hh)
  else gFi hh ((look (es o) (8 * c + j)).map (fun e => e.2.2.2)) 17 0 fun v30 =>
  if v30 = 0 then (gFr hh (some st) 16 13 fun v31 =>
  gAi hh v31 0 (nI j) fun v32 =>
  bV hh (some st) 16 (fun q36 => sX3_weight G N (some q36) (nI c) (nI j) hh) fun v33 h34 =>
  gSi G h34 v31 0 (nI j) (v32 + v33) fun h35 =>
  j29 () h35)
  else gFr hh (some st) 16 12 fun v37 =>
  gAi hh v37 0 (nI j) fun v38 =>
  bV hh (some st) 16 (fun q42 => sX3_weight G N (some q42) (nI c) (nI j) hh) fun v39 h40 =>
  gSi G h40 v37 0 (nI j) (v38 + v39) fun h41 =>
  j29 () h41) := by
          unfold bX3_laySums_61
          rw [e1, st_bV Q.1, c_slopes Q.1 Q.2.2.2.2.2.1, l_bnd, if_neg (fun q => absurd ((nI_leI (by omega) (by omega)).mp q) (by omega)), l_Fr Q.1 rfl, k4, k3, l_bnd, m_bV bM2.lhm, m_get bM2.lhm (by omega) k2 (by omega), l_bnd]
        rcases vote c j (by omega) (by omega) with ⟨q1, q2⟩ | ⟨e, rdp, tm, q1, q2, q3, q4⟩
        · refine ⟨nI (j + 1), hh, ⟨rfl, f, g, I, fun s hs => ?_⟩, ?_⟩
          · by_cases hq : s = j
            · subst hq
              rw [this0 True (none0 c s True q2), this0 False (none0 c s False q2)]
              exact e2 s hs
            · rw [other s True hs hq, other s False hs hq]
              exact e2 s hs
          · rw [pre, q1]
            refine l_Ckn.trans ?_
            rw [l_J, if_pos (show Option.map (fun e : En => e.2.2.2) none = none from rfl), n_1, nI_add]
        · have q2' : hh.2.2 e.2.2.2 = some (.inr (17, [.int (bZ rdp), .int (nI tm)])) := (q2.keep (I.tr S7) id (ncl (by decide))).2.2
          by_cases hr : rdp
          · obtain ⟨h3, I3, k5⟩ := I.red (v := f j + qWeight R c j) S7 (show j < 8 by omega)
            refine ⟨nI (j + 1), h3, ⟨rfl, _, _, I3, fun s hs => ?_⟩, ?_⟩
            · by_cases hq : s = j
              · subst hq
                rw [l_upd, if_pos rfl, this1 True (pz_t ((some1 c s True rdp tm q4 q3).mpr ⟨fun _ => trivial, fun _ => hr⟩)), this0 False (pz_f (fun q => ((some1 c s False rdp tm q4 q3).mp q).mp hr)), (e2 s hs).1]
                exact ⟨rfl, (e2 s hs).2⟩
              · rw [l_upd, if_neg hq, other s True hs hq, other s False hs hq]
                exact e2 s hs
            · rw [pre, q1]
              refine (l_Ck q2' (show 17 ∈ [17] by decide)).trans ?_
              rw [l_J, if_neg (by simp)]
              refine (l_Fi q2' rfl).trans ?_
              rw [if_neg (by rw [bZ_t hr]; decide), l_Fr Q.1 rfl, l_Ai I.2.2.1 (show j < 8 by omega) (by omega), st_bV Q.1, c_weight Q (by omega) hj, l_bnd, k5, n_1, nI_add]
          · obtain ⟨h3, I3, k5⟩ := I.green (v := g j + qWeight R c j) S7 (show j < 8 by omega)
            refine ⟨nI (j + 1), h3, ⟨rfl, _, _, I3, fun s hs => ?_⟩, ?_⟩
            · by_cases hq : s = j
              · subst hq
                rw [l_upd, if_pos rfl, this1 False (pz_t ((some1 c s False rdp tm q4 q3).mpr ⟨fun q => hr q, fun q => q.elim⟩)), this0 True (pz_f (fun q => hr (((some1 c s True rdp tm q4 q3).mp q).mpr trivial))), (e2 s hs).2]
                exact ⟨(e2 s hs).1, rfl⟩
              · rw [l_upd, if_neg hq, other s True hs hq, other s False hs hq]
                exact e2 s hs
            · rw [pre, q1]
              refine (l_Ck q2' (show 17 ∈ [17] by decide)).trans ?_
              rw [l_J, if_neg (by simp)]
              refine (l_Fi q2' rfl).trans ?_
              rw [if_pos (by rw [bZ_f hr]), l_Fr Q.1 rfl, l_Ai I.2.2.2.1 (show j < 8 by omega) (by omega), st_bV Q.1, c_weight Q (by omega) hj, l_bnd, k5, n_1, nI_add])
      have Q' := (at' I').q
      refine ⟨nI (c + 1), h2, ⟨rfl, f', g', I', fun s hs => ?_⟩, ?_⟩
      · have := e2' s hs
        rw [if_pos hs] at this
        exact this
      · unfold bX3_laySums_41
        rw [e1, st_bV Q.1, c_size Q.1 Q.2.1, l_bnd, if_neg (fun q => absurd ((nI_leI (by omega) (by omega)).mp q) (by omega)), m_bV bM2.lhm, m_isEmpty bM2.lhm (by omega), l_bnd, if_pos (by rw [bZ_f hes]), l_J, e3']
        unfold bX3_laySums_61
        rw [e1', st_bV Q'.1, c_slopes Q'.1 Q'.2.2.2.2.2.1, l_bnd, if_pos ((nI_leI (by omega) (by omega)).mpr (Nat.le_refl _)), n_1, nI_add])
    have Q := (at' I).q
    refine ⟨hh, f, g, ?_, I, e2⟩
    rw [e3]
    unfold bX3_laySums_41
    rw [e1, st_bV Q.1, c_size Q.1 Q.2.1, l_bnd, if_pos ((nI_leI (by omega) (by omega)).mpr (Nat.le_refl _))]
theorem c_rules {o s : Nat} {f g : Nat → Int32} (S1 : StC h st R mt cl se bu rd gr) (E : SetR h se R) (er : h.2.2 rd = some (.inl (0, 8, .inl f))) (eg : h.2.2 gr = some (.inl (0, 8, .inl g))) (hs : s < 8) (h1 : f s = qSum R o s True) (h2 : g s = qSum R o s False) : sX3_rules G N (some st) (nI s) h = some (.inl (qRule R o s), h) := by
  obtain ⟨fe, e1, e2⟩ := E
  unfold sX3_rules qRule
  rw [l_Fr S1 rfl, l_Ai er hs (by omega), l_J, h1]
  have low : (gFr h (some st) 16 13 fun v6 => gAi h v6 0 (nI s) fun v7 => if v7 ≤ 0 then (some (.inl (0), h) : Out Int32) else some (.inl (-1), h)) = some (.inl (if nI 0 < qSum R o s False then -nI 1 else nI 0), h) := by
    rw [l_Fr S1 rfl, l_Ai eg hs (by omega), h2]
    by_cases hq : qSum R o s False ≤ 0
    · rw [if_pos hq, if_neg (show ¬ nI 0 < qSum R o s False from Int32.not_lt.mpr hq)]; rfl
    · rw [if_neg hq, if_pos (show nI 0 < qSum R o s False from Int32.not_le.mp hq)]; rfl
  by_cases h3 : qSum R o s True ≤ 0
  · rw [if_pos h3, if_neg (fun q => absurd q.1 (Int32.not_lt.mpr h3))]
    exact low
  · rw [if_neg h3, l_Fr S1 rfl, l_Ai er hs (by omega), l_Fr S1 rfl, n_2, l_Ai e1 (by omega) (by omega), e2 2 (by omega), l_Fr S1 rfl, l_Ai er hs (by omega), l_Fr S1 rfl, l_Ai eg hs (by omega), h1, h2]
    by_cases h4 : 100 * qSum R o s True < R 2 * (qSum R o s True + qSum R o s False)
    · rw [if_pos h4, if_neg (fun q => absurd q.2 (Int32.not_le.mpr h4))]
      exact low
    · rw [if_neg h4, if_pos ⟨Int32.not_le.mp h3, Int32.not_lt.mp h4⟩]
      rfl
end D1
