/-! a state: a tick -/
set_option maxRecDepth 100000
set_option maxHeartbeats 2000000
/-- votes from cabin k on as in P, all else as in Q -/
def mixR (P Q : Row) (k : Nat) : Row := fun j => if 258 + 80 * k ≤ j ∧ j < 1058 then P j else Q j
theorem mix_lo {P Q : Row} {k j : Nat} (h : j < 258 + 80 * k) : mixR P Q k j = Q j := if_neg (by omega)
theorem mix_far {P Q : Row} {k j : Nat} (h : 1058 ≤ j) : mixR P Q k j = Q j := if_neg (by omega)
section J1
variable {S : Nat → Prop} {b c t o : Nat} {G : GG} {N : Nat} {nl : Nat → List Nat} {h h' : Hp} {w w' y : Nat → Nat} {st : Nat} {R R' : Row} {mt cl se bu rd gr : Nat} {cb ru mp sp nn : Nat → Nat} {es : Nat → List En}
theorem cN_eq (e : R' 6 = R 6) : cN R' = cN R := by unfold cN; rw [e]
theorem sN_eq (e : R' 7 = R 7) : sN R' = sN R := by unfold sN; rw [e]
theorem pz_eq {p q : Prop} {v w : Int32} (h : p ↔ q) (hv : v = w) : pz p v = pz q w := pz_c h hv
theorem qRule_eq {s : Nat} (hc : cN R ≤ 10) (hs : s < 8) (e : ∀ j, j < 258 + 80 * (o + 1) → R' j = R j) : qRule R' o s = qRule R o s := by
  have hN : cN R' = cN R := cN_eq (e 6 (by omega))
  have hs1 : ∀ p, qSum R' o s p = qSum R o s p := fun p => by
    unfold qSum
    rw [hN]
    refine sm_congr fun c hc' => pz_eq ?_ ?_
    · unfold isVote vo
      rw [e _ (by omega)]
    · unfold qWeight qFar
      rw [e _ (by omega), e _ (by omega), e _ (by omega), e _ (by omega), e _ (by omega)]
  unfold qRule
  rw [hs1, hs1, e 2 (by omega)]
theorem runThen_eq {s : Nat} (hc : cN R ≤ 10) (hs : s < 8) (ho : o < 10) (e : ∀ j, j < 258 + 80 * (o + 1) → R' j = R j) : runThen R' o s = runThen R o s := by
  unfold runThen
  rw [qRule_eq hc hs e, e (178 + 8 * o + s) (by omega)]
theorem fJudge_mix {P Q : Row} {k s : Nat} (hc : cN Q ≤ 10) (hs : s < 8) (ho : o < 10) (hk : o < k) : fJudge (mixR P Q k) o s = mixR P (fJudge Q o s) k := by
  classical
  have e : ∀ j, j < 258 + 80 * (o + 1) → mixR P Q k j = Q j := fun j hj => mix_lo (by omega)
  have er := runThen_eq hc hs ho e
  have ups : ∀ {i : Nat} {v : Int32} {Z : Row}, i < 258 → upd (mixR P Z k) i v = mixR P (upd Z i v) k := fun {i v Z} hi => funext fun j => by
    rw [l_upd]
    unfold mixR
    by_cases hj : j = i
    · rw [if_pos hj, if_neg (by omega), l_upd, if_pos hj]
    · rw [if_neg hj, l_upd, if_neg hj]
  unfold fJudge
  rw [er, e (138 + o) (by omega), e 3 (by omega), e 4 (by omega), e 92 (by omega), e 93 (by omega)]
  by_cases c1 : ¬ hasB (Q (138 + o)) (nI s) ∧ Q 3 ≤ runThen Q o s
  · rw [if_pos c1, if_pos c1, ups (by omega), ups (by omega), ups (by omega)]
  · rw [if_neg c1, if_neg c1]
    by_cases c2 : hasB (Q (138 + o)) (nI s) ∧ runThen Q o s ≤ - Q 4
    · rw [if_pos c2, if_pos c2, ups (by omega), ups (by omega), ups (by omega)]
    · rw [if_neg c2, if_neg c2, ups (by omega)]
theorem RunB.eq {u : Nat} (B : RunB u R) (e : ∀ j, 178 ≤ j → j < 258 → R' j = R j) : RunB u R' := fun j j1 j2 => by rw [e j j1 j2]; exact B j j1 j2
theorem HelB.eq (B : HelB R) (e : ∀ j, 138 ≤ j → j < 148 → R' j = R j) : HelB R' := fun k hk => by rw [e _ (by omega) (by omega)]; exact B k hk
theorem RunB.mono {u v : Nat} (B : RunB u R) (h : u ≤ v) : RunB v R := fun j j1 j2 => by have := B j j1 j2; omega
/-- a step that changes only the state's own cells -/
theorem StX.self (A : StX b h w y st R nl mt cl se bu rd gr cb ru mp sp nn es) (Y : TG y) (T : Tr (fun t => t = y 0) c h w h' w') (H' : ROK R') (c1 : cN R' = cN R) (c2 : sN R' = sN R) (e0 : ∀ j, (10 ≤ j ∧ j < 90) ∨ (6 ≤ j ∧ j < 10) ∨ 138 ≤ j → R' j = R j) (n1 : StC h' st R' mt cl se bu rd gr) (n2 : SetR h' se R') (n3 : BuR b h' w' (y 0) bu R') : StX b h' w' y st R' nl mt cl se bu rd gr cb ru mp sp nn es := by
  have A' := A
  obtain ⟨a1, a2, a3, a6, a7, a8, a9, a10, H, a12⟩ := A
  have OKs := H
  obtain ⟨h6, h7, h8, h9, l6, l7, l8, l9, hv⟩ := H
  have ny : ∀ k, k ≠ 0 → ¬ (y k = y 0) := fun k hk => Y.ne hk
  have n0 : ∀ k, k ≤ 3 → ¬ (k = y 0) := fun k hk q => by have := Y.2 0; omega
  have y1 : ∀ k, y k ≠ 1 := fun k => by have := Y.2 k; omega
  have row : ∀ k, k < cN R → CRow R R' k := fun k hk => ⟨fun i hi => e0 _ (by omega), e0 _ (by omega), e0 _ (by omega), e0 _ (by omega), e0 _ (by omega), fun s hs => e0 _ (by omega), fun p hp => e0 _ (by omega)⟩
  exact ⟨n1, a2.keep T, ⟨a3.1.keep T, n2⟩, n3, a7.keep T (n0 1 (by omega)), (a8.keep T (n0 0 (by omega))).row OKs (fun j hj => e0 j (by omega)), by rw [c1]; exact a9.keep T (n0 0 (by omega)), fun k hk => ((a10 k (by rw [← c1]; exact hk)).keep T (n0 0 (by omega)) (ny _ (by omega)) (y1 _) (ny _ (by omega))).row (row k (by rw [← c1]; exact hk)) c1 c2, H', fun j j1 j2 => by rw [c1] at j1; rw [e0 j (by omega)]; exact a12 j j1 j2⟩
theorem fFo_mix {F : Row} {m n : Nat} (hF : F = fForget R) (hlow : ∀ j, j < 258 → (j = 90 ∨ j = 1) → jO F m n j = R j) (hhi : ∀ j, 258 ≤ j → jO F m n j = F j) (hn : n < 10) : fFo (mixR R (jO F m n) n) n = mixR R (jO F m n) (n + 1) := by
  classical
  funext j
  have e90 : mixR R (jO F m n) n 90 = R 90 := by rw [mix_lo (by omega)]; exact hlow 90 (by omega) (Or.inl rfl)
  have e1 : mixR R (jO F m n) n 1 = R 1 := by rw [mix_lo (by omega)]; exact hlow 1 (by omega) (Or.inr rfl)
  unfold fFo
  by_cases hj : 258 + 80 * n ≤ j ∧ j < 258 + 80 * n + 80
  · have e2 : mixR R (jO F m n) n j = R j := if_pos (by omega)
    have eg := goes_eq e2 e90 e1
    have e3 : mixR R (jO F m n) (n + 1) j = fForget R j := by rw [mix_lo (by omega), hhi j (by omega), hF]
    rw [e3]
    unfold fForget
    by_cases hg : goes R j
    · rw [if_pos ⟨hj.1, hj.2, eg.mpr hg⟩, if_pos ⟨by omega, by omega, hg⟩]
    · rw [if_neg (fun q => hg (eg.mp q.2.2)), if_neg (fun q => hg q.2.2), e2]
  · rw [if_neg (fun q => hj ⟨q.1, q.2.1⟩)]
    unfold mixR
    by_cases h1 : 258 + 80 * n ≤ j ∧ j < 1058
    · rw [if_pos h1, if_pos (by omega)]
    · rw [if_neg h1, if_neg (by omega)]
theorem qSum_eq {s : Nat} {p : Prop} (hc : cN R ≤ 10) (hs : s < 8) (e : ∀ j, (j < 90 ∨ (158 ≤ j ∧ j < 168) ∨ (258 + 80 * o ≤ j ∧ j < 258 + 80 * o + 80)) → R' j = R j) : qSum R' o s p = qSum R o s p := by
  unfold qSum
  rw [cN_eq (e 6 (by omega))]
  refine sm_congr fun c hc' => pz_eq ?_ ?_
  · unfold isVote vo
    rw [e _ (by omega)]
  · unfold qWeight qFar
    rw [e _ (by omega), e _ (by omega), e _ (by omega), e _ (by omega), e _ (by omega)]
theorem jS_ne2 {n j : Nat} (hn : n ≤ 8) (ho : o < 10) (h1 : j < 90 ∨ (158 ≤ j ∧ j < 168) ∨ 258 ≤ j) : jS R o n j = R j := by
  induction n with
  | zero => rfl
  | succ n ih =>
    show fJudge (jS R o n) o n j = R j
    rw [fJudge_ne (by omega) (by omega) (by omega) (by omega)]
    exact ih (by omega)
/-- a state's own tags -/
def SY (y : Nat → Nat) (t : Nat) : Prop := ∃ i, t = y i
theorem TG.sy (Y : TG y) {k : Nat} (hk : k ≤ 3) : ¬ SY y k := fun ⟨i, e⟩ => by have := Y.2 i; omega
/-- only a state's own cells change, and sums -/
def OwnOnly (h : Hp) (w y : Nat → Nat) (h' : Hp) : Prop := Tr (SY y) 0 h w h' w
theorem OwnOnly.trans {h2 : Hp} (A : OwnOnly h w y h') (B : OwnOnly h' w y h2) (Y : TG y) : OwnOnly h w y h2 := (Tr.trans A B (Y.sy (by omega))).mono (fun _ h => h) (by omega)
theorem OwnOnly.refl : OwnOnly h w y h := Tr.refl
theorem OwnOnly.ex (h1 : h'.1 = h.1) (h2 : h'.2.1 = h.2.1) (h3 : ∀ q, q < h.1 → ¬ SY y (w q) → h'.2.2 q = h.2.2 q) : OwnOnly h w y h' := Tr.ex h1 h2 h3
theorem c_tick {u : Nat} (A : StX G.1 h w y st R nl mt cl se bu rd gr cb ru mp sp nn es) (Y : TG y) (B : RunB u R) (hu : u + 100 < 2 ^ 30) (B2 : HelB R) (hN : 400 < N) : ∃ h' es', sX3_tick G N (some st) h = some (.inl (), h') ∧ OwnOnly h w y h' ∧ StX G.1 h' w y st (fTick R) nl mt cl se bu rd gr cb ru mp sp nn es' ∧ RunB (u + 100) (fTick R) ∧ HelB (fTick R) := by
  classical
  have A0 := A
  obtain ⟨a1, a2, ⟨a3, fe, e1, e2⟩, a6, a7, a8, a9, a10, H, a12⟩ := A
  have OK0 := H
  obtain ⟨h6, h7, h8, h9, l6, l7, l8, l9, hv⟩ := H
  have y1 : ∀ i, y i ≠ 1 := fun i => by have := Y.2 i; omega
  obtain ⟨R1, hR1⟩ : ∃ R1, R1 = upd R 90 (R 90 + nI 1) := ⟨_, rfl⟩
  have r1 : ∀ j, j ≠ 90 → R1 j = R j := fun j hj => by rw [hR1]; exact l_upd_ne hj
  have OK1 : ROK R1 ∧ cN R1 = cN R ∧ sN R1 = sN R ∧ rN R1 = rN R ∧ fN R1 = fN R := by rw [hR1]; exact fTime_ok OK0
  have OKF := fForget_ok OK1.1
  -- time
  obtain ⟨g, hg⟩ : ∃ g, g = hup h st (.inr (16, ([.ref mt, .ref cl, .ref se, .ref bu, .int (R 90), .int (R 91), .int (R 92), .int (R 93), .int (R 94), .int (R 95), .int (R 96), .int (R 97), .ref rd, .ref gr].set 4 (.int (R 90 + 1))))) := ⟨_, rfl⟩
  have gst : ∀ q, q ≠ st → g.2.2 q = h.2.2 q := fun q hq => by rw [hg, hup_ne hq]
  have T1 : Tr (fun t => t = y 0) 0 h w g w := Tr.ex (by rw [hg]; rfl) (by rw [hg]; rfl) (fun q _ q2 => gst q (fun e => q2 (by rw [e]; exact a2.2.2)))
  have X1 : StX G.1 g w y st R1 nl mt cl se bu rd gr cb ru mp sp nn es := by
    refine A0.self Y T1 OK1.1 OK1.2.1 OK1.2.2.1 (fun j hj => r1 j (by omega)) ?_ ⟨fe, by rw [gst se (mc_ne e1 a1)]; exact e1, fun k hk => by rw [r1 k (by omega)]; exact e2 k hk⟩ ?_
    · unfold StC
      rw [r1 91 (by omega), r1 92 (by omega), r1 93 (by omega), r1 94 (by omega), r1 95 (by omega), r1 96 (by omega), r1 97 (by omega), hR1, l_upd_eq, hg]
      exact hup_at
    · obtain ⟨el, hd, i, fb, c1, c2, c3, c4, c5⟩ := a6
      have : BuR G.1 g w (y 0) bu R := ⟨el, hd, i, fb, c1.keep T1, by rw [gst bu (cl_ne c2 a1 (by decide))]; exact c2, c3.keep T1, by rw [gst el (mc_ne c4 a1)]; exact c4, c5.1, c5.2.1, c5.2.2.1, fun k hk => by
        obtain ⟨bl, d1, d2⟩ := c5.2.2.2 k hk
        exact ⟨bl, d1, d2.keep T1 (by have := Y.2 0; omega) (ncl (by decide))⟩⟩
      exact this.row (fun j j1 j2 j3 j4 => r1 j (by omega))
  have O1 : OwnOnly h w y g := T1.mono (fun t ht => ⟨0, ht⟩) (Nat.le_refl _)
  -- rows
  have jOk : ∀ n, n ≤ 10 → ROK (jO (fForget R1) (sN R) n) ∧ cN (jO (fForget R1) (sN R) n) = cN R ∧ sN (jO (fForget R1) (sN R) n) = sN R := fun n hn => by
    have := jO_ok OKF.1 hn l7
    exact ⟨this.1, this.2.1.trans (OKF.2.1.trans OK1.2.1), this.2.2.1.trans (OKF.2.2.1.trans OK1.2.2.1)⟩
  have jSk : ∀ n o, n ≤ 8 → o < 10 → ROK (jS (jO (fForget R1) (sN R) o) o n) ∧ cN (jS (jO (fForget R1) (sN R) o) o n) = cN R ∧ sN (jS (jO (fForget R1) (sN R) o) o n) = sN R := fun n o hn ho => by
    have h1 := jOk o (by omega)
    have := jS_ok h1.1 hn ho
    exact ⟨this.1, this.2.1.trans h1.2.1, this.2.2.1.trans h1.2.2⟩
  have hhi : ∀ n, n ≤ 10 → ∀ j, 258 ≤ j → jO (fForget R1) (sN R) n j = fForget R1 j := fun n hn j hj => jO_ne hn l7 (Or.inr hj) (by omega) (by omega)
  have hlow : ∀ n, n ≤ 10 → ∀ j, j < 258 → (j = 90 ∨ j = 1) → jO (fForget R1) (sN R) n j = R1 j := fun n hn j hj hq => by
    rw [jO_ne hn l7 (by omega) (by omega) (by omega), fForget_ne (by omega)]
  have B1 : RunB (u + 8 * 0) (mixR R1 (jO (fForget R1) (sN R) 0) 0) := B.eq (fun j j1 j2 => by
    rw [mix_lo (by omega)]
    show fForget R1 j = R j
    rw [fForget_ne (by omega), r1 j (by omega)])
  have C1 : HelB (mixR R1 (jO (fForget R1) (sN R) 0) 0) := B2.eq (fun j j1 j2 => by
    rw [mix_lo (by omega)]
    show fForget R1 j = R j
    rw [fForget_ne (by omega), r1 j (by omega)])
  have mix0 : mixR R1 (jO (fForget R1) (sN R) 0) 0 = R1 := funext fun j => by
    unfold mixR
    by_cases hj : 258 + 80 * 0 ≤ j ∧ j < 1058
    · rw [if_pos hj]
    · rw [if_neg hj]
      show fForget R1 j = R1 j
      by_cases h1 : j < 258
      · exact fForget_ne h1
      · unfold fForget
        rw [if_neg (fun q => by omega)]
  obtain ⟨x, hh, ⟨z1, es', X, OO, BB, CC⟩, self, e3⟩ := lp_r (B := bX3_tick_12 G N (some st)) (N := N) (n := cN R) (fun o x hh => x = nI o ∧ ∃ es', StX G.1 hh w y st (mixR R1 (jO (fForget R1) (sN R) o) o) nl mt cl se bu rd gr cb ru mp sp nn es' ∧ OwnOnly h w y hh ∧ RunB (u + 8 * o) (mixR R1 (jO (fForget R1) (sN R) o) o) ∧ HelB (mixR R1 (jO (fForget R1) (sN R) o) o)) (x0 := 0) (h0 := g) (by omega) ⟨rfl, es, by rw [mix0]; exact X1, O1, B1, C1⟩ (fun o x hh ho I self => by
    obtain ⟨z1, es', X, OO, BB, CC⟩ := I
    have ho10 : o < 10 := by omega
    have eC : cN (mixR R1 (jO (fForget R1) (sN R) o) o) = cN R := by rw [cN_eq (R := jO (fForget R1) (sN R) o) (mix_lo (by omega))]; exact (jOk o (by omega)).2.1
    have eC' : cN (mixR R1 (jO (fForget R1) (sN R) o) (o + 1)) = cN R := by rw [cN_eq (R := jO (fForget R1) (sN R) o) (mix_lo (by omega))]; exact (jOk o (by omega)).2.1
    have eS' : sN (mixR R1 (jO (fForget R1) (sN R) o) (o + 1)) = sN R := by rw [sN_eq (R := jO (fForget R1) (sN R) o) (mix_lo (by omega))]; exact (jOk o (by omega)).2.2
    have Q := X.q
    obtain ⟨h2, es2, f1, f2, f3, f4, X2⟩ := c_forgets (N := N) (o := o) X Y (by rw [eC]; exact ho) hN
    rw [fFo_mix rfl (hlow o (by omega)) (hhi o (by omega)) ho10] at X2
    obtain ⟨h3, ff, gg, l1, l2, l3⟩ := c_laySums (N := N) (o := o) X2 y1 (by rw [eC']; exact ho) hN
    rw [eS'] at l3
    have T3 := l2.tr X2.2.2.2.2.1
    have X3 := X2.keep T3 id id (fun i => ⟨id, y1 i⟩)
    have O2 : OwnOnly hh w y h2 := OwnOnly.ex f2 f3 (fun q q1 q3 => f4 q q1 (fun e => q3 ⟨_, e⟩))
    have O3 : OwnOnly h2 w y h3 := T3.mono (fun _ q => q.elim) (Nat.le_refl _)
    have bb : ∀ {Q' : Row} {v : Nat}, RunB v (mixR R1 Q' o) → RunB v (mixR R1 Q' (o + 1)) := fun B => B.eq (fun j j1 j2 => by rw [mix_lo (by omega), mix_lo (by omega)])
    have cc : ∀ {Q' : Row}, HelB (mixR R1 Q' o) → HelB (mixR R1 Q' (o + 1)) := fun B => B.eq (fun j j1 j2 => by rw [mix_lo (by omega), mix_lo (by omega)])
    -- the slopes
    obtain ⟨x', h4, ⟨z1', X4, O4, rd4, gr4, BB4, CC4⟩, self', e3'⟩ := lp_r (B := bX3_tick_36 G N (some st) (nI o) (fun (x14 : Unit) (h15 : Hp) => self (nI o + 1) h15)) (N := N) (n := sN R) (fun s x hh => x = nI s ∧ StX G.1 hh w y st (mixR R1 (jS (jO (fForget R1) (sN R) o) o s) (o + 1)) nl mt cl se bu rd gr cb ru mp sp nn (va_up es' o es2) ∧ OwnOnly h3 w y hh ∧ hh.2.2 rd = h3.2.2 rd ∧ hh.2.2 gr = h3.2.2 gr ∧ RunB (u + 8 * o + s) (mixR R1 (jS (jO (fForget R1) (sN R) o) o s) (o + 1)) ∧ HelB (mixR R1 (jS (jO (fForget R1) (sN R) o) o s) (o + 1))) (x0 := 0) (h0 := h3) (by omega) ⟨rfl, X3, OwnOnly.refl, rfl, rfl, bb BB, cc CC⟩ (fun s x hh hs I self2 => by
      obtain ⟨z1, X, OO, rdE, grE, BB, CC⟩ := I
      have Q := X.q
      have eCs : cN (mixR R1 (jS (jO (fForget R1) (sN R) o) o s) (o + 1)) = cN R := by rw [cN_eq (R := jS (jO (fForget R1) (sN R) o) o s) (mix_lo (by omega))]; exact (jSk s o (by omega) ho10).2.1
      have eSs : sN (mixR R1 (jS (jO (fForget R1) (sN R) o) o s) (o + 1)) = sN R := by rw [sN_eq (R := jS (jO (fForget R1) (sN R) o) o s) (mix_lo (by omega))]; exact (jSk s o (by omega) ho10).2.2
      have sumE : ∀ p, qSum (mixR R1 (jS (jO (fForget R1) (sN R) o) o s) (o + 1)) o s p = qSum (mixR R1 (jO (fForget R1) (sN R) o) (o + 1)) o s p := fun p => qSum_eq (by rw [eC']; exact l6) (by omega) (fun j hj => by
        by_cases hj2 : j < 258 + 80 * (o + 1)
        · rw [mix_lo hj2, mix_lo hj2]
          exact jS_ne2 (by omega) ho10 (by omega)
        · omega)
      obtain ⟨h5, d1, d2, d3, d4, X5⟩ := c_decides (N := N) (o := o) (s := s) X Y BB (by omega) CC (by rw [eCs]; exact ho) (by rw [eSs]; exact hs) (by rw [rdE]; exact l2.2.2.1) (by rw [grE]; exact l2.2.2.2.1) (by rw [sumE]; exact (l3 s hs).1) (by rw [sumE]; exact (l3 s hs).2)
      have eJ := fJudge_mix (P := R1) (Q := jS (jO (fForget R1) (sN R) o) o s) (k := o + 1) (s := s) (o := o) (by rw [(jSk s o (by omega) ho10).2.1]; exact l6) (by omega) ho10 (by omega)
      have SO := X.2.2.2.2.1
      refine ⟨nI (s + 1), h5, ⟨rfl, by rw [eJ] at X5; exact X5, OO.trans (OwnOnly.ex d2 d3 (fun q q1 q3 => d4 q q1 (fun e => e.elim (fun e => q3 ⟨_, e⟩) (fun e => q3 ⟨_, e⟩)))) Y, ?_, ?_, ?_, ?_⟩, ?_⟩
      · rw [d4 rd SO.1.2.1 (by rw [SO.1.2.2]; exact fun e => e.elim (fun e => y1 0 e.symm) (fun e => y1 _ e.symm)), rdE]
      · rw [d4 gr SO.2.1.2.1 (by rw [SO.2.1.2.2]; exact fun e => e.elim (fun e => y1 0 e.symm) (fun e => y1 _ e.symm)), grE]
      · have := fJudge_run (o := o) (s := s) (show u + 8 * o + s < 2 ^ 30 by omega) BB ho10 (by omega)
        rw [eJ] at this
        exact this
      · have := fJudge_hel (o := o) (s := s) CC ho10 (by omega)
        rw [eJ] at this
        exact this
      · unfold bX3_tick_36
        rw [z1, st_bV Q.1, c_slopes Q.1 Q.2.2.2.2.2.1, l_bnd, eSs, if_neg (fun q => absurd ((nI_leI (by omega) (by omega)).mp q) (by omega)), st_bV Q.1, c_cabin Q.1 Q.2.1 (by rw [eCs]; exact ho), l_bnd, st_bV Q.1, d1, l_bnd, n_1, nI_add])
    have Q2 := X2.q
    have Q4 := X4.q
    have eS4 : sN (mixR R1 (jS (jO (fForget R1) (sN R) o) o (sN R)) (o + 1)) = sN R := by rw [sN_eq (R := jS (jO (fForget R1) (sN R) o) o (sN R)) (mix_lo (by omega))]; exact (jSk (sN R) o l7 ho10).2.2
    refine ⟨nI (o + 1), h4, ⟨rfl, _, X4, ((OO.trans O2 Y).trans O3 Y).trans O4 Y, BB4.mono (by omega), CC4⟩, ?_⟩
    unfold bX3_tick_12
    rw [z1, st_bV Q.1, c_size Q.1 Q.2.1, l_bnd, eC, if_neg (fun q => absurd ((nI_leI (by omega) (by omega)).mp q) (by omega)), st_bV Q.1, c_cabin Q.1 Q.2.1 (by rw [eC]; exact ho), l_bnd, st_bV Q.1, f1, l_bnd, st_bV Q2.1, l1, l_bnd, l_J, e3']
    unfold bX3_tick_36
    rw [z1', st_bV Q4.1, c_slopes Q4.1 Q4.2.2.2.2.2.1, l_bnd, eS4, if_pos ((nI_leI (by omega) (by omega)).mpr (Nat.le_refl _)), n_1, nI_add])
  have eEnd : mixR R1 (jO (fForget R1) (sN R) (cN R)) (cN R) = fTick R := by
    unfold fTick
    rw [← hR1]
    funext j
    unfold mixR
    by_cases hj : 258 + 80 * cN R ≤ j ∧ j < 1058
    · rw [if_pos hj, hhi _ l6 j (by omega), r1 j (by omega), a12 j hj.1 hj.2]
      unfold fForget
      rw [if_neg, r1 j (by omega), a12 j hj.1 hj.2]
      intro q
      have := q.2.2.1
      rw [vo_of (show R1 j = nI 0 by rw [r1 j (by omega), a12 j hj.1 hj.2]) (by omega)] at this
      omega
    · rw [if_neg hj]
  have Q := X.q
  rw [eEnd] at X BB CC
  have eC : cN (mixR R1 (jO (fForget R1) (sN R) (cN R)) (cN R)) = cN R := by rw [cN_eq (R := jO (fForget R1) (sN R) (cN R)) (mix_lo (by omega))]; exact (jOk _ l6).2.1
  refine ⟨hh, es', ?_, OO, X, BB.mono (by omega), CC⟩
  unfold sX3_tick
  rw [l_Fi a1 rfl, l_P a1 a2.1 (by (show 4 < 14; omega)), ← hg, e3]
  unfold bX3_tick_12
  rw [z1, st_bV Q.1, c_size Q.1 Q.2.1, l_bnd, eC, if_pos ((nI_leI (by omega) (by omega)).mpr (Nat.le_refl _))]
end J1
