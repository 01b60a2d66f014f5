/-! a state: a bulletin is issued -/
set_option maxRecDepth 100000
set_option maxHeartbeats 2000000
def bAt (i : Nat) : Nat := 98 + 4 * (i % 10)
/-- the row behind an issue; i: how many there were -/
noncomputable def fIssue (R : Row) (o i : Nat) : Row := upd (upd (upd (upd (upd (upd R (bAt i) (R 90)) (bAt i + 1) (nI o)) (bAt i + 2) (qTells R o)) (bAt i + 3) (R 97)) 95 (R 95 + nI 1)) 96 (R 96 + qBits 8 (R 97 &&& (qTells R o ^^^ (-1))))
theorem bAt_r {i : Nat} : 98 ≤ bAt i ∧ bAt i + 3 < 138 := by unfold bAt; omega
theorem fIssue_ne {R : Row} {o i j : Nat} (h : j < 95 ∨ j = 97 ∨ 138 ≤ j ∨ (98 ≤ j ∧ j < 138 ∧ (j < bAt i ∨ bAt i + 3 < j))) : fIssue R o i j = R j := by
  have := @bAt_r i
  unfold fIssue
  rw [l_upd_ne (by omega), l_upd_ne (by omega), l_upd_ne (by omega), l_upd_ne (by omega), l_upd_ne (by omega), l_upd_ne (by omega)]
theorem fIssue_at {R : Row} {o i : Nat} : fIssue R o i (bAt i) = R 90 ∧ fIssue R o i (bAt i + 1) = nI o ∧ fIssue R o i (bAt i + 2) = qTells R o ∧ fIssue R o i (bAt i + 3) = R 97 ∧ fIssue R o i 95 = R 95 + nI 1 ∧ fIssue R o i 96 = R 96 + qBits 8 (R 97 &&& (qTells R o ^^^ (-1))) := by
  have := @bAt_r i
  unfold fIssue
  refine ⟨?_, ?_, ?_, ?_, ?_, l_upd_eq⟩
  · rw [l_upd_ne (by omega), l_upd_ne (by omega), l_upd_ne (by omega), l_upd_ne (by omega), l_upd_ne (by omega), l_upd_eq]
  · rw [l_upd_ne (by omega), l_upd_ne (by omega), l_upd_ne (by omega), l_upd_ne (by omega), l_upd_eq]
  · rw [l_upd_ne (by omega), l_upd_ne (by omega), l_upd_ne (by omega), l_upd_eq]
  · rw [l_upd_ne (by omega), l_upd_ne (by omega), l_upd_eq]
  · rw [l_upd_ne (by omega), l_upd_eq]
theorem fIssue_ok {R : Row} (H : ROK R) {o i : Nat} : ROK (fIssue R o i) ∧ cN (fIssue R o i) = cN R ∧ sN (fIssue R o i) = sN R ∧ rN (fIssue R o i) = rN R ∧ fN (fIssue R o i) = fN R :=
  H.of (fIssue_ne (by omega)) (fIssue_ne (by omega)) (fIssue_ne (by omega)) (fIssue_ne (by omega)) (fun j _ _ => Or.inl (fIssue_ne (by omega)))
theorem qTells_nI {R : Row} (H : ROK R) (o : Nat) : ∃ m, m < 256 ∧ qTells R o = nI m := by
  obtain ⟨h6, h7, h8, h9, l6, l7, l8, l9, hv⟩ := H
  obtain ⟨m, h1, h2⟩ := om_nI (n := sN R) (f := fun s => pz (tells R o s) (1 <<< (nI s &&& 31))) (fun k _ => pz_or) (by omega)
  have h3 : 2 ^ sN R ≤ 2 ^ 8 := Nat.pow_le_pow_right (by omega) l7
  exact ⟨m, by omega, h2⟩
theorem ni_xor (a b : Nat) : nI a ^^^ nI b = nI (a ^^^ b) := by
  apply Int32.toBitVec_inj.1
  show BitVec.ofNat 32 a ^^^ BitVec.ofNat 32 b = BitVec.ofNat 32 (a ^^^ b)
  apply BitVec.eq_of_getLsbD_eq
  intro i hi
  simp [hi]
theorem wrong_ok {m t : Nat} (hm : m < 256) : bitC (nI m &&& (nI t ^^^ (-1))) = qBits 8 (nI m &&& (nI t ^^^ (-1))) := by
  rw [show (-1 : Int32) = nI 4294967295 from rfl, ni_xor, ni_and]
  have h1 : m &&& (t ^^^ 4294967295) < 256 := Nat.lt_of_le_of_lt Nat.and_le_left hm
  rw [bitC_10 _ (by omega), qBits_8 _ h1]
section O1
variable {G : GG} {N : Nat} {nl : Nat → List Nat} {h : Hp} {w y : Nat → Nat} {st o : Nat} {R : Row} {mt cl se bu rd gr : Nat} {cb ru mp sp nn : Nat → Nat} {es : Nat → List En}
theorem c_issues (A : StX G.1 h w y st R nl mt cl se bu rd gr cb ru mp sp nn es) (Y : TG y) (hb : G.1 ≤ h.1) (ho : o < cN R) (hD : ∃ m, m < 256 ∧ R 97 = nI m) (hI : ∃ i, i < 90000 ∧ R 95 = nI i) (hN : 400 < N) :
    ∃ h' w' i, R 95 = nI i ∧ i < 90000 ∧ sX3_issues G N (some st) (nI o) h = some (.inl (), h') ∧ Tr (SY y) 2 h w h' w' ∧ G.1 ≤ h'.1 ∧ StX G.1 h' w' y st (fIssue R o i) nl mt cl se bu rd gr cb ru mp sp nn es := by
  classical
  have A0 := A
  obtain ⟨a1, a2, ⟨a3, fe, s1, s2⟩, a6, a7, a8, a9, a10, H, a12⟩ := A
  have OK0 := H
  obtain ⟨h6, h7, h8, h9, l6, l7, l8, l9, hv⟩ := H
  have yF : ∀ i, ¬ (fun _ => False) (y i) ∧ y i ≠ 1 := fun i => ⟨id, by have := Y.2 i; omega⟩
  obtain ⟨el, hd, i, fb, c1, c2, c3, c4, c5, c6, c7, c8⟩ := a6
  have hi9 : i < 90000 := by
    obtain ⟨i', i1, i2⟩ := hI
    rw [c6] at i2
    have := (nI_eq (by omega) (by omega)).mp i2
    omega
  have OK := fIssue_ok OK0 (o := o) (i := i)
  -- the bulletin, still empty
  obtain ⟨g0, hg0⟩ : ∃ g0, g0 = hnw h (.inr (6, [.int 0, .int 0, .int 0, .int 0])) 4 := ⟨_, rfl⟩
  have T0 : Tr (fun _ => False) 1 h w g0 (nw w h.1 0) := by rw [hg0]; exact Tr.new (by omega)
  have X0 := A0.keep T0 id id yF
  have Q0 := X0.q
  -- filled
  obtain ⟨g1, hg1⟩ : ∃ g1, g1 = hnw h (.inr (6, [.int (R 90), .int (nI o), .int (qTells R o), .int (R 97)])) 4 := ⟨_, rfl⟩
  have T1 : Tr (fun _ => False) 1 h w g1 (nw w h.1 0) := by rw [hg1]; exact Tr.new (by omega)
  have X1 := A0.keep T1 id id yF
  have b1 : ImC g1 (nw w h.1 0) h.1 (.inr (6, [.int (R 90), .int (nI o), .int (qTells R o), .int (R 97)])) := by rw [hg1]; exact ImC.new
  have Q1 := X1.q
  have fill : ∀ {β : Type} (k : Unit → Hp → Out β), bI (some h.1) (fun q31 => sX18_init G N (some q31) (R 90) (nI o) (qTells R o) (R 97) g0) k = k () g1 := fun k => by
    unfold sX18_init
    rw [hg0, l_bI, l_NN, l_P hnw_at hb (by (show 0 < 4; omega)), hnw_up, l_P hnw_at hb (by (show 1 < 4; omega)), hnw_up, l_P hnw_at hb (by (show 2 < 4; omega)), hnw_up, l_P hnw_at hb (by (show 3 < 4; omega)), hnw_up, l_bnd, hg1]
    rfl
  -- the deque
  have nA : ∀ q, q < h.1 → g1.2.2 q = h.2.2 q := fun q hq => by rw [hg1, hnw_ne (by omega)]
  have D1 : DQ g1 bu el hd (min 10 i) fb := ⟨by rw [nA bu c1.2.1]; exact c2, by rw [nA el c3.2.1]; exact c4, c5, by omega⟩
  obtain ⟨g2, r1, r2, r3, r4, D2⟩ := D1.addFirst (N := N) (by omega) c1.1 c3.1 b1.2.2 (by decide) (by decide)
  have wbu : nw w h.1 0 bu = y 0 := by rw [nw_lt c1.2.1]; exact c1.2.2
  have wel : nw w h.1 0 el = y 0 := by rw [nw_lt c3.2.1]; exact c3.2.2
  have n0 : ∀ k, k ≤ 3 → ¬ (k = y 0) := fun k hk q => by have := Y.2 0; omega
  -- behind the deque's changes: what heap, what deque
  have deq : ∃ g3 f3, (∀ (F : Unit → Hp → Out Unit), gJ F (fun j17 => if nI (min 10 i + 1) ≤ (10 : Int32) then (j17 () g2) else gFr g2 (some st) 16 3 fun v25 => bV g2 v25 22 (fun q28 => sJ1_removeLast G N (some q28) g2) fun v26 h27 => gCk h27 v26 [6] (j17 () h27)) = F () g3) ∧ g3.1 = g1.1 ∧ g3.2.1 = g1.2.1 ∧ (∀ q, q ≠ bu → q ≠ el → g3.2.2 q = g1.2.2 q) ∧ DQ g3 bu el ((hd + 16) % 17) (min 10 (i + 1)) f3 ∧ ∀ k, k < min 10 (i + 1) → f3 (((hd + 16) % 17 + k) % 17) = if k = 0 then some h.1 else fb ((hd + (k - 1)) % 17) := by
    have val : ∀ k, k < min 10 (i + 1) → va_up fb ((hd + 16) % 17) (some h.1) (((hd + 16) % 17 + k) % 17) = if k = 0 then some h.1 else fb ((hd + (k - 1)) % 17) := fun k hk => by
      rw [va_upE]
      by_cases hk0 : k = 0
      · rw [if_pos (by omega), if_pos hk0]
      · rw [if_neg (by omega), if_neg hk0]
        congr 1
        omega
    by_cases hi : i < 10
    · refine ⟨g2, _, fun F => by rw [l_J, if_pos (by rw [n_10]; exact (nI_leI (by omega) (by omega)).mpr (by omega))], r2, r3, r4, by rw [show min 10 (i + 1) = min 10 i + 1 by omega]; exact D2, val⟩
    · have lastE : va_up fb ((hd + 16) % 17) (some h.1) (((hd + 16) % 17 + (min 10 i + 1 - 1)) % 17) = fb ((hd + 9) % 17) := by
        rw [va_upE, if_neg (by omega)]
        congr 1
        omega
      obtain ⟨bl, e1, e2⟩ := c8 9 (by omega)
      obtain ⟨g3, u1, u2, u3, u4, D3⟩ := D2.removeLast (N := N) (x := bl) (by omega) c1.1 c3.1 (by rw [lastE]; exact e1)
      have hbl : g3.2.2 bl = some (.inr (6, [.int (R (98 + 4 * ((i - 1 - 9) % 10))), .int (R (98 + 4 * ((i - 1 - 9) % 10) + 1)), .int (R (98 + 4 * ((i - 1 - 9) % 10) + 2)), .int (R (98 + 4 * ((i - 1 - 9) % 10) + 3))])) := by
        have q1 : bl ≠ bu := cl_ne e2.2.2 c2 (by decide)
        have q2 : bl ≠ el := fun q => mc_ne c4 e2.2.2 q.symm
        rw [u4 bl q1 q2, r4 bl q1 q2, nA bl e2.1]
        exact e2.2.2
      have S2 : g2.2.2 st = some (.inr (16, [.ref mt, .ref cl, .ref se, .ref bu, .int (R 90), .int (R 91), .int (R 92), .int (R 93), .int (R 94), .int (R 95), .int (R 96), .int (R 97), .ref rd, .ref gr])) := by
        rw [r4 st (cl_ne a1 c2 (by decide)) (fun q => mc_ne c4 a1 q.symm)]
        exact Q1.1
      refine ⟨g3, _, fun F => ?_, by rw [u2, r2], by rw [u3, r3], fun q q1 q2 => by rw [u4 q q1 q2, r4 q q1 q2], by rw [show min 10 (i + 1) = min 10 i + 1 - 1 by omega]; exact D3, fun k hk => ?_⟩
      · rw [l_J, if_neg (by rw [n_10]; exact fun q => absurd ((nI_leI (by omega) (by omega)).mp q) (by omega)), l_Fr S2 rfl, D2.bV, u1, l_bnd]
        exact l_Ck hbl (show 6 ∈ [6] by decide)
      · rw [va_upE, if_neg (by omega)]
        exact val k hk
  obtain ⟨g3, f3, d0, d1, d2, d3, D3, d4⟩ := deq
  have stbu : st ≠ bu := cl_ne a1 c2 (by decide)
  have stel : st ≠ el := fun q => mc_ne c4 a1 q.symm
  have S2 : g2.2.2 st = some (.inr (16, [.ref mt, .ref cl, .ref se, .ref bu, .int (R 90), .int (R 91), .int (R 92), .int (R 93), .int (R 94), .int (R 95), .int (R 96), .int (R 97), .ref rd, .ref gr])) := by
    rw [r4 st stbu stel]; exact Q1.1
  have S3 : g3.2.2 st = some (.inr (16, [.ref mt, .ref cl, .ref se, .ref bu, .int (R 90), .int (R 91), .int (R 92), .int (R 93), .int (R 94), .int (R 95), .int (R 96), .int (R 97), .ref rd, .ref gr])) := by
    rw [d3 st stbu stel]; exact Q1.1
  have hnb : h.1 ≠ bu ∧ h.1 ≠ el ∧ h.1 ≠ st := ⟨by have := c1.2.1; omega, by have := c3.2.1; omega, by have := a2.2.1; omega⟩
  have B3 : g3.2.2 h.1 = some (.inr (6, [.int (R 90), .int (nI o), .int (qTells R o), .int (R 97)])) := by
    rw [d3 _ hnb.1 hnb.2.1]; exact b1.2.2
  -- the numbers
  obtain ⟨g5, hg5⟩ : ∃ g5, g5 = hup g3 st (.inr (16, ([.ref mt, .ref cl, .ref se, .ref bu, .int (R 90), .int (R 91), .int (R 92), .int (R 93), .int (R 94), .int (R 95), .int (R 96), .int (R 97), .ref rd, .ref gr].set 9 (.int (R 95 + 1))).set 10 (.int (R 96 + bitC (R 97 &&& (qTells R o ^^^ (-1))))))) := ⟨_, rfl⟩
  have g5q : ∀ q, q ≠ bu → q ≠ el → q ≠ st → g5.2.2 q = g1.2.2 q := fun q q1 q2 q3 => by rw [hg5, hup_ne q3, d3 q q1 q2]
  have T5 : Tr (fun t => t = y 0) 0 g1 (nw w h.1 0) g5 (nw w h.1 0) := Tr.ex (by rw [hg5]; exact d1) (by rw [hg5]; exact d2) (fun q _ q2 => g5q q (fun e => q2 (by rw [e]; exact wbu)) (fun e => q2 (by rw [e]; exact wel)) (fun e => q2 (by rw [e, nw_lt a2.2.1]; exact a2.2.2)))
  have eB : bitC (R 97 &&& (qTells R o ^^^ (-1))) = qBits 8 (R 97 &&& (qTells R o ^^^ (-1))) := by
    obtain ⟨m, m1, m2⟩ := hD
    obtain ⟨t, t1, t2⟩ := qTells_nI OK0 o
    rw [m2, t2]
    exact wrong_ok m1
  have fA := @fIssue_at R o i
  have X5 : StX G.1 g5 (nw w h.1 0) y st (fIssue R o i) nl mt cl se bu rd gr cb ru mp sp nn es := by
    refine X1.self Y T5 OK.1 OK.2.1 OK.2.2.1 (fun j hj => fIssue_ne (by omega)) ?_ ⟨fe, ?_, fun k hk => by rw [fIssue_ne (by omega)]; exact s2 k hk⟩ ?_
    · unfold StC
      rw [hg5, hup_at, fA.2.2.2.2.1, fA.2.2.2.2.2, eB]
      rw [fIssue_ne (j := 90) (by omega), fIssue_ne (j := 91) (by omega), fIssue_ne (j := 92) (by omega), fIssue_ne (j := 93) (by omega), fIssue_ne (j := 94) (by omega), fIssue_ne (j := 97) (by omega)]
      rfl
    · have sebu : se ≠ bu := mc_ne s1 c2
      have seel : se ≠ el := fun q => by
        rw [q, c4] at s1
        injection s1 with s1
        injection s1 with s1
        exact absurd (Prod.mk.inj s1).1 (by decide)
      rw [g5q se sebu seel (mc_ne s1 a1), nA se a3.2.1]
      exact s1
    · refine ⟨el, (hd + 16) % 17, i + 1, f3, ?_, ?_, ?_, ?_, D3.2.2.1, by rw [fA.2.2.2.2.1, c6, nI_add], by omega, fun k hk => ?_⟩
      · exact (c1.keep T1).keep T5
      · rw [hg5, hup_ne (Ne.symm stbu)]; exact D3.1
      · exact (c3.keep T1).keep T5
      · rw [hg5, hup_ne (Ne.symm stel)]; exact D3.2.1
      · rw [d4 k hk]
        by_cases hk0 : k = 0
        · subst hk0
          refine ⟨h.1, if_pos rfl, ?_⟩
          have := b1.keep T5 (n0 0 (by omega)) (ncl (by decide))
          rw [show 98 + 4 * ((i + 1 - 1 - 0) % 10) = bAt i by unfold bAt; congr 2, fA.1, fA.2.1, fA.2.2.1, fA.2.2.2.1]
          exact this
        · obtain ⟨bl, e1, e2⟩ := c8 (k - 1) (by omega)
          refine ⟨bl, by rw [if_neg hk0]; exact e1, ?_⟩
          have := (e2.keep T1 id (ncl (by decide))).keep T5 (n0 0 (by omega)) (ncl (by decide))
          have e9 : (i + 1 - 1 - k) % 10 = (i - 1 - (k - 1)) % 10 := by congr 1; omega
          rw [e9]
          have hne : (i - 1 - (k - 1)) % 10 ≠ i % 10 := by omega
          rw [fIssue_ne (j := 98 + 4 * ((i - 1 - (k - 1)) % 10)) (by unfold bAt; omega), fIssue_ne (j := 98 + 4 * ((i - 1 - (k - 1)) % 10) + 1) (by unfold bAt; omega), fIssue_ne (j := 98 + 4 * ((i - 1 - (k - 1)) % 10) + 2) (by unfold bAt; omega), fIssue_ne (j := 98 + 4 * ((i - 1 - (k - 1)) % 10) + 3) (by unfold bAt; omega)]
          exact this
  refine ⟨g5, nw w h.1 0, i, c6, hi9, ?_, ?_, by have := T5.1; have := T1.1; omega, X5⟩
  · unfold sX3_issues gNew
    dsimp only
    rw [← hg0, l_Fi Q0.1 rfl, st_bV Q0.1, c_tellsSet Q0 ho (by omega), l_bnd, l_Fi Q0.1 rfl, fill, l_Fr Q1.1 rfl, D1.bV, r1, l_bnd, l_Fr S2 rfl, D2.bV, D2.size, l_bnd, d0]
    rw [l_Fi S3 rfl, l_P S3 a2.1 (by (show 9 < 14; omega)), l_Fi hup_at rfl, l_bV (by rw [hup_ne hnb.2.2]; exact B3)]
    unfold sX18_wrong
    rw [l_Fi (by rw [hup_ne hnb.2.2]; exact B3) rfl, l_Fi (by rw [hup_ne hnb.2.2]; exact B3) rfl, c_bitCount, l_bnd, l_bnd, l_P hup_at a2.1 (by (show 10 < 14; omega)), hup_up, ← hg5]
  · exact ((T1.mono (S' := SY y) (fun _ q => q.elim) (Nat.le_refl _)).trans (T5.mono (fun t q => ⟨_, q⟩) (Nat.le_refl _)) (Y.sy (by omega))).mono (fun _ q => q) (by omega)
end O1
