/-! a state: a cabin forgets -/
set_option maxRecDepth 100000
set_option maxHeartbeats 2000000
/-- a loop that may end early -/
theorem lp_x {α γ : Type} {B : (γ → Hp → Out α) → γ → Hp → Out α} {N n : Nat} (I : Nat → γ → Hp → Prop) (E : γ → Hp → Prop) {x0 : γ} {h0 : Hp} (hN : n < N) (h1 : I 0 x0 h0) (hs : ∀ k x h, k < n → I k x h → E x h ∨ ∀ self, ∃ x' h', I (k + 1) x' h' ∧ B self x h = self x' h') : ∃ k x h, k ≤ n ∧ I k x h ∧ (k = n ∨ E x h) ∧ ∃ self, gLp B N x0 h0 = B self x h := by
  have key : ∀ d k m x h, k + d = n → d < m → I k x h → ∃ k' x' h', k' ≤ n ∧ I k' x' h' ∧ (k' = n ∨ E x' h') ∧ ∃ self, gLp B m x h = B self x' h' := by
    intro d
    induction d with
    | zero =>
      intro k m x h hk hm hI
      obtain ⟨m', rfl⟩ : ∃ m', m = m' + 1 := ⟨m - 1, by omega⟩
      exact ⟨k, x, h, by omega, hI, Or.inl (by omega), gLp B m', rfl⟩
    | succ d ih =>
      intro k m x h hk hm hI
      obtain ⟨m', rfl⟩ : ∃ m', m = m' + 1 := ⟨m - 1, by omega⟩
      rcases hs k x h (by omega) hI with q | q
      · exact ⟨k, x, h, by omega, hI, Or.inr q, gLp B m', rfl⟩
      · obtain ⟨x', h', e1, e2⟩ := q (gLp B m')
        obtain ⟨k2, x2, h2, e3, e4, e5, self, e6⟩ := ih (k + 1) m' x' h' (by omega) (by omega) e1
        exact ⟨k2, x2, h2, e3, e4, e5, self, by rw [← e6]; exact e2⟩
  exact key n 0 N x0 h0 (by omega) hN h1
/-- which of a cabin's votes were looked at -/
def dn (m c s p : Nat) : Prop := p % 8 < m ∧ (p / 8 < c ∨ (p / 8 = c ∧ p % 8 < s))
noncomputable def fP (R : Row) (o m c s : Nat) : Row := fun j => @ite Int32 (258 + 80 * o ≤ j ∧ j < 258 + 80 * o + 80 ∧ dn m c s (j - (258 + 80 * o)) ∧ goes R j) (Classical.propDecidable _) (nI 0) (R j)
noncomputable def fFo (R : Row) (o : Nat) : Row := fun j => @ite Int32 (258 + 80 * o ≤ j ∧ j < 258 + 80 * o + 80 ∧ goes R j) (Classical.propDecidable _) (nI 0) (R j)
section G2
variable {G : GG} {N : Nat} {nl : Nat → List Nat} {h : Hp} {w y : Nat → Nat} {st o : Nat} {R : Row} {mt cl se bu rd gr : Nat} {cb ru mp sp nn : Nat → Nat} {es : Nat → List En}
theorem fP_0 {m : Nat} : fP R o m 0 0 = R := funext fun j => by
  unfold fP
  rw [if_neg]
  intro q
  rcases q.2.2.1.2 with q | q <;> omega
theorem fP_ne {m c s j : Nat} (h : j < 258 + 80 * o ∨ 258 + 80 * o + 80 ≤ j) : fP R o m c s j = R j := by
  unfold fP
  rw [if_neg (fun q => by omega)]
theorem goes_eq {R' : Row} {j : Nat} (h1 : R' j = R j) (h2 : R' 90 = R 90) (h3 : R' 1 = R 1) : goes R' j ↔ goes R j := by
  unfold goes vo
  rw [h1, h2, h3]
theorem fP_step {m c s : Nat} (hc : c < 10) (hs : s < 8) (hsm : s < m) : fFg (fP R o m c s) (258 + 80 * o + (8 * c + s)) = fP R o m c (s + 1) := by
  classical
  have h0 : ¬ dn m c s (8 * c + s) := fun q => by rcases q.2 with q | q <;> omega
  have h1 : dn m c (s + 1) (8 * c + s) := ⟨by omega, Or.inr ⟨by omega, by omega⟩⟩
  have e0 : fP R o m c s (258 + 80 * o + (8 * c + s)) = R (258 + 80 * o + (8 * c + s)) := by
    unfold fP
    rw [if_neg]
    intro q
    have := q.2.2.1
    rw [show 258 + 80 * o + (8 * c + s) - (258 + 80 * o) = 8 * c + s by omega] at this
    exact h0 this
  have eg := goes_eq (R := R) (R' := fP R o m c s) e0 (fP_ne (by omega)) (fP_ne (by omega))
  funext j
  by_cases hj : j = 258 + 80 * o + (8 * c + s)
  · subst hj
    unfold fFg
    by_cases hg : goes R (258 + 80 * o + (8 * c + s))
    · rw [if_pos (eg.mpr hg), l_upd_eq]
      unfold fP
      rw [if_pos ⟨by omega, by omega, by rw [show 258 + 80 * o + (8 * c + s) - (258 + 80 * o) = 8 * c + s by omega]; exact h1, hg⟩]
    · rw [if_neg (fun q => hg (eg.mp q)), e0]
      unfold fP
      rw [if_neg (fun q => hg q.2.2.2)]
  · have e1 : fFg (fP R o m c s) (258 + 80 * o + (8 * c + s)) j = fP R o m c s j := by
      unfold fFg
      by_cases hg : goes (fP R o m c s) (258 + 80 * o + (8 * c + s))
      · rw [if_pos hg, l_upd_ne hj]
      · rw [if_neg hg]
    rw [e1]
    unfold fP
    by_cases hr : 258 + 80 * o ≤ j ∧ j < 258 + 80 * o + 80 ∧ goes R j
    · have e2 : dn m c s (j - (258 + 80 * o)) ↔ dn m c (s + 1) (j - (258 + 80 * o)) := by
        unfold dn
        constructor
        · rintro ⟨a1, a2 | a2⟩
          · exact ⟨a1, Or.inl a2⟩
          · exact ⟨a1, Or.inr ⟨a2.1, by omega⟩⟩
        · rintro ⟨a1, a2 | a2⟩
          · exact ⟨a1, Or.inl a2⟩
          · exact ⟨a1, Or.inr ⟨a2.1, by omega⟩⟩
      by_cases hd : dn m c s (j - (258 + 80 * o))
      · rw [if_pos ⟨hr.1, hr.2.1, hd, hr.2.2⟩, if_pos ⟨hr.1, hr.2.1, e2.mp hd, hr.2.2⟩]
      · rw [if_neg (fun q => hd q.2.2.1), if_neg (fun q => hd (e2.mpr q.2.2.1))]
    · rw [if_neg (fun q => hr ⟨q.1, q.2.1, q.2.2.2⟩), if_neg (fun q => hr ⟨q.1, q.2.1, q.2.2.2⟩)]
theorem fP_row {m c : Nat} (hm : m ≤ 8) : fP R o m c m = fP R o m (c + 1) 0 := by
  classical
  funext j
  unfold fP
  have e2 : dn m c m (j - (258 + 80 * o)) ↔ dn m (c + 1) 0 (j - (258 + 80 * o)) := by
    unfold dn
    constructor
    · rintro ⟨a1, a2 | a2⟩
      · exact ⟨a1, Or.inl (by omega)⟩
      · exact ⟨a1, Or.inl (by omega)⟩
    · rintro ⟨a1, a2 | a2⟩
      · by_cases hq : (j - (258 + 80 * o)) / 8 < c
        · exact ⟨a1, Or.inl hq⟩
        · exact ⟨a1, Or.inr ⟨by omega, a1⟩⟩
      · omega
  rw [propext e2]
/-- all that is left is no vote: nothing more is forgotten -/
theorem fP_end {m c s : Nat} (hz : ∀ p, p < 80 → ¬ dn m c s p → R (258 + 80 * o + p) = nI 0) : fP R o m c s = fFo R o := by
  classical
  funext j
  unfold fP fFo
  by_cases hr : 258 + 80 * o ≤ j ∧ j < 258 + 80 * o + 80 ∧ goes R j
  · have hd : dn m c s (j - (258 + 80 * o)) := by
      refine Classical.byContradiction fun hd => ?_
      have := hz (j - (258 + 80 * o)) (by omega) hd
      rw [show 258 + 80 * o + (j - (258 + 80 * o)) = j by omega] at this
      have h2 := hr.2.2.1
      rw [vo_of this (by omega)] at h2
      omega
    rw [if_pos ⟨hr.1, hr.2.1, hd, hr.2.2⟩, if_pos hr]
  · rw [if_neg (fun q => hr ⟨q.1, q.2.1, q.2.2.2⟩), if_neg hr]
theorem c_forgets (A : StX G.1 h w y st R nl mt cl se bu rd gr cb ru mp sp nn es) (Y : TG y) (ho : o < cN R) (hN : 400 < N) : ∃ h' es', sX3_forgets G N (some st) (some (cb o)) h = some (.inl (), h') ∧ h'.1 = h.1 ∧ h'.2.1 = h.2.1 ∧ (∀ q, q < h.1 → w q ≠ y (2 * o + 2) → h'.2.2 q = h.2.2 q) ∧ StX G.1 h' w y st (fFo R o) nl mt cl se bu rd gr cb ru mp sp nn (va_up es o es') := by
  classical
  have A0 := A
  obtain ⟨a1, a2, a3, a6, a7, a8, a9, a10, H, a12⟩ := A
  have OK0 := H
  obtain ⟨h6, h7, h8, h9, l6, l7, l8, l9, hv⟩ := H
  have y1 : ∀ i, y i ≠ 1 := fun i => by have := Y.2 i; omega
  -- the loop
  obtain ⟨c, x, hh, hc, ⟨e1, es', X, f1, f2, f3⟩, hend, self, e3⟩ := lp_x (B := bX3_forgets_2 G N (some st) (some (cb o))) (N := N) (n := cN R) (fun c x hh => x = nI c ∧ ∃ es', StX G.1 hh w y st (fP R o (sN R) c 0) nl mt cl se bu rd gr cb ru mp sp nn (va_up es o es') ∧ hh.1 = h.1 ∧ hh.2.1 = h.2.1 ∧ ∀ q, q < h.1 → w q ≠ y (2 * o + 2) → hh.2.2 q = h.2.2 q) (fun x hh => ∃ tab n, MR G.1 hh w (y (2 * o + 2)) true (mp o) n tab ∧ tab.length = 0 ∧ ∃ c, x = nI c ∧ c < cN R ∧ VoR hh w (fP R o (sN R) c 0) o tab) (x0 := 0) (h0 := h) (by omega) ⟨rfl, es o, by rw [fP_0, va_self]; exact A0, rfl, rfl, fun _ _ _ => rfl⟩ (fun c x hh hc I => by
    obtain ⟨e1, es', X, f1, f2, f3⟩ := I
    have X0 := X
    obtain ⟨b1, b2, b3, b6, b7⟩ := X.2.2.2.2.2.2.2.1 o (by unfold cN; rw [fP_ne (by omega)]; exact ho)
    rw [va_upE, if_pos rfl] at b6 b7
    by_cases hz : es'.length = 0
    · exact Or.inl ⟨es', nn o, b6, hz, c, e1, hc, b7⟩
    · refine Or.inr (fun self => ?_)
      have hlen : es'.length ≤ 128 := by
        obtain ⟨tab, mc, th, lf, ve, vk, vv, kk, X⟩ := b6
        exact X.len
      obtain ⟨x', h2, ⟨e1', es2, X2, f1', f2', f3'⟩, self', e3'⟩ := lp_r (B := bX3_forgets_24 G N (some st) (some (cb o)) (nI c) (fun (x9 : Unit) (h10 : Hp) => self (nI c + 1) h10)) (N := N) (n := sN R) (fun s x hh => x = nI s ∧ ∃ es', StX G.1 hh w y st (fP R o (sN R) c s) nl mt cl se bu rd gr cb ru mp sp nn (va_up es o es') ∧ hh.1 = h.1 ∧ hh.2.1 = h.2.1 ∧ ∀ q, q < h.1 → w q ≠ y (2 * o + 2) → hh.2.2 q = h.2.2 q) (x0 := 0) (h0 := hh) (by omega) ⟨rfl, es', X0, f1, f2, f3⟩ (fun s x hh hs I self2 => by
        obtain ⟨e1, es1, X, f1, f2, f3⟩ := I
        have Q := X.q
        have eN : sN (fP R o (sN R) c s) = sN R := by
          show (fP R o (sN R) c s 7).toNatClampNeg = _
          rw [fP_ne (by omega)]; rfl
        have eC : cN (fP R o (sN R) c s) = cN R := by
          show (fP R o (sN R) c s 6).toNatClampNeg = _
          rw [fP_ne (by omega)]; rfl
        obtain ⟨k, k1, k2, k3, k4⟩ := X.2.2.2.2.2.1.key (G := G) (N := N) (show c < 10 by omega) (show s < 8 by omega)
        obtain ⟨h3, es3, r1, r2, r3, r4, r5⟩ := c_forget1 (N := N) (o := o) X Y (by rw [eC]; exact ho) (show 8 * c + s < 80 by omega) k2 hN
        rw [fP_step (by omega) (by omega) hs] at r5
        obtain ⟨fe, s1, s2⟩ := Q.2.2.1
        refine ⟨nI (s + 1), h3, ⟨rfl, es3, ?_, by omega, by omega, fun q q1 q2 => by rw [r4 q (by omega) q2]; exact f3 q q1 q2⟩, ?_⟩
        · have : va_up (va_up es o es1) o es3 = va_up es o es3 := funext fun j => by
            rw [va_upE, va_upE, va_upE]
            by_cases hq : j = o
            · rw [if_pos hq, if_pos hq]
            · rw [if_neg hq, if_neg hq, if_neg hq]
          rw [this] at r5
          exact r5
        · unfold bX3_forgets_24
          rw [e1, st_bV Q.1, c_slopes Q.1 Q.2.2.2.2.2.1, l_bnd, eN, if_neg (fun q => absurd ((nI_leI (by omega) (by omega)).mp q) (by omega)), l_Fr Q.1 rfl, k4, k3, l_bnd, l_Fi Q.1 rfl, l_Fr Q.1 rfl, n_1, l_Ai s1 (by omega) (by omega), s2 1 (by omega), cab_bV (Q.2.1.2 o (by rw [eC]; exact ho)), r1, l_bnd, nI_add])
      have Q := X0.q
      have Q2 := X2.q
      have eN : sN (fP R o (sN R) c (sN R)) = sN R := by
        show (fP R o (sN R) c (sN R) 7).toNatClampNeg = _
        rw [fP_ne (by omega)]; rfl
      have eC : cN (fP R o (sN R) c 0) = cN R := by
        show (fP R o (sN R) c 0 6).toNatClampNeg = _
        rw [fP_ne (by omega)]; rfl
      refine ⟨nI (c + 1), h2, ⟨rfl, es2, by rw [← fP_row l7]; exact X2, f1', f2', f3'⟩, ?_⟩
      unfold bX3_forgets_2
      rw [e1, st_bV Q.1, c_size Q.1 Q.2.1, l_bnd, eC, if_neg (fun q => absurd ((nI_leI (by omega) (by omega)).mp q) (by omega)), l_Fr (Q.2.1.2 o (by rw [eC]; exact ho)) rfl, m_bV b6.lhm, m_isEmpty b6.lhm (by omega), l_bnd, if_pos (by rw [bZ_f hz]), l_J, e3']
      unfold bX3_forgets_24
      rw [e1', st_bV Q2.1, c_slopes Q2.1 Q2.2.2.2.2.2.1, l_bnd, eN, if_pos ((nI_leI (by omega) (by omega)).mpr (Nat.le_refl _)), n_1, nI_add])
  have Q := X.q
  have eC : cN (fP R o (sN R) c 0) = cN R := by
    show (fP R o (sN R) c 0 6).toNatClampNeg = _
    rw [fP_ne (by omega)]; rfl
  have eS : sN (fP R o (sN R) c 0) = sN R := by
    show (fP R o (sN R) c 0 7).toNatClampNeg = _
    rw [fP_ne (by omega)]; rfl
  have V := (X.2.2.2.2.2.2.2.1 o (by rw [eC]; exact ho)).2.2.2.2
  have MM := (X.2.2.2.2.2.2.2.1 o (by rw [eC]; exact ho)).2.2.2.1
  rw [va_upE, if_pos rfl] at V MM
  have fin : fP R o (sN R) c 0 = fFo R o := fP_end (fun p hp hd => by
    have keep : fP R o (sN R) c 0 (258 + 80 * o + p) = R (258 + 80 * o + p) := by
      unfold fP
      rw [if_neg]
      intro q
      have := q.2.2.1
      rw [show 258 + 80 * o + p - (258 + 80 * o) = p by omega] at this
      exact hd this
    rw [← keep]
    rcases V.1 p hp with q | ⟨e, rd, tm, q1, -⟩
    · exact q.2
    · obtain ⟨q2, q3⟩ := look_mem q1
      have q4 := V.2 e q2
      rw [q3, eC, eS] at q4
      rcases hend with hend | ⟨tab, n, M2, z1, c2, z2, z3, V2⟩
      · exact absurd (show dn (sN R) c 0 p from ⟨q4.2.2, Or.inl (by omega)⟩) hd
      · have : c = c2 := by
          rw [e1] at z2
          exact (nI_eq (by omega) (by omega)).mp z2
        subst this
        rcases V2.1 p hp with q5 | ⟨e5, rd5, tm5, q5, -⟩
        · exact q5.2
        · rw [List.eq_nil_of_length_eq_zero z1] at q5
          cases q5)
  rw [← fin]
  refine ⟨hh, es', ?_, f1, f2, f3, X⟩
  unfold sX3_forgets
  rw [e3]
  unfold bX3_forgets_2
  rcases hend with hend | ⟨tab, n, M2, z1, c2, z2, z3, V2⟩
  · rw [e1, st_bV Q.1, c_size Q.1 Q.2.1, l_bnd, eC, hend, if_pos ((nI_leI (by omega) (by omega)).mpr (Nat.le_refl _))]
  · have : c = c2 := by
      rw [e1] at z2
      exact (nI_eq (by omega) (by omega)).mp z2
    subst this
    rw [e1, st_bV Q.1, c_size Q.1 Q.2.1, l_bnd, eC, if_neg (fun q => absurd ((nI_leI (by omega) (by omega)).mp q) (by omega)), l_Fr (Q.2.1.2 o (by rw [eC]; exact ho)) rfl, m_bV M2.lhm, m_isEmpty M2.lhm (by omega), l_bnd, if_neg (by rw [bZ_t z1]; decide)]
end G2
