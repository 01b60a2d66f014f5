/-! deques of seventeen places; iterators of lists -/
set_option maxRecDepth 100000
set_option maxHeartbeats 2000000
section L1
variable {α : Type} {G : GG} {N : Nat} {h : Hp}
def DQ (h : Hp) (d el hd n : Nat) (f : Nat → Option Nat) : Prop := h.2.2 d = some (.inr (22, [.ref el, .int (nI hd), .int (nI ((hd + n) % 17))])) ∧ h.2.2 el = some (.inl (5, 17, .inr (.inr (.inr (.inr f))))) ∧ hd < 17 ∧ n < 17
theorem q_inc : ∀ a, a < 17 → sJ1_inc G N (nI a) (nI 17) h = some (.inl (nI ((a + 1) % 17)), h) := by
  intro a ha
  unfold sJ1_inc
  rw [n_1, nI_add]
  by_cases h1 : a + 1 < 17
  · rw [if_pos ((nI_ltI (by omega) (by omega)).mpr h1), Nat.mod_eq_of_lt h1]
  · rw [if_neg (fun q => h1 ((nI_ltI (by omega) (by omega)).mp q)), show a + 1 = 17 by omega]; rfl
theorem dec_ok : ∀ a, a < 17 → (if (0 : Int32) ≤ nI a + (-1) then nI a + (-1) else nI 17 - 1) = nI ((a + 16) % 17) := by decide +kernel
theorem q_dec {a : Nat} (ha : a < 17) : sJ1_dec G N (nI a) (nI 17) h = some (.inl (nI ((a + 16) % 17)), h) := by
  unfold sJ1_dec gLet
  rw [← dec_ok a ha]
  split <;> rfl
theorem sub_ok : ∀ a, a < 17 → ∀ n, n < 17 → (if (0 : Int32) ≤ nI ((a + n) % 17) - nI a then nI ((a + n) % 17) - nI a else nI ((a + n) % 17) - nI a + nI 17) = nI n := by decide +kernel
theorem DQ.size {d el hd n : Nat} {f : Nat → Option Nat} (D : DQ h d el hd n f) : sJ1_size G N (some d) h = some (.inl (nI n), h) := by
  obtain ⟨d1, d2, d3, d4⟩ := D
  unfold sJ1_size sJ1_sub gLet
  rw [l_Fi d1 rfl, l_Fi d1 rfl, l_Fr d1 rfl, l_Lenr d2 (by decide)]
  have := sub_ok hd d3 n d4
  dsimp only
  by_cases hc : (0 : Int32) ≤ nI ((hd + n) % 17) - nI hd
  · rw [if_pos hc] at this
    rw [if_pos hc, l_bnd, this]
  · rw [if_neg hc] at this
    rw [if_neg hc, l_bnd, this]
theorem DQ.bV {β : Type} {d el hd n : Nat} {f : Nat → Option Nat} {g : Nat → Out β} {k : β → Hp → Out α} (D : DQ h d el hd n f) : bV h (some d) 22 g k = bnd (g d) k := l_bV D.1
theorem DQ.isEmpty {d el hd n : Nat} {f : Nat → Option Nat} (D : DQ h d el hd n f) : sJ1_isEmpty G N (some d) h = some (.inl (bZ (n = 0)), h) := by
  obtain ⟨d1, d2, d3, d4⟩ := D
  unfold sJ1_isEmpty
  rw [l_Fi d1 rfl, l_Fi d1 rfl]
  by_cases hc : n = 0
  · rw [if_pos (by rw [hc, Nat.add_zero, Nat.mod_eq_of_lt d3]), bZ_t hc]; rfl
  · rw [if_neg, bZ_f hc]
    · rfl
    · intro q
      have := (nI_eq (by omega) (by omega)).mp q
      omega
theorem DQ.addLast {d el hd n x c : Nat} {fs : List Value} {f : Nat → Option Nat} (D : DQ h d el hd n f) (hn : n < 16) (b1 : G.1 ≤ d) (b2 : G.1 ≤ el) (hx : h.2.2 x = some (.inr (c, fs))) (hc : c ∈ asl_java_lang_Object) : ∃ h', sJ1_addLast G N (some d) (some x) h = some (.inl (), h') ∧ h'.1 = h.1 ∧ h'.2.1 = h.2.1 ∧ (∀ q, q ≠ d → q ≠ el → h'.2.2 q = h.2.2 q) ∧ DQ h' d el hd (n + 1) (va_up f ((hd + n) % 17) (some x)) := by
  obtain ⟨d1, d2, d3, d4⟩ := D
  have hde : el ≠ d := mc_ne d2 d1
  have hm : (hd + n) % 17 < 17 := Nat.mod_lt _ (by omega)
  have e1 : ∀ e, (hup h el e).2.2 d = some (.inr (22, [.ref el, .int (nI hd), .int (nI ((hd + n) % 17))])) := fun e => by rw [hup_ne (Ne.symm hde)]; exact d1
  unfold sJ1_addLast
  rw [if_neg (by simp), l_Fr d1 rfl, l_Fi d1 rfl, l_Srn d2 b2 hm (by omega) hx hc, l_Fi (e1 _) rfl, l_Fi (e1 _) rfl, l_Lenr hup_at (by decide), q_inc _ hm, l_bnd, l_P (e1 _) b1 (by (show 2 < 3; omega)), if_neg]
  · refine ⟨_, rfl, rfl, rfl, fun q q1 q2 => by rw [hup_ne q1, hup_ne q2], ?_, by rw [hup_ne hde]; exact hup_at, d3, by omega⟩
    rw [hup_at, show (hd + (n + 1)) % 17 = ((hd + n) % 17 + 1) % 17 by omega]
    rfl
  · intro q
    have := (nI_eq (by omega) (by omega)).mp q
    omega
theorem DQ.addFirst {d el hd n x c : Nat} {fs : List Value} {f : Nat → Option Nat} (D : DQ h d el hd n f) (hn : n < 16) (b1 : G.1 ≤ d) (b2 : G.1 ≤ el) (hx : h.2.2 x = some (.inr (c, fs))) (hc : c ∈ asl_java_lang_Object) (hc2 : c ≠ 22) : ∃ h', sJ1_addFirst G N (some d) (some x) h = some (.inl (), h') ∧ h'.1 = h.1 ∧ h'.2.1 = h.2.1 ∧ (∀ q, q ≠ d → q ≠ el → h'.2.2 q = h.2.2 q) ∧ DQ h' d el ((hd + 16) % 17) (n + 1) (va_up f ((hd + 16) % 17) (some x)) := by
  obtain ⟨d1, d2, d3, d4⟩ := D
  have hde : el ≠ d := mc_ne d2 d1
  have hm : (hd + 16) % 17 < 17 := Nat.mod_lt _ (by omega)
  unfold sJ1_addFirst
  rw [if_neg (by simp), l_Fr d1 rfl, l_Fi d1 rfl, l_Lenr d2 (by decide), q_dec d3, l_bnd, l_P d1 b1 (by (show 1 < 3; omega))]
  rw [l_Srn (by rw [hup_ne hde]; exact d2) b2 hm (by omega) (by rw [hup_ne (cl_ne hx d1 hc2)]; exact hx) hc]
  have e1 : ∀ e e', (hup (hup h d e) el e').2.2 d = some e := fun e e' => by rw [hup_ne (Ne.symm hde)]; exact hup_at
  rw [l_Fi (e1 _ _) rfl, l_Fi (e1 _ _) rfl, if_neg]
  · refine ⟨_, rfl, rfl, rfl, fun q q1 q2 => by rw [hup_ne q2, hup_ne q1], ?_, hup_at, hm, by omega⟩
    rw [e1, show ((hd + 16) % 17 + (n + 1)) % 17 = (hd + n) % 17 by omega]
    rfl
  · intro q
    have := (nI_eq (by omega) (by omega)).mp q
    omega
theorem DQ.removeLast {d el hd n x : Nat} {f : Nat → Option Nat} (D : DQ h d el hd n f) (hn : 0 < n) (b1 : G.1 ≤ d) (b2 : G.1 ≤ el) (hx : f ((hd + (n - 1)) % 17) = some x) : ∃ h', sJ1_removeLast G N (some d) h = some (.inl (some x), h') ∧ h'.1 = h.1 ∧ h'.2.1 = h.2.1 ∧ (∀ q, q ≠ d → q ≠ el → h'.2.2 q = h.2.2 q) ∧ DQ h' d el hd (n - 1) (va_up f ((hd + (n - 1)) % 17) none) := by
  obtain ⟨d1, d2, d3, d4⟩ := D
  have hde : el ≠ d := mc_ne d2 d1
  have hm : (hd + (n - 1)) % 17 < 17 := Nat.mod_lt _ (by omega)
  unfold sJ1_removeLast sJ1_pollLast sJ1_elementAt
  rw [l_bV d1, l_Fr d1 rfl, l_Fi d1 rfl, l_Lenr d2 (by decide), q_dec (Nat.mod_lt _ (by omega)), l_bnd, show ((hd + n) % 17 + 16) % 17 = (hd + (n - 1)) % 17 by omega, l_Arv d2 hm (by omega) hx, l_bnd, if_neg (by simp), l_P d1 b1 (by (show 2 < 3; omega)), l_Sr (by rw [hup_ne hde]; exact d2) b2 hm (by omega) (fun y hy => by cases hy), l_bnd, if_neg (by simp)]
  exact ⟨_, rfl, rfl, rfl, fun q q1 q2 => by rw [hup_ne q2, hup_ne q1], by rw [hup_ne (Ne.symm hde)]; exact hup_at, hup_at, d3, by omega⟩
theorem DQ.removeFirst {d el hd n x : Nat} {f : Nat → Option Nat} (D : DQ h d el hd n f) (hn : 0 < n) (b1 : G.1 ≤ d) (b2 : G.1 ≤ el) (hx : f hd = some x) : ∃ h', sJ1_removeFirst G N (some d) h = some (.inl (some x), h') ∧ h'.1 = h.1 ∧ h'.2.1 = h.2.1 ∧ (∀ q, q ≠ d → q ≠ el → h'.2.2 q = h.2.2 q) ∧ DQ h' d el ((hd + 1) % 17) (n - 1) (va_up f hd none) := by
  obtain ⟨d1, d2, d3, d4⟩ := D
  have hde : el ≠ d := mc_ne d2 d1
  have e1 : ∀ e, (hup h el e).2.2 d = some (.inr (22, [.ref el, .int (nI hd), .int (nI ((hd + n) % 17))])) := fun e => by rw [hup_ne (Ne.symm hde)]; exact d1
  unfold sJ1_removeFirst sJ1_pollFirst sJ1_elementAt
  rw [l_bV d1, l_Fr d1 rfl, l_Fi d1 rfl, l_Arv d2 d3 (by omega) hx, l_bnd, if_neg (by simp), l_Sr d2 b2 d3 (by omega) (fun y hy => by cases hy), l_Lenr hup_at (by decide), q_inc _ d3, l_bnd, l_P (e1 _) b1 (by (show 1 < 3; omega)), l_bnd, if_neg (by simp)]
  refine ⟨_, rfl, rfl, rfl, fun q q1 q2 => by rw [hup_ne q1, hup_ne q2], ?_, by rw [hup_ne hde]; exact hup_at, Nat.mod_lt _ (by omega), by omega⟩
  rw [hup_at, show ((hd + 1) % 17 + (n - 1)) % 17 = (hd + n) % 17 by omega]
  rfl
theorem DQ.new {d : Nat} (hb : G.1 ≤ h.1) (b1 : G.1 ≤ d) (hd1 : d < h.1) (hd : h.2.2 d = some (.inr (22, [.null, .int 0, .int 0]))) : ∃ h', sJ1_init G N (some d) h = some (.inl (), h') ∧ h'.1 = h.1 + 1 ∧ h'.2.1 = h.2.1 + 17 ∧ (∀ q, q < h.1 → q ≠ d → h'.2.2 q = h.2.2 q) ∧ DQ h' d h.1 0 0 (fun _ => none) := by
  unfold sJ1_init sJ0_init_c22
  rw [l_bI, l_NN, l_bnd, show (17 : Int32) = nI 17 from rfl, l_NA (by omega), l_P (by rw [hnw_ne (by omega)]; exact hd) b1 (by (show 0 < 3; omega))]
  refine ⟨_, rfl, rfl, rfl, fun q q1 q2 => by rw [hup_ne q2, hnw_ne (by omega)], hup_at, by rw [hup_ne (by omega)]; exact hnw_at, by omega, by omega⟩
/-- cleared -/
theorem DQ.clear {d el hd n : Nat} {f : Nat → Option Nat} (D : DQ h d el hd n f) (b1 : G.1 ≤ d) (b2 : G.1 ≤ el) (hN : 100 < N) : ∃ h' f', sJ1_clear G N (some d) h = some (.inl (), h') ∧ h'.1 = h.1 ∧ h'.2.1 = h.2.1 ∧ (∀ q, q ≠ d → q ≠ el → h'.2.2 q = h.2.2 q) ∧ DQ h' d el 0 0 f' := by
  classical
  obtain ⟨d1, d2, d3, d4⟩ := D
  have hde : el ≠ d := mc_ne d2 d1
  have e17 : (hd + n) % 17 < 17 := Nat.mod_lt _ (by omega)
  -- whatever the array holds
  have fin : ∀ (u : Hp) (f' : Nat → Option Nat), u.1 = h.1 → u.2.1 = h.2.1 → (∀ q, q ≠ el → u.2.2 q = h.2.2 q) → u.2.2 el = some (.inl (5, 17, .inr (.inr (.inr (.inr f'))))) → ∃ h' f', (gP G u (some d) 22 2 (.int (0)) fun h6 => gP G h6 (some d) 22 1 (.int (0)) fun h7 => (some (.inl (), h7) : Out Unit)) = some (.inl (), h') ∧ h'.1 = h.1 ∧ h'.2.1 = h.2.1 ∧ (∀ q, q ≠ d → q ≠ el → h'.2.2 q = h.2.2 q) ∧ DQ h' d el 0 0 f' := fun u f' u1 u2 u3 u4 => by
    rw [l_P (by rw [u3 d (Ne.symm hde)]; exact d1) b1 (by (show 2 < 3; omega)), l_P hup_at b1 (by (show 1 < 3; omega)), hup_up]
    exact ⟨_, f', rfl, u1, u2, fun q q1 q2 => by rw [hup_ne q1, u3 q q2], hup_at, by rw [hup_ne hde]; exact u4, by omega, by omega⟩
  -- one run of nulls, from i to e
  have run : ∀ (j6 : Unit → Hp → Out Unit) (a2 : Int32) (k i e M : Nat) (u : Hp) (f' : Nat → Option Nat), i + k = e → e ≤ 17 → k < M → u.1 = h.1 → u.2.1 = h.2.1 → (∀ q, q ≠ el → u.2.2 q = h.2.2 q) → u.2.2 el = some (.inl (5, 17, .inr (.inr (.inr (.inr f'))))) → ∃ (u' : Hp) (f2 : Nat → Option Nat), u'.1 = h.1 ∧ u'.2.1 = h.2.1 ∧ (∀ q, q ≠ el → u'.2.2 q = h.2.2 q) ∧ u'.2.2 el = some (.inl (5, 17, .inr (.inr (.inr (.inr f2))))) ∧ gLp (bJ1_circularClear_12 G N (some el) a2 j6) M (nI i, nI e) u = gLp (bJ1_circularClear_12 G N (some el) a2 j6) (M - k) (nI e, nI e) u' := by
    intro j6 a2 k
    induction k with
    | zero =>
      intro i e M u f' h1 h2 h3 u1 u2 u3 u4
      have : i = e := by omega
      subst this
      exact ⟨u, f', u1, u2, u3, u4, rfl⟩
    | succ k ih =>
      intro i e M u f' h1 h2 h3 u1 u2 u3 u4
      obtain ⟨M', rfl⟩ : ∃ M', M = M' + 1 := ⟨M - 1, by omega⟩
      obtain ⟨u', f2, v1, v2, v3, v4, v5⟩ := ih (i + 1) e M' (hup u el (.inl (5, 17, .inr (.inr (.inr (.inr (va_up f' i none))))))) (va_up f' i none) (by omega) h2 (by omega) u1 u2 (fun q hq => by rw [hup_ne hq]; exact u3 q hq) hup_at
      refine ⟨u', f2, v1, v2, v3, v4, ?_⟩
      rw [show M' + 1 - (k + 1) = M' - k by omega, ← v5]
      show bJ1_circularClear_12 G N (some el) a2 j6 _ (nI i, nI e) u = _
      unfold bJ1_circularClear_12
      rw [if_neg (fun q => absurd ((nI_leI (by omega) (by omega)).mp q) (by omega)), l_Sr u4 b2 (by omega) (by omega) (fun y hy => by cases hy), n_1, nI_add]
  unfold sJ1_clear sJ1_circularClear
  rw [l_Fr d1 rfl, l_Fi d1 rfl, l_Fi d1 rfl, l_J]
  by_cases hc : (hd + n) % 17 < hd
  · rw [if_pos ((nI_ltI (by omega) (by omega)).mpr hc), l_Lenr d2 (by decide)]
    obtain ⟨u, f2, v1, v2, v3, v4, v5⟩ := run (fun (x4 : Unit) (h5 : Hp) => some (.inl (), h5)) (nI ((hd + n) % 17)) (17 - hd) hd 17 N h f (by omega) (by omega) (by omega) rfl rfl (fun _ _ => rfl) d2
    obtain ⟨u', f3, w1, w2, w3, w4, w5⟩ := run (fun (x4 : Unit) (h5 : Hp) => some (.inl (), h5)) (nI ((hd + n) % 17)) ((hd + n) % 17) 0 ((hd + n) % 17) (N - (17 - hd) - 1) u f2 (by omega) (by omega) (by omega) v1 v2 v3 v4
    dsimp only
    rw [l_J, v5]
    obtain ⟨M, hM⟩ : ∃ M, N - (17 - hd) = M + 1 := ⟨N - (17 - hd) - 1, by omega⟩
    rw [hM]
    rw [hM, Nat.add_sub_cancel] at w5
    show ∃ h' f', (bnd (bJ1_circularClear_12 G N (some el) (nI ((hd + n) % 17)) (fun (x4 : Unit) (h5 : Hp) => some (.inl (), h5)) (gLp (bJ1_circularClear_12 G N (some el) (nI ((hd + n) % 17)) (fun (x4 : Unit) (h5 : Hp) => some (.inl (), h5))) M) (nI 17, nI 17) u) _) = _ ∧ _
    unfold bJ1_circularClear_12
    rw [if_pos ((nI_leI (by omega) (by omega)).mpr (Nat.le_refl _)), if_neg (fun q => absurd ((nI_eq (by omega) (by omega)).mp q) (by omega))]
    obtain ⟨K, hK⟩ : ∃ K, M - (hd + n) % 17 = K + 1 := ⟨M - (hd + n) % 17 - 1, by omega⟩
    have e5 : gLp (bJ1_circularClear_12 G N (some el) (nI ((hd + n) % 17)) (fun (x4 : Unit) (h5 : Hp) => some (.inl (), h5))) M (0, nI ((hd + n) % 17)) u = some (.inl (), u') := by
      refine w5.trans ?_
      rw [hK]
      show bJ1_circularClear_12 G N (some el) (nI ((hd + n) % 17)) (fun (x4 : Unit) (h5 : Hp) => some (.inl (), h5)) _ (nI ((hd + n) % 17), nI ((hd + n) % 17)) u' = _
      unfold bJ1_circularClear_12
      rw [if_pos ((nI_leI (by omega) (by omega)).mpr (Nat.le_refl _)), if_pos rfl]
    refine Exists.imp (fun h' => Exists.imp (fun f' q => ⟨(congrArg (fun o => bnd o (fun (v4 : Unit) h5 => gP G h5 (some d) 22 2 (.int (0)) fun h6 => gP G h6 (some d) 22 1 (.int (0)) fun h7 => (some (.inl (), h7) : Out Unit))) e5).trans q.1, q.2⟩)) (fin u' f3 w1 w2 w3 w4)
  · rw [if_neg (fun q => hc ((nI_ltI (by omega) (by omega)).mp q))]
    obtain ⟨u, f2, v1, v2, v3, v4, v5⟩ := run (fun (x4 : Unit) (h5 : Hp) => some (.inl (), h5)) (nI ((hd + n) % 17)) ((hd + n) % 17 - hd) hd ((hd + n) % 17) N h f (by omega) (by omega) (by omega) rfl rfl (fun _ _ => rfl) d2
    dsimp only
    rw [l_J, v5]
    obtain ⟨M, hM⟩ : ∃ M, N - ((hd + n) % 17 - hd) = M + 1 := ⟨N - ((hd + n) % 17 - hd) - 1, by omega⟩
    rw [hM]
    have e5 : gLp (bJ1_circularClear_12 G N (some el) (nI ((hd + n) % 17)) (fun (x4 : Unit) (h5 : Hp) => some (.inl (), h5))) (M + 1) (nI ((hd + n) % 17), nI ((hd + n) % 17)) u = some (.inl (), u) := by
      show bJ1_circularClear_12 G N (some el) (nI ((hd + n) % 17)) (fun (x4 : Unit) (h5 : Hp) => some (.inl (), h5)) _ (nI ((hd + n) % 17), nI ((hd + n) % 17)) u = _
      unfold bJ1_circularClear_12
      rw [if_pos ((nI_leI (by omega) (by omega)).mpr (Nat.le_refl _)), if_pos rfl]
    rw [e5, l_bnd]
    exact fin u f2 v1 v2 v3 v4
/-- an iterator of a list -/
theorem al_iter {a n : Nat} {x : Nat → Nat} (A : AL h a n x) (hb : G.1 ≤ h.1) (ha : a < h.1) : ∃ h' mc, sJ12_iterator G N (some a) h = some (.inl (some h.1), h') ∧ h'.1 = h.1 + 1 ∧ h'.2.1 = h.2.1 + 4 ∧ (∀ q, q < h.1 → h'.2.2 q = h.2.2 q) ∧ h'.2.2 h.1 = some (.inr (25, [.int (nI 0), .int (-1), .int mc, .ref a])) ∧ ∃ e m f, h.2.2 a = some (.inr (24, [.int mc, .ref e, .int (nI n)])) ∧ h.2.2 e = some (.inl (5, m, .inr (.inr (.inr (.inr f))))) ∧ n ≤ m ∧ m < 1000 ∧ ∀ i, i < n → f i = some (x i) := by
  obtain ⟨e, m, mc, f, a1, a2, a3, a4, a5⟩ := A
  unfold sJ12_iterator sJ26_init gNew
  dsimp only
  obtain ⟨g, hg⟩ : ∃ g, g = hnw h (.inr (25, [.int 0, .int 0, .int 0, .null])) 4 := ⟨_, rfl⟩
  rw [← hg]
  have gi : g.2.2 h.1 = some (.inr (25, [.int 0, .int 0, .int 0, .null])) := by rw [hg]; exact hnw_at
  have gq : ∀ q, q < h.1 → g.2.2 q = h.2.2 q := fun q hq => by rw [hg, hnw_ne (by omega)]
  have ga : ∀ e', (hup g h.1 e').2.2 a = some (.inr (24, [.int mc, .ref e, .int (nI n)])) := fun e' => by rw [hup_ne (by omega), gq a ha]; exact a1
  rw [l_bI, l_P gi hb (by (show 3 < 4; omega)), l_NN, l_P hup_at hb (by (show 1 < 4; omega)), hup_up, l_Fr hup_at rfl, l_Fi (ga _) rfl, l_P hup_at hb (by (show 2 < 4; omega)), hup_up, l_bnd]
  exact ⟨_, mc, rfl, by rw [hg]; rfl, by rw [hg]; rfl, fun q hq => by rw [hup_ne (by omega), gq q hq], hup_at, e, m, f, a1, a2, a3, a4, a5⟩
/-- where an iterator of a list stands -/
def LIt (h : Hp) (it a n : Nat) (x : Nat → Nat) (k : Nat) : Prop := ∃ (mc lr : Int32) (e m : Nat) (f : Nat → Option Nat), h.2.2 it = some (.inr (25, [.int (nI k), .int lr, .int mc, .ref a])) ∧ h.2.2 a = some (.inr (24, [.int mc, .ref e, .int (nI n)])) ∧ h.2.2 e = some (.inl (5, m, .inr (.inr (.inr (.inr f))))) ∧ n ≤ m ∧ m < 1000 ∧ ∀ i, i < n → f i = some (x i)
theorem LIt.bV {β : Type} {it a n k : Nat} {x : Nat → Nat} {g : Nat → Out β} {kk : β → Hp → Out α} (I : LIt h it a n x k) : bV h (some it) 25 g kk = bnd (g it) kk := by
  obtain ⟨mc, lr, e, m, f, i1, -⟩ := I
  exact l_bV i1
theorem LIt.has {it a n k : Nat} {x : Nat → Nat} (I : LIt h it a n x k) (hk : k ≤ n) : sJ26_hasNext G N (some it) h = some (.inl (bZ (k < n)), h) := by
  obtain ⟨mc, lr, e, m, f, i1, i2, i3, i4, i5, i6⟩ := I
  unfold sJ26_hasNext
  rw [l_Fi i1 rfl, l_Fr i1 rfl, l_Fi i2 rfl]
  by_cases hc : k = n
  · rw [if_pos (by rw [hc]), bZ_f (by omega)]; rfl
  · rw [if_neg (fun q => hc ((nI_eq (by omega) (by omega)).mp q)), bZ_t (by omega)]; rfl
theorem LIt.next {it a n k : Nat} {x : Nat → Nat} (I : LIt h it a n x k) (hk : k < n) (hb : G.1 ≤ it) : ∃ h', sJ26_next G N (some it) h = some (.inl (some (x k)), h') ∧ h'.1 = h.1 ∧ h'.2.1 = h.2.1 ∧ (∀ q, q ≠ it → h'.2.2 q = h.2.2 q) ∧ LIt h' it a n x (k + 1) := by
  obtain ⟨mc, lr, e, m, f, i1, i2, i3, i4, i5, i6⟩ := I
  have ait : a ≠ it := cl_ne i2 i1 (by decide)
  have eit : e ≠ it := mc_ne i3 i1
  unfold sJ26_next sJ26_checkForComodification
  rw [l_bV i1, l_Fr i1 rfl, l_Fi i2 rfl, l_Fi i1 rfl, if_pos rfl, l_bnd, l_Fi i1 rfl, l_Fr i1 rfl, l_Fi i2 rfl, if_pos ((nI_ltI (by omega) (by omega)).mpr hk), l_Fr i1 rfl, l_Fr i2 rfl, l_Lenr i3 (by decide), if_pos ((nI_ltI (by omega) (by omega)).mpr (by omega)), l_P i1 hb (by (show 0 < 4; omega)), l_P hup_at hb (by (show 1 < 4; omega)), hup_up, l_Ar (by rw [hup_ne eit]; exact i3) (by omega) (by omega) (i6 k hk), n_1, nI_add]
  exact ⟨_, rfl, rfl, rfl, fun q hq => hup_ne hq, mc, nI k, e, m, f, hup_at, by rw [hup_ne ait]; exact i2, by rw [hup_ne eit]; exact i3, i4, i5, i6⟩
end L1
