/-! the linked hash map: the table twice as large -/
set_option maxRecDepth 100000
set_option maxHeartbeats 2000000
theorem entry_inj {c : List En} (hd : (adr c).Nodup) {e e' : En} (h : e ∈ c) (h' : e' ∈ c) (q : e.1 = e'.1) : e = e' := by
  obtain ⟨i, hi⟩ := List.getElem?_of_mem h
  obtain ⟨i', hi'⟩ := List.getElem?_of_mem h'
  have w1 : (adr c)[i]? = some e.1 := by rw [adr_at, hi]; rfl
  have w2 : (adr c)[i']? = some e.1 := by rw [adr_at, hi', q]; rfl
  have := (List.getElem?_inj (List.getElem?_eq_some_iff.mp w1).1 hd).mp (w1.trans w2.symm)
  subst this
  rw [hi] at hi'
  exact Option.some.inj hi'
theorem adr_mem {c : List En} {e : En} (h : e ∈ c) : e.1 ∈ adr c := List.mem_map_of_mem h
section R3
variable {G : GG} {N : Nat} {z : Bool}
theorem rs_close {hh : Hp} {es c : List En} {a' i n2 : Nat} {fn nx : Nat → Option Nat} {f : En → Bool} (hd : (adr c).Nodup) (hb : ∀ e, e ∈ c → G.1 ≤ e.1 ∧ e.1 ≠ a') (hE : ∀ e, e ∈ c → hh.2.2 e.1 = some (ND e.2.1 e.2.2.1 e.2.2.2 (nx e.1) (prv (adr es) e.1) (nxt (adr es) e.1))) (ha : hh.2.2 a' = some (.inl (8, n2, .inr (.inr (.inr (.inr fn)))))) (hba : G.1 ≤ a') (hi : i < n2) (hn2 : n2 < 2 ^ 31) (C : chOK nx (adr (c.filter f))) :
    ∃ (h' : Hp) (nx' fn' : Nat → Option Nat), h'.1 = hh.1 ∧ h'.2.1 = hh.2.1 ∧ (∀ e, e ∈ c → h'.2.2 e.1 = some (ND e.2.1 e.2.2.1 e.2.2.2 (nx' e.1) (prv (adr es) e.1) (nxt (adr es) e.1))) ∧ (∀ x, x ∈ adr (c.filter f) → nx' x = nxt (adr (c.filter f)) x) ∧ (∀ x, x ∉ adr (c.filter f) → nx' x = nx x) ∧ h'.2.2 a' = some (.inl (8, n2, .inr (.inr (.inr (.inr fn'))))) ∧ fn' i = (if c.filter f = [] then fn i else (adr (c.filter f)).head?) ∧ (∀ k, k ≠ i → fn' k = fn k) ∧ (∀ q, q ∉ adr c → q ≠ a' → h'.2.2 q = hh.2.2 q) ∧ ((adr (c.filter f)).getLast? = none → h' = hh) ∧ ((adr (c.filter f)).getLast? ≠ none → ∀ {β : Type} (k : Hp → Out β), (gP G hh (adr (c.filter f)).getLast? 27 3 (va_rf none) fun h34 => gSr G h34 (some a') 8 asl_java_util_HashMap_Node (nI i) (adr (c.filter f)).head? k) = k h') := by
  have sub : (adr (c.filter f)).Sublist (adr c) := List.Sublist.map _ List.filter_sublist
  by_cases hz : c.filter f = []
  · refine ⟨hh, nx, fn, rfl, rfl, hE, fun x hx => ?_, fun _ _ => rfl, ha, by rw [if_pos hz], fun _ _ => rfl, fun _ _ _ => rfl, fun _ => rfl, fun q => absurd (by rw [hz]; rfl) q⟩
    rw [hz] at hx
    exact absurd hx (by simp [adr])
  · obtain ⟨x0, l0, hx0⟩ : ∃ x l, c.filter f = x :: l := by
      cases h : c.filter f with
      | nil => exact absurd h hz
      | cons x l => exact ⟨x, l, rfl⟩
    obtain ⟨l, hl⟩ : ∃ l, (adr (c.filter f)).getLast? = some l := by
      cases h : (adr (c.filter f)).getLast? with
      | none => rw [List.getLast?_eq_none_iff] at h; exact absurd (by rw [hx0] at h; simp [adr] at h) hz
      | some l => exact ⟨l, rfl⟩
    have hlm := List.mem_of_getLast? hl
    obtain ⟨e', b1, b2⟩ := List.mem_map.mp hlm
    have hm' : e' ∈ c := (List.mem_filter.mp b1).1
    have E' := hE e' hm'
    have hm0 : x0 ∈ c := (List.mem_filter.mp (by rw [hx0]; exact List.mem_cons_self)).1
    have hla : l ≠ a' := by rw [← b2]; exact (hb e' hm').2
    refine ⟨hup (hup hh l (ND e'.2.1 e'.2.2.1 e'.2.2.2 none (prv (adr es) e'.1) (nxt (adr es) e'.1))) a' (.inl (8, n2, .inr (.inr (.inr (.inr (va_up fn i (some x0.1))))))), va_up nx l none, va_up fn i (some x0.1), rfl, rfl, fun e he => ?_, fun x hx => ?_, fun x hx => ?_, hup_at, ?_, fun k hk => by rw [va_upE, if_neg hk], fun q q1 q2 => ?_, fun q => absurd (hl.symm.trans q) (by simp), fun _ β k => ?_⟩
    · rw [hup_ne (hb e he).2, va_upE]
      by_cases hq : e.1 = l
      · have : e = e' := entry_inj hd he hm' (hq.trans b2.symm)
        subst this
        rw [if_pos hq, hq, hup_at]
      · rw [if_neg hq, hup_ne hq]
        exact hE e he
    · exact chOK_nxt (chOK_upd C (Or.inr ⟨hl, sub.nodup hd⟩)) (fun y hy => by rw [hl] at hy; cases hy; rw [va_upE, if_pos rfl]) (sub.nodup hd) hx
    · rw [va_upE, if_neg (fun q => hx (by rw [q]; exact hlm))]
    · rw [if_neg hz, va_upE, if_pos rfl, hx0]
      rfl
    · rw [hup_ne q2, hup_ne (fun q => q1 (by rw [q]; exact sub.subset hlm))]
    · rw [hl, l_P (by rw [← b2]; exact E') (by rw [← b2]; exact (hb e' hm').1) (by (show 3 < 6; omega))]
      rw [l_Sr (by rw [hup_ne (Ne.symm hla)]; exact ha) hba hi hn2 (fun y hy => ?_)]
      · rw [hx0]
        rfl
      · have hy2 : x0.1 = y := by simpa [hx0, adr] using hy
        subst hy2
        by_cases hq : x0.1 = l
        · exact ⟨27, _, by rw [hq, hup_at], by decide⟩
        · exact ⟨27, _, by rw [hup_ne hq]; exact hE x0 hm0, by decide⟩
/-- behind j buckets -/
def ROI (h3 : Hp) (es : List En) (n a a' : Nat) (j : Nat) (hh : Hp) : Prop := hh.1 = h3.1 ∧ hh.2.1 = h3.2.1 ∧
  (∃ fo : Nat → Option Nat, hh.2.2 a = some (.inl (8, n, .inr (.inr (.inr (.inr fo))))) ∧ ∀ i, i < n → j ≤ i → fo i = (adr (chn n i es)).head?) ∧
  (∃ fn : Nat → Option Nat, hh.2.2 a' = some (.inl (8, 2 * n, .inr (.inr (.inr (.inr fn))))) ∧ (∀ i, i < n → fn i = if i < j then (adr (chn (2 * n) i es)).head? else none) ∧ (∀ i, i < n → fn (i + n) = if i < j then (adr (chn (2 * n) (i + n) es)).head? else none)) ∧
  (∀ e, e ∈ es → hh.2.2 e.1 = some (ND e.2.1 e.2.2.1 e.2.2.2 (if e.2.1 % n < j then nxt (adr (chn (2 * n) (e.2.1 % (2 * n)) es)) e.1 else nxt (adr (chn n (e.2.1 % n) es)) e.1) (prv (adr es) e.1) (nxt (adr es) e.1))) ∧
  ∀ q, q ≠ a → q ≠ a' → q ∉ adr es → hh.2.2 q = h3.2.2 q
theorem ro_step {h3 hh : Hp} {es : List En} {n k a a' j : Nat} {x6 : Int32} (hn : n = 2 ^ k) (hk : k ≤ 7) (hd : (adr es).Nodup) (hb : ∀ e, e ∈ es → e.2.1 < 128 ∧ G.1 ≤ e.1 ∧ e.1 ≠ a ∧ e.1 ≠ a') (hba : G.1 ≤ a) (hba' : G.1 ≤ a') (haa : a ≠ a') (hN : es.length < N) (hj : j < n) (I : ROI h3 es n a a' j hh) (self : Int32 → Hp → Out (Option Nat)) : ∃ h', ROI h3 es n a a' (j + 1) h' ∧ bJ23_resize_c26_151 G N (some a) (nI n) (nI (2 * n), x6) (some a') self (nI j) hh = self (nI (j + 1)) h' := by
  classical
  obtain ⟨I1, I2, ⟨fo, I3, I4⟩, ⟨fn, I5, I6, I7⟩, I8, I9⟩ := I
  have hn0 : 0 < n := by rw [hn]; exact Nat.two_pow_pos k
  have hn7 : n ≤ 128 := by
    rw [hn]; exact Nat.le_trans (Nat.pow_le_pow_right (by omega) hk) (by decide)
  have hin : ∀ e, e ∈ chn n j es → e ∈ es ∧ e.2.1 % n = j := fun e he => by
    have := List.mem_filter.mp he
    exact ⟨this.1, by simpa using this.2⟩
  have hjn : j % n = j := Nat.mod_eq_of_lt hj
  have hjn2 : (j + n) % n = j := by rw [Nat.add_mod_right, hjn]
  have elo : chn (2 * n) j es = (chn n j es).filter (fun e => e.2.1 % (2 * n) == j) := by rw [chn_two, hjn]
  have ehi : chn (2 * n) (j + n) es = (chn n j es).filter (fun e => e.2.1 % (2 * n) == j + n) := by rw [chn_two, hjn2]
  have hdc : (adr (chn n j es)).Nodup := chn_sub.nodup hd
  have hmod : ∀ e : En, e.2.1 % n = j → e.2.1 % (2 * n) = j ∨ e.2.1 % (2 * n) = j + n := fun e he => by
    rcases two_mod (a := e.2.1) hn0 with q | q <;> omega
  -- what is left to show, when the bucket's result is known
  have fin : ∀ (h' : Hp) (fo' fn' : Nat → Option Nat), h'.1 = hh.1 → h'.2.1 = hh.2.1 → h'.2.2 a = some (.inl (8, n, .inr (.inr (.inr (.inr fo'))))) → (∀ i, i ≠ j → fo' i = fo i) → h'.2.2 a' = some (.inl (8, 2 * n, .inr (.inr (.inr (.inr fn'))))) → (∀ i, i ≠ j → i ≠ j + n → fn' i = fn i) → fn' j = (adr (chn (2 * n) j es)).head? → fn' (j + n) = (adr (chn (2 * n) (j + n) es)).head? → (∀ e, e ∈ chn n j es → h'.2.2 e.1 = some (ND e.2.1 e.2.2.1 e.2.2.2 (nxt (adr (chn (2 * n) (e.2.1 % (2 * n)) es)) e.1) (prv (adr es) e.1) (nxt (adr es) e.1))) → (∀ q, q ≠ a → q ≠ a' → q ∉ adr (chn n j es) → h'.2.2 q = hh.2.2 q) → ROI h3 es n a a' (j + 1) h' := by
    intro h' fo' fn' f1 f2 f3 f4 f5 f6 f7 f8 f9 f10
    refine ⟨f1.trans I1, f2.trans I2, ⟨fo', f3, fun i hi hji => by rw [f4 i (by omega)]; exact I4 i hi (by omega)⟩, ⟨fn', f5, fun i hi => ?_, fun i hi => ?_⟩, fun e he => ?_, fun q q1 q2 q3 => ?_⟩
    · by_cases hq : i = j
      · subst hq; rw [f7, if_pos (by omega)]
      · rw [f6 i hq (by omega), I6 i hi]
        by_cases hq2 : i < j
        · rw [if_pos hq2, if_pos (by omega)]
        · rw [if_neg hq2, if_neg (by omega)]
    · by_cases hq : i = j
      · subst hq; rw [f8, if_pos (by omega)]
      · rw [f6 (i + n) (by omega) (by omega), I7 i hi]
        by_cases hq2 : i < j
        · rw [if_pos hq2, if_pos (by omega)]
        · rw [if_neg hq2, if_neg (by omega)]
    · by_cases hq : e.2.1 % n = j
      · rw [if_pos (by omega)]
        exact f9 e (List.mem_filter.mpr ⟨he, by simp [hq]⟩)
      · have hnc : e.1 ∉ adr (chn n j es) := fun hx => by
          obtain ⟨e', b1, b2⟩ := List.mem_map.mp hx
          have := entry_inj hd he (hin e' b1).1 b2.symm
          subst this
          exact hq (hin _ b1).2
        rw [f10 e.1 (hb e he).2.2.1 (hb e he).2.2.2 hnc, I8 e he]
        by_cases hq2 : e.2.1 % n < j
        · rw [if_pos hq2, if_pos (by omega)]
        · rw [if_neg hq2, if_neg (by omega)]
    · rw [f10 q q1 q2 (fun hx => q3 (chn_sub.subset hx))]
      exact I9 q q1 q2 q3
  by_cases hz : chn n j es = []
  · refine ⟨hh, fin hh fo fn rfl rfl I3 (fun _ _ => rfl) I5 (fun _ _ _ => rfl) ?_ ?_ (fun e he => by rw [hz] at he; exact nomatch he) (fun _ _ _ _ => rfl), ?_⟩
    · rw [I6 j hj, if_neg (by omega), elo, hz]; rfl
    · rw [I7 j hj, if_neg (by omega), ehi, hz]; rfl
    · unfold bJ23_resize_c26_151
      rw [if_neg (fun q => absurd ((nI_leI (by omega) (by omega)).mp q) (by omega)), l_Arv (x := none) I3 hj (by omega) (by rw [I4 j hj (Nat.le_refl _), hz]; rfl), l_J, if_pos rfl]
      dsimp only
      rw [n_1, nI_add]
  · obtain ⟨c0, cs, hc0⟩ : ∃ x l, chn n j es = x :: l := by
      cases h : chn n j es with
      | nil => exact absurd h hz
      | cons x l => exact ⟨x, l, rfl⟩
    have hm0 : c0 ∈ chn n j es := by rw [hc0]; exact List.mem_cons_self
    obtain ⟨m0, m1⟩ := hin c0 hm0
    obtain ⟨b0, b1, b2, b3⟩ := hb c0 m0
    -- the old bucket emptied
    have cell : ∀ e, e ∈ chn n j es → (hup hh a (.inl (8, n, .inr (.inr (.inr (.inr (va_up fo j none))))))).2.2 e.1 = some (ND e.2.1 e.2.2.1 e.2.2.2 (nxt (adr (chn n j es)) e.1) (prv (adr es) e.1) (nxt (adr es) e.1)) := fun e he => by
      have := hin e he
      rw [hup_ne (hb e this.1).2.2.1, I8 e this.1, if_neg (by omega), this.2]
    have headE : (adr (chn n j es)).head? = some c0.1 := by rw [hc0]; rfl
    have a'E : (hup hh a (.inl (8, n, .inr (.inr (.inr (.inr (va_up fo j none))))))).2.2 a' = some (.inl (8, 2 * n, .inr (.inr (.inr (.inr fn))))) := by rw [hup_ne (Ne.symm haa)]; exact I5
    by_cases hs : cs = []
    · -- one alone
      subst hs
      have hnx : nxt (adr (chn n j es)) c0.1 = none := by rw [hc0]; rfl
      have ht : c0.2.1 % (2 * n) < 2 * n := Nat.mod_lt _ (by omega)
      have ff : ∀ i, (chn n j es).filter (fun e : En => e.2.1 % (2 * n) == i) = if c0.2.1 % (2 * n) = i then [c0] else [] := fun i => by
        rw [hc0]
        by_cases hi : c0.2.1 % (2 * n) = i
        · rw [if_pos hi]; simp [hi]
        · rw [if_neg hi]; simp [hi]
      refine ⟨hup (hup hh a (.inl (8, n, .inr (.inr (.inr (.inr (va_up fo j none))))))) a' (.inl (8, 2 * n, .inr (.inr (.inr (.inr (va_up fn (c0.2.1 % (2 * n)) (some c0.1))))))), fin _ (va_up fo j none) (va_up fn (c0.2.1 % (2 * n)) (some c0.1)) rfl rfl ?_ (fun i hi => by rw [va_upE, if_neg hi]) hup_at (fun i h1 h2 => ?_) ?_ ?_ (fun e he => ?_) (fun q q1 q2 _ => by rw [hup_ne q2, hup_ne q1]), ?_⟩
      · rw [hup_ne haa, hup_at]
      · rw [va_upE, if_neg]
        rcases hmod c0 m1 with q | q <;> omega
      · rw [elo, ff, va_upE]
        by_cases hq : c0.2.1 % (2 * n) = j
        · rw [if_pos hq, if_pos hq.symm]; rfl
        · rw [if_neg hq, if_neg (fun q => hq q.symm), I6 j hj, if_neg (by omega)]; rfl
      · rw [ehi, ff, va_upE]
        by_cases hq : c0.2.1 % (2 * n) = j + n
        · rw [if_pos hq, if_pos hq.symm]; rfl
        · rw [if_neg hq, if_neg (fun q => hq q.symm), I7 j hj, if_neg (by omega)]; rfl
      · have := he
        rw [hc0] at this
        have hec : e = c0 := by simpa using this
        subst hec
        rw [hup_ne b3, cell e he, hnx]
        have : chn (2 * n) (e.2.1 % (2 * n)) es = [e] := by
          rw [chn_two, Nat.mod_mul_left_mod, m1, ff, if_pos rfl]
        rw [this]
        rfl
      · unfold bJ23_resize_c26_151
        rw [if_neg (fun q => absurd ((nI_leI (by omega) (by omega)).mp q) (by omega)), l_Arv I3 hj (by omega) ((I4 j hj (Nat.le_refl _)).trans headE), l_J, if_neg (by simp), l_Sr I3 hba hj (by omega) (fun y hy => by cases hy), l_Fv (x := none) (cell c0 hm0) (by rw [hnx]; rfl), if_pos rfl, l_Fi (cell c0 hm0) rfl]
        rw [show nI c0.2.1 &&& (nI (2 * n) - 1) = nI (c0.2.1 % (2 * n)) by rw [Int32.and_comm]; exact ix_ok (k := k + 1) (by rw [hn, Nat.pow_succ]; omega) (by omega)]
        rw [l_Sr a'E hba' ht (by omega) (fun y hy => by cases hy; exact ⟨27, _, cell c0 hm0, by decide⟩)]
        dsimp only
        rw [n_1, nI_add]
    · -- many
      have hlen : 1 < (chn n j es).length := by
        rw [hc0]
        have := List.length_pos_iff.mpr hs
        simp
        omega
      have hnx : nxt (adr (chn n j es)) c0.1 ≠ none := by
        rw [nxt_at _ hdc 0 c0.1 (by rw [adr_at, hc0]; rfl), adr_at, List.getElem?_eq_getElem (show 0 + 1 < (chn n j es).length by omega)]
        simp
      obtain ⟨v, hv⟩ := Option.ne_none_iff_exists'.mp hnx
      have hbc : ∀ e, e ∈ chn n j es → G.1 ≤ e.1 ∧ e.1 ≠ a' := fun e he => ⟨(hb e (hin e he).1).2.1, (hb e (hin e he).1).2.2.2⟩
      obtain ⟨x', h', R, eR⟩ := rs_split (N := N) (G := G) (es := es) hn (show k < 8 by omega) hdc (fun e he => ⟨(hin e he).2, (hb e (hin e he).1).1, (hb e (hin e he).1).2.1⟩) cell (by omega) (Nat.lt_of_le_of_lt (List.length_filter_le _ _) hN) (fun (x26 : Option Nat × Option Nat × Option Nat × Option Nat) (h27 : Hp) =>
        gJ (fun (x29 : Unit) (h30 : Hp) =>
        if x26.2.2.2 = none then ((fun (x20 : Unit) (h21 : Hp) => self (nI j + 1) h21) () h30)
        else gP G h30 x26.2.2.2 27 3 (va_rf none) fun h32 =>
        gSr G h32 (some a') 8 asl_java_util_HashMap_Node (nI j + nI n) x26.2.2.1 fun h33 =>
        (fun (x20 : Unit) (h21 : Hp) => self (nI j + 1) h21) () h33) fun j31 =>
        if x26.2.1 = none then (j31 () h27)
        else gP G h27 x26.2.1 27 3 (va_rf none) fun h34 =>
        gSr G h34 (some a') 8 asl_java_util_HashMap_Node (nI j) x26.1 fun h35 =>
        j31 () h35)
      obtain ⟨R1, R2, R3, nx, R4, -, R6, R7, R8⟩ := R
      rw [List.take_length] at R1 R6 R7
      have haC : a ∉ adr (chn n j es) := fun hx => by
        obtain ⟨e, q1, q2⟩ := List.mem_map.mp hx
        exact (hb e (hin e q1).1).2.2.1 q2
      have haC' : a' ∉ adr (chn n j es) := fun hx => by
        obtain ⟨e, q1, q2⟩ := List.mem_map.mp hx
        exact (hbc e q1).2 q2
      obtain ⟨h5, nx5, fn5, s1, s2, s3, s4, s5, s6, s7, s8, s9, s10, s11⟩ := rs_close (G := G) (i := j) (f := fun e => e.2.1 % (2 * n) == j) hdc hbc R4 (by rw [R8 a' haC']; exact a'E) hba' (by omega) (by omega) R6
      have R7' : chOK nx5 (adr ((chn n j es).filter (fun e => e.2.1 % (2 * n) == j + n))) := by
        intro i x y hx hy
        rw [s5 x (fun hq => ?_)]
        · exact R7 i x y hx hy
        · obtain ⟨e1, p1, p2⟩ := List.mem_map.mp hq
          obtain ⟨e2, p3, p4⟩ := List.mem_map.mp (List.mem_of_getElem? hx)
          have q1 := List.mem_filter.mp p1
          have q2 := List.mem_filter.mp p3
          have := entry_inj hdc q1.1 q2.1 (p2.trans p4.symm)
          subst this
          have q3 := q1.2
          have q4 := q2.2
          simp only [beq_iff_eq] at q3 q4
          omega
      obtain ⟨h6, nx6, fn6, t1, t2, t3, t4, t5, t6, t7, t8, t9, t10, t11⟩ := rs_close (G := G) (i := j + n) (f := fun e => e.2.1 % (2 * n) == j + n) hdc hbc s3 s6 hba' (by omega) (by omega) R7'
      refine ⟨h6, fin h6 (va_up fo j none) fn6 (by rw [t1, s1, R2]; rfl) (by rw [t2, s2, R3]; rfl) ?_ (fun i hi => by rw [va_upE, if_neg hi]) t6 (fun i h1 h2 => by rw [t8 i h2, s8 i h1]) ?_ ?_ (fun e he => ?_) (fun q q1 q2 q3 => ?_), ?_⟩
      · rw [t9 a haC haa, s9 a haC haa, R8 a haC, hup_at]
      · rw [t8 j (by omega), s7, elo]
        by_cases hq : (chn n j es).filter (fun e => e.2.1 % (2 * n) == j) = []
        · rw [if_pos hq, I6 j hj, if_neg (by omega), hq]; rfl
        · rw [if_neg hq]
      · rw [t7, s8 (j + n) (by omega), ehi]
        by_cases hq : (chn n j es).filter (fun e => e.2.1 % (2 * n) == j + n) = []
        · rw [if_pos hq, I7 j hj, if_neg (by omega), hq]; rfl
        · rw [if_neg hq]
      · rw [t3 e he]
        have hej := (hin e he).2
        rw [chn_two, Nat.mod_mul_left_mod, hej]
        have hme : e.1 ∈ adr ((chn n j es).filter (fun e' => e'.2.1 % (2 * n) == e.2.1 % (2 * n))) := adr_mem (List.mem_filter.mpr ⟨he, by simp⟩)
        rcases hmod e hej with q | q
        · rw [q] at hme ⊢
          rw [t5 e.1 (fun hq => ?_), s4 e.1 hme]
          obtain ⟨e1, p1, p2⟩ := List.mem_map.mp hq
          have q1 := List.mem_filter.mp p1
          have := entry_inj hdc q1.1 he p2
          subst this
          have q3 := q1.2
          simp only [beq_iff_eq] at q3
          omega
        · rw [q] at hme ⊢
          rw [t4 e.1 hme]
      · rw [t9 q q3 q2, s9 q q3 q2, R8 q q3, hup_ne q1]
      · unfold bJ23_resize_c26_151
        rw [if_neg (fun q => absurd ((nI_leI (by omega) (by omega)).mp q) (by omega)), l_Arv I3 hj (by omega) ((I4 j hj (Nat.le_refl _)).trans headE), l_J, if_neg (by simp), l_Sr I3 hba hj (by omega) (fun y hy => by cases hy), l_Fv (cell c0 hm0) rfl, if_neg hnx, gin_e (cell c0 hm0), if_pos (show (0 : Int32) = 0 from rfl), l_J]
        rw [headE] at eR
        refine eR.trans ?_
        rw [R1, l_J, nI_add]
        have e2 : (if (adr ((chn n j es).filter (fun e => e.2.1 % (2 * n) == j + n))).getLast? = none then self (nI j + 1) h5 else gP G h5 (adr ((chn n j es).filter (fun e => e.2.1 % (2 * n) == j + n))).getLast? 27 3 (va_rf none) fun h32 => gSr G h32 (some a') 8 asl_java_util_HashMap_Node (nI (j + n)) (adr ((chn n j es).filter (fun e => e.2.1 % (2 * n) == j + n))).head? fun h33 => self (nI j + 1) h33) = self (nI (j + 1)) h6 := by
          by_cases hq : (adr ((chn n j es).filter (fun e => e.2.1 % (2 * n) == j + n))).getLast? = none
          · rw [if_pos hq, t10 hq, n_1, nI_add]
          · rw [if_neg hq, t11 hq, n_1, nI_add]
        by_cases hq : (adr ((chn n j es).filter (fun e => e.2.1 % (2 * n) == j))).getLast? = none
        · rw [if_pos hq, ← s10 hq]
          exact e2
        · rw [if_neg hq, s11 hq]
          exact e2
end R3
