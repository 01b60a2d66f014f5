/-! lists of addresses: one taken away -/
set_option maxRecDepth 100000
theorem nxt_cons {y a : Nat} {l : List Nat} : nxt (y :: l) a = if a = y then l.head? else nxt l a := by
  cases l with
  | nil => show none = _; split <;> rfl
  | cons z l => rfl
theorem prv_cons {y a : Nat} {l : List Nat} : prv (y :: l) a = if l.head? = some a then some y else prv l a := by
  cases l with
  | nil => rfl
  | cons z l =>
    show (if a = z then some y else prv (z :: l) a) = if some z = some a then some y else prv (z :: l) a
    by_cases h : a = z
    · rw [if_pos h, if_pos (by rw [h])]
    · rw [if_neg h, if_neg (fun q => h (Option.some.inj q).symm)]
theorem nxt_mem : ∀ {l : List Nat} {a x : Nat}, nxt l a = some x → x ∈ l
  | [], a, x, h => nomatch h
  | y :: l, a, x, h => by
    rw [nxt_cons] at h
    by_cases ha : a = y
    · rw [if_pos ha] at h; exact List.mem_cons_of_mem _ (List.mem_of_head? h)
    · rw [if_neg ha] at h; exact List.mem_cons_of_mem _ (nxt_mem h)
theorem prv_mem : ∀ {l : List Nat} {a x : Nat}, prv l a = some x → x ∈ l ∧ a ∈ l
  | [], a, x, h => nomatch h
  | y :: l, a, x, h => by
    rw [prv_cons] at h
    by_cases ha : l.head? = some a
    · rw [if_pos ha] at h
      cases h
      exact ⟨List.mem_cons_self, List.mem_cons_of_mem _ (List.mem_of_head? ha)⟩
    · rw [if_neg ha] at h
      have := prv_mem h
      exact ⟨List.mem_cons_of_mem _ this.1, List.mem_cons_of_mem _ this.2⟩
theorem prv_head {l : List Nat} {a : Nat} (hd : l.Nodup) (h : l.head? = some a) : prv l a = none := by
  cases l with
  | nil => rfl
  | cons y l =>
    have hy : y = a := by simpa using h
    subst hy
    have hn := (List.nodup_cons.mp hd).1
    rw [prv_cons, if_neg (fun q => hn (List.mem_of_head? q))]
    cases h2 : prv l y with
    | none => rfl
    | some x => exact absurd (prv_mem h2).2 hn
theorem prv_some : ∀ {l : List Nat} {a : Nat}, a ∈ l → l.head? ≠ some a → ∃ p, prv l a = some p
  | [], a, h, _ => nomatch h
  | y :: l, a, h, h2 => by
    rw [prv_cons]
    by_cases ha : l.head? = some a
    · exact ⟨y, if_pos ha⟩
    · rw [if_neg ha]
      refine prv_some ?_ ha
      rcases List.mem_cons.mp h with q | q
      · exact absurd (by rw [q]; rfl) h2
      · exact q
def lrm (x : Nat) (l : List Nat) : List Nat := l.filter (fun y => y != x)
theorem lrm_not {x : Nat} {l : List Nat} (h : x ∉ l) : lrm x l = l := by
  unfold lrm
  refine List.filter_eq_self.mpr fun a ha => ?_
  have : a ≠ x := fun e => h (by rw [← e]; exact ha)
  simpa using this
theorem lrm_eq {x : Nat} {l : List Nat} : lrm x (x :: l) = lrm x l := by unfold lrm; simp
theorem lrm_ne {x y : Nat} {l : List Nat} (h : y ≠ x) : lrm x (y :: l) = y :: lrm x l := by unfold lrm; simp [h]
theorem head_rem {x : Nat} {l : List Nat} (hd : l.Nodup) : (lrm x l).head? = if l.head? = some x then nxt l x else l.head? := by
  cases l with
  | nil => rfl
  | cons z l =>
    have hn := (List.nodup_cons.mp hd).1
    by_cases h : z = x
    · subst h
      rw [lrm_eq, lrm_not hn, if_pos (show (z :: l).head? = some z from rfl), nxt_cons, if_pos rfl]
    · rw [lrm_ne h, if_neg (show ¬ (z :: l).head? = some x from fun q => h (Option.some.inj q))]
      rfl
theorem nxt_rem {x a : Nat} (ha : a ≠ x) : ∀ {l : List Nat}, l.Nodup → nxt (lrm x l) a = if nxt l a = some x then nxt l x else nxt l a
  | [], _ => rfl
  | y :: l, hd => by
    have hn := (List.nodup_cons.mp hd).1
    have hd2 := (List.nodup_cons.mp hd).2
    by_cases h : y = x
    · subst h
      rw [lrm_eq, lrm_not hn, nxt_cons, if_neg ha, if_neg (fun q => hn (nxt_mem q))]
    · rw [lrm_ne h, nxt_cons, nxt_cons, nxt_cons (a := x), if_neg (c := x = y) (fun q => h q.symm)]
      by_cases h2 : a = y
      · rw [if_pos h2, if_pos h2, head_rem hd2]
      · rw [if_neg h2, if_neg h2, nxt_rem ha hd2]
theorem prv_rem {x a : Nat} (ha : a ≠ x) : ∀ {l : List Nat}, l.Nodup → prv (lrm x l) a = if prv l a = some x then prv l x else prv l a
  | [], _ => rfl
  | y :: l, hd => by
    have hn := (List.nodup_cons.mp hd).1
    have hd2 := (List.nodup_cons.mp hd).2
    by_cases h : y = x
    · subst h
      rw [lrm_eq, lrm_not hn, prv_cons]
      by_cases h2 : l.head? = some a
      · rw [if_pos h2, if_pos rfl, prv_head hd2 h2, prv_head hd rfl]
      · rw [if_neg h2, if_neg (fun q => hn (prv_mem q).1)]
    · rw [lrm_ne h, prv_cons, prv_cons, head_rem hd2]
      by_cases h2 : l.head? = some x
      · rw [if_pos h2, if_neg (c := l.head? = some a) (fun q => ha (Option.some.inj (q.symm.trans h2)))]
        cases l with
        | nil => cases h2
        | cons z l =>
          have hz : z = x := by simpa using h2
          subst hz
          have hn3 := (List.nodup_cons.mp hd2).1
          rw [lrm_eq, lrm_not hn3, nxt_cons, if_pos rfl, prv_cons]
          by_cases h3 : l.head? = some a
          · rw [if_pos h3, if_pos h3, if_pos rfl, prv_cons, if_pos (show (z :: l).head? = some z from rfl)]
          · rw [if_neg h3, if_neg h3, if_neg (fun q => hn3 (prv_mem q).1)]
      · rw [if_neg h2]
        by_cases h3 : l.head? = some a
        · rw [if_pos h3, if_pos h3, if_neg (fun q => h (Option.some.inj q))]
        · rw [if_neg h3, if_neg h3, prv_rem ha hd2, prv_cons (a := x), if_neg h2]
theorem last_rem {x : Nat} : ∀ {l : List Nat}, l.Nodup → (lrm x l).getLast? = if l.getLast? = some x then prv l x else l.getLast?
  | [], _ => rfl
  | y :: l, hd => by
    have hn := (List.nodup_cons.mp hd).1
    have hd2 := (List.nodup_cons.mp hd).2
    by_cases h : y = x
    · subst h
      rw [lrm_eq, lrm_not hn]
      cases l with
      | nil => rw [if_pos (show [y].getLast? = some y from rfl)]; rfl
      | cons z l =>
        rw [List.getLast?_cons_cons, if_neg (fun q => hn (List.mem_of_getLast? q))]
    · rw [lrm_ne h, List.getLast?_cons, last_rem hd2]
      cases l with
      | nil => rw [if_neg (show ¬ [y].getLast? = some x from fun q => h (Option.some.inj q))]; rfl
      | cons z l =>
        rw [List.getLast?_cons_cons]
        by_cases h2 : (z :: l).getLast? = some x
        · rw [if_pos h2, if_pos h2, prv_cons (y := y)]
          by_cases h3 : (z :: l).head? = some x
          · rw [if_pos h3, prv_head hd2 h3]; rfl
          · rw [if_neg h3]
            obtain ⟨p, hp⟩ := prv_some (List.mem_of_getLast? h2) h3
            rw [hp]; rfl
        · rw [if_neg h2, if_neg h2]
          cases h3 : (z :: l).getLast? with
          | none => simp at h3
          | some p => rfl
/-- an entry taken away -/
def rmv (es : List En) (hs : Nat) : List En := es.filter (fun e => e.2.1 != hs)
theorem adr_rmv {es : List En} {e : En} (hd : (adr es).Nodup) (hd2 : (es.map (fun e => e.2.1)).Nodup) (he : e ∈ es) : adr (rmv es e.2.1) = lrm e.1 (adr es) := by
  unfold rmv lrm adr
  rw [List.filter_map]
  congr 1
  refine List.filter_congr fun x hx => ?_
  show (x.2.1 != e.2.1) = (x.1 != e.1)
  by_cases h : x.1 = e.1
  · rw [entry_inj hd hx he h]; simp
  · have : x.2.1 ≠ e.2.1 := fun q => by
      have h1 := look_some hd2 hx q
      have h2 := look_some hd2 he rfl
      rw [h1] at h2
      exact h (by rw [Option.some.inj h2])
    rw [bne_iff_ne.mpr this, bne_iff_ne.mpr h]
theorem chn_rmv {es : List En} {n i hs : Nat} : chn n i (rmv es hs) = rmv (chn n i es) hs := by
  unfold chn rmv
  rw [List.filter_filter, List.filter_filter]
  refine congrArg (fun p => List.filter p es) (funext fun e => ?_)
  rw [Bool.and_comm]
theorem rmv_not {es : List En} {hs : Nat} (h : ∀ e, e ∈ es → e.2.1 ≠ hs) : rmv es hs = es := by
  unfold rmv
  exact List.filter_eq_self.mpr fun e he => by simpa using h e he
theorem look_rmv {es : List En} {hs p : Nat} : look (rmv es hs) p = if p = hs then none else look es p := by
  unfold look rmv
  rw [List.find?_filter]
  by_cases h : p = hs
  · rw [if_pos h, List.find?_eq_none]
    intro e _
    subst h
    by_cases h2 : e.2.1 = p
    · simp [h2]
    · simp [h2]
  · rw [if_neg h]
    refine congrArg (fun f => List.find? f es) (funext fun e => ?_)
    by_cases h2 : e.2.1 = p
    · simp [h2, h]
    · simp [h2]
