/-! lists of addresses: who is next, who is before, when one is added or taken away -/
set_option maxRecDepth 100000
theorem nxt_app : ∀ (l : List Nat) (x a : Nat), x ∉ l → l.Nodup → nxt (l ++ [x]) a = if l.getLast? = some a then some x else nxt l a
  | [], x, a, _, _ => by simp [nxt]
  | [y], x, a, hx, _ => by
    show (if a = y then some x else nxt [x] a) = _
    by_cases h : a = y
    · subst h; simp
    · have : ¬ y = a := fun e => h e.symm
      simp [h, this, nxt]
  | y :: w :: l, x, a, hx, hd => by
    have hx2 : x ∉ (w :: l) := fun h => hx (List.mem_cons_of_mem _ h)
    have hd2 : (w :: l).Nodup := (List.nodup_cons.mp hd).2
    have hy : y ∉ (w :: l) := (List.nodup_cons.mp hd).1
    show (if a = y then some w else nxt ((w :: l) ++ [x]) a) = if (y :: w :: l).getLast? = some a then some x else (if a = y then some w else nxt (w :: l) a)
    rw [nxt_app (w :: l) x a hx2 hd2, List.getLast?_cons_cons]
    by_cases h : a = y
    · subst h
      rw [if_pos rfl]
      by_cases h2 : (w :: l).getLast? = some a
      · exact absurd (List.mem_of_getLast? h2) hy
      · rw [if_neg h2, if_pos rfl]
    · rw [if_neg h]
      by_cases h2 : (w :: l).getLast? = some a
      · rw [if_pos h2, if_pos h2]
      · rw [if_neg h2, if_neg h2, if_neg h]
theorem nxt_new : ∀ (l : List Nat) (x : Nat), x ∉ l → nxt (l ++ [x]) x = none
  | [], x, _ => rfl
  | [y], x, hx => by
    show (if x = y then some x else nxt [x] x) = _
    rw [if_neg (fun e => hx (by simp [e]))]
    rfl
  | y :: w :: l, x, hx => by
    show (if x = y then some w else nxt ((w :: l) ++ [x]) x) = _
    rw [if_neg (fun e => hx (by simp [e]))]
    exact nxt_new (w :: l) x (fun h => hx (List.mem_cons_of_mem _ h))
theorem prv_app : ∀ (l : List Nat) (x a : Nat), a ≠ x → prv (l ++ [x]) a = prv l a
  | [], x, a, _ => rfl
  | [y], x, a, h => by
    show (if a = x then some y else prv [x] a) = _
    rw [if_neg h]
    rfl
  | y :: w :: l, x, a, h => by
    show (if a = w then some y else prv ((w :: l) ++ [x]) a) = (if a = w then some y else prv (w :: l) a)
    rw [prv_app (w :: l) x a h]
theorem prv_new : ∀ (l : List Nat) (x : Nat), x ∉ l → prv (l ++ [x]) x = l.getLast?
  | [], x, _ => rfl
  | [y], x, _ => by
    show (if x = x then some y else prv [x] x) = _
    rw [if_pos rfl]
    rfl
  | y :: w :: l, x, hx => by
    show (if x = w then some y else prv ((w :: l) ++ [x]) x) = _
    rw [if_neg (fun e => hx (by simp [e])), prv_new (w :: l) x (fun h => hx (List.mem_cons_of_mem _ h)), List.getLast?_cons_cons]
theorem adr_app {es : List En} {e : En} : adr (es ++ [e]) = adr es ++ [e.1] := by
  unfold adr; rw [List.map_append]; rfl
theorem chn_app {n i : Nat} {es : List En} {e : En} : chn n i (es ++ [e]) = if e.2.1 % n = i then chn n i es ++ [e] else chn n i es := by
  unfold chn
  rw [List.filter_append]
  by_cases h : e.2.1 % n = i
  · rw [if_pos h, List.filter_cons, if_pos (by simpa using h), List.filter_nil]
  · rw [if_neg h, List.filter_cons, if_neg (by simpa using h), List.filter_nil, List.append_nil]
