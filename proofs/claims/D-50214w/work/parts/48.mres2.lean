/-! the linked hash map: a chain parted in two -/
set_option maxRecDepth 100000
set_option maxHeartbeats 2000000
theorem chn_two {n i : Nat} {es : List En} : chn (2 * n) i es = (chn n (i % n) es).filter (fun e => e.2.1 % (2 * n) == i) := by
  unfold chn
  rw [List.filter_filter]
  refine congrArg (fun p => List.filter p es) (funext fun e => ?_)
  by_cases h : e.2.1 % (2 * n) = i
  · have : e.2.1 % n = i % n := by rw [← h, Nat.mod_mul_left_mod]
    simp [h, this]
  · simp [h]
theorem two_mod {a n : Nat} (hn : 0 < n) : a % (2 * n) = a % n ∨ a % (2 * n) = a % n + n := by
  have h1 : a % (2 * n) < 2 * n := Nat.mod_lt _ (by omega)
  have h2 : a % (2 * n) % n = a % n := Nat.mod_mul_left_mod a 2 n
  have h3 := Nat.div_add_mod (a % (2 * n)) n
  have h4 : a % (2 * n) / n < 2 := (Nat.div_lt_iff_lt_mul hn).mpr h1
  rw [h2] at h3
  have h5 : ∀ x : Nat, x < 2 → x = 0 ∨ x = 1 := by omega
  rcases h5 _ h4 with e | e
  · rw [e] at h3; exact Or.inl (by omega)
  · rw [e] at h3; exact Or.inr (by omega)
theorem bit_two : ∀ k, k < 8 → ∀ a, a < 128 → ((nI a &&& nI (2 ^ k) = 0) ↔ a % (2 * 2 ^ k) = a % 2 ^ k) := by decide +kernel
def chOK (nx : Nat → Option Nat) (l : List Nat) : Prop := ∀ (i x y : Nat), l[i]? = some x → l[i + 1]? = some y → nx x = some y
theorem chOK_app {nx : Nat → Option Nat} {l : List Nat} {x : Nat} (C : chOK nx l) (hl : ∀ y, l.getLast? = some y → nx y = some x) : chOK nx (l ++ [x]) := by
  intro i a b ha hb
  by_cases h1 : i + 1 < l.length
  · rw [List.getElem?_append_left (by omega)] at ha
    rw [List.getElem?_append_left h1] at hb
    exact C i a b ha hb
  · by_cases h2 : i + 1 = l.length
    · rw [List.getElem?_append_left (by omega)] at ha
      rw [List.getElem?_append_right (by omega), h2, Nat.sub_self] at hb
      have hb2 : x = b := by simpa using hb
      rw [← hb2]
      refine hl a ?_
      rw [List.getLast?_eq_getElem?, ← ha]
      congr 1
      omega
    · rw [List.getElem?_append_right (by omega)] at hb
      have : ([x] : List Nat)[i + 1 - l.length]? = none := List.getElem?_eq_none (by simp; omega)
      rw [this] at hb
      cases hb
theorem chOK_upd {nx : Nat → Option Nat} {l : List Nat} {a : Nat} {v : Option Nat} (C : chOK nx l) (ha : a ∉ l ∨ (l.getLast? = some a ∧ l.Nodup)) : chOK (va_up nx a v) l := by
  intro i x y hx hy
  rw [va_upE]
  have hne : x ≠ a := by
    intro e
    subst e
    rcases ha with ha | ⟨ha, hd⟩
    · exact ha (List.mem_of_getElem? hx)
    · rw [List.getLast?_eq_getElem?] at ha
      have h1 := (List.getElem?_eq_some_iff.mp hx).1
      have h2 := (List.getElem?_eq_some_iff.mp hy).1
      have := (List.getElem?_inj h1 hd).mp (hx.trans ha.symm)
      omega
  rw [if_neg hne]
  exact C i x y hx hy
theorem chOK_nxt {nx : Nat → Option Nat} {l : List Nat} (C : chOK nx l) (hl : ∀ y, l.getLast? = some y → nx y = none) (hd : l.Nodup) {x : Nat} (hx : x ∈ l) : nx x = nxt l x := by
  obtain ⟨i, hi⟩ := List.getElem?_of_mem hx
  rw [nxt_at l hd i x hi]
  cases hy : l[i + 1]? with
  | some y => exact C i x y hi hy
  | none =>
    refine hl x ?_
    have h1 := (List.getElem?_eq_some_iff.mp hi).1
    have h2 := List.getElem?_eq_none_iff.mp hy
    rw [List.getLast?_eq_getElem?, ← hi]
    congr 1
    omega
section R2
variable {G : GG} {N : Nat} {z : Bool}
/-- the two lists behind p turns, and the cells -/
def RSI (h4 : Hp) (es c : List En) (n j : Nat) (p : Nat) (x : Option Nat × Option Nat × Option Nat × Option Nat) (hh : Hp) : Prop :=
  x = ((adr ((c.take p).filter (fun e => e.2.1 % (2 * n) == j))).head?, (adr ((c.take p).filter (fun e => e.2.1 % (2 * n) == j))).getLast?, (adr ((c.take p).filter (fun e => e.2.1 % (2 * n) == j + n))).head?, (adr ((c.take p).filter (fun e => e.2.1 % (2 * n) == j + n))).getLast?) ∧ hh.1 = h4.1 ∧ hh.2.1 = h4.2.1 ∧
  ∃ nx : Nat → Option Nat, (∀ e, e ∈ c → hh.2.2 e.1 = some (ND e.2.1 e.2.2.1 e.2.2.2 (nx e.1) (prv (adr es) e.1) (nxt (adr es) e.1))) ∧ (∀ q e, p ≤ q → c[q]? = some e → nx e.1 = (adr c)[q + 1]?) ∧ chOK nx (adr ((c.take p).filter (fun e => e.2.1 % (2 * n) == j))) ∧ chOK nx (adr ((c.take p).filter (fun e => e.2.1 % (2 * n) == j + n))) ∧ ∀ q, q ∉ adr c → hh.2.2 q = h4.2.2 q
theorem take_filter {c : List En} {p : Nat} {e : En} {f : En → Bool} (he : c[p]? = some e) : (c.take (p + 1)).filter f = if f e = true then (c.take p).filter f ++ [e] else (c.take p).filter f := by
  rw [List.take_add_one, he, List.filter_append]
  by_cases h : f e = true
  · rw [if_pos h]; simp [h]
  · rw [if_neg h]; simp [h]
theorem head_app {l : List Nat} {x : Nat} : (l ++ [x]).head? = if l.getLast? = none then some x else l.head? := by
  cases l with
  | nil => rfl
  | cons a l => simp
theorem last_app {l : List Nat} {x : Nat} : (l ++ [x]).getLast? = some x := by simp
theorem rs_step {h4 hh : Hp} {es c : List En} {n k j p : Nat} {e : En} {x : Option Nat × Option Nat × Option Nat × Option Nat} (hn : n = 2 ^ k) (hk : k < 8) (hd : (adr c).Nodup) (hc : ∀ e, e ∈ c → e.2.1 % n = j ∧ e.2.1 < 128 ∧ G.1 ≤ e.1) (he : c[p]? = some e) (I : RSI h4 es c n j p x hh) (j28 : (Option Nat × Option Nat × Option Nat × Option Nat) → Hp → Out (Option Nat)) : ∃ x' h', RSI h4 es c n j (p + 1) x' h' ∧ ∀ self, bJ23_resize_c26_235 G N (nI n) j28 self (some e.1, x) hh = if (adr c)[p + 1]? = none then j28 x' h' else self ((adr c)[p + 1]?, x') h' := by
  classical
  have hn0 : 0 < n := by rw [hn]; exact Nat.two_pow_pos k
  obtain ⟨I1, I2, I3, nx, I4, I5, I6, I7, I8⟩ := I
  have hm : e ∈ c := List.mem_of_getElem? he
  obtain ⟨c1, c2, c3⟩ := hc e hm
  have E := I4 e hm
  have sub : ∀ f : En → Bool, (adr ((c.take p).filter f)).Sublist (adr (c.take p)) := fun f => List.Sublist.map _ List.filter_sublist
  have subc : (adr (c.take p)).Sublist (adr c) := List.Sublist.map _ (List.take_sublist _ _)
  -- what lies in the first p is none of the later ones
  have inT : ∀ a, a ∈ adr (c.take p) → ∃ r e', r < p ∧ c[r]? = some e' ∧ e'.1 = a := fun a ha => by
    obtain ⟨e', h1, h2⟩ := List.mem_map.mp ha
    obtain ⟨r, hr⟩ := List.getElem?_of_mem h1
    have hr2 : r < p := by
      have := (List.getElem?_eq_some_iff.mp hr).1
      rw [List.length_take] at this
      omega
    exact ⟨r, e', hr2, by rw [List.getElem?_take, if_pos hr2] at hr; exact hr, h2⟩
  have ne : ∀ a q e', a ∈ adr (c.take p) → p ≤ q → c[q]? = some e' → e'.1 ≠ a := fun a q e' ha hq he' hx => by
    obtain ⟨r, e2, h1, h2, h3⟩ := inT a ha
    have q1 : (adr c)[r]? = some a := by rw [adr_at, h2]; exact congrArg some h3
    have q2 : (adr c)[q]? = some a := by rw [adr_at, he']; exact congrArg some hx
    have := (List.getElem?_inj (List.getElem?_eq_some_iff.mp q1).1 hd).mp (q1.trans q2.symm)
    omega
  have hnx : nx e.1 = (adr c)[p + 1]? := I5 p e (Nat.le_refl _) he
  subst I1
  -- the two sides alike
  have side : ∀ (f g : En → Bool), f e = true → (∀ e, e ∈ c → ¬ (f e = true ∧ g e = true)) → chOK nx (adr ((c.take p).filter f)) → chOK nx (adr ((c.take p).filter g)) → ∃ h', (∃ nx' : Nat → Option Nat, (∀ e, e ∈ c → h'.2.2 e.1 = some (ND e.2.1 e.2.2.1 e.2.2.2 (nx' e.1) (prv (adr es) e.1) (nxt (adr es) e.1))) ∧ (∀ q e, p + 1 ≤ q → c[q]? = some e → nx' e.1 = (adr c)[q + 1]?) ∧ chOK nx' (adr ((c.take p).filter f ++ [e])) ∧ chOK nx' (adr ((c.take p).filter g)) ∧ ∀ q, q ∉ adr c → h'.2.2 q = h4.2.2 q) ∧ h'.1 = h4.1 ∧ h'.2.1 = h4.2.1 ∧ ((adr ((c.take p).filter f)).getLast? = none → h' = hh) ∧ ((adr ((c.take p).filter f)).getLast? ≠ none → ∀ {β : Type} (k : Hp → Out β), gP G hh (adr ((c.take p).filter f)).getLast? 27 3 (va_rf (some e.1)) k = k h') := by
    intro f g hf hfg C1 C2
    by_cases hl : (adr ((c.take p).filter f)).getLast? = none
    · refine ⟨hh, ⟨nx, I4, fun q e' hq he' => I5 q e' (by omega) he', ?_, C2, I8⟩, I2, I3, fun _ => rfl, fun q => absurd hl q⟩
      rw [adr_app]
      exact chOK_app C1 (fun y hy => by rw [hl] at hy; cases hy)
    · obtain ⟨l, hl2⟩ := Option.ne_none_iff_exists'.mp hl
      have hlm : l ∈ adr ((c.take p).filter f) := List.mem_of_getLast? hl2
      have hlt : l ∈ adr (c.take p) := (sub f).subset hlm
      obtain ⟨r, e', r1, r2, r3⟩ := inT l hlt
      have hm' : e' ∈ c := List.mem_of_getElem? r2
      have E' := I4 e' hm'
      have hg : l ∉ adr ((c.take p).filter g) := fun hx => by
        obtain ⟨a1, b1, b2⟩ := List.mem_map.mp hlm
        obtain ⟨a2, b3, b4⟩ := List.mem_map.mp hx
        have m1 := List.mem_filter.mp b1
        have m2 := List.mem_filter.mp b3
        have q1 := List.mem_of_mem_take m1.1
        have q2 := List.mem_of_mem_take m2.1
        -- the same address, the same entry
        obtain ⟨i1, g1⟩ := List.getElem?_of_mem q1
        obtain ⟨i2, g2⟩ := List.getElem?_of_mem q2
        have w1 : (adr c)[i1]? = some l := by rw [adr_at, g1]; exact congrArg some b2
        have w2 : (adr c)[i2]? = some l := by rw [adr_at, g2]; exact congrArg some b4
        have := (List.getElem?_inj (List.getElem?_eq_some_iff.mp w1).1 hd).mp (w1.trans w2.symm)
        subst this
        rw [g1] at g2
        cases g2
        exact hfg _ q1 ⟨m1.2, m2.2⟩
      refine ⟨hup hh l (ND e'.2.1 e'.2.2.1 e'.2.2.2 (some e.1) (prv (adr es) e'.1) (nxt (adr es) e'.1)), ⟨va_up nx l (some e.1), fun e2 he2 => ?_, fun q e2 hq he2 => ?_, ?_, chOK_upd C2 (Or.inl hg), fun q hq => ?_⟩, I2, I3, fun q => absurd q hl, fun _ β k => ?_⟩
      · by_cases hq : e2.1 = l
        · have : e2 = e' := by
            obtain ⟨i1, g1⟩ := List.getElem?_of_mem he2
            have w1 : (adr c)[i1]? = some l := by rw [adr_at, g1]; exact congrArg some hq
            have w2 : (adr c)[r]? = some l := by rw [adr_at, r2]; exact congrArg some r3
            have := (List.getElem?_inj (List.getElem?_eq_some_iff.mp w1).1 hd).mp (w1.trans w2.symm)
            subst this
            rw [g1] at r2
            exact Option.some.inj r2
          subst this
          rw [hq, hup_at, va_upE, if_pos rfl]
        · rw [hup_ne hq, va_upE, if_neg hq]
          exact I4 e2 he2
      · rw [va_upE, if_neg (ne l q e2 hlt (by omega) he2)]
        exact I5 q e2 (by omega) he2
      · rw [adr_app]
        refine chOK_app (chOK_upd C1 (Or.inr ⟨hl2, (sub f).nodup (subc.nodup hd)⟩)) (fun y hy => ?_)
        rw [hl2] at hy
        cases hy
        rw [va_upE, if_pos rfl]
      · rw [hup_ne (fun e9 => hq (by rw [e9]; exact subc.subset hlt))]
        exact I8 q hq
      · rw [hl2, l_P (by rw [← r3]; exact E') (by rw [← r3]; exact (hc e' hm').2.2) (by (show 3 < 6; omega))]
        rfl
  have fg1 : ∀ e, e ∈ c → ¬ ((e.2.1 % (2 * n) == j) = true ∧ (e.2.1 % (2 * n) == j + n) = true) := fun e _ q => by
    simp only [beq_iff_eq] at q; omega
  by_cases hb : e.2.1 % (2 * n) = j
  · obtain ⟨h', ⟨nx', a1, a2, a3, a4, a5⟩, a6, a7, a8, a9⟩ := side (fun e => e.2.1 % (2 * n) == j) (fun e => e.2.1 % (2 * n) == j + n) (by simp [hb]) fg1 I6 I7
    have tf1 : (c.take (p + 1)).filter (fun e => e.2.1 % (2 * n) == j) = (c.take p).filter (fun e => e.2.1 % (2 * n) == j) ++ [e] := by rw [take_filter he, if_pos (by simp [hb])]
    have tf2 : (c.take (p + 1)).filter (fun e => e.2.1 % (2 * n) == j + n) = (c.take p).filter (fun e => e.2.1 % (2 * n) == j + n) := by rw [take_filter he, if_neg (by simp; omega)]
    refine ⟨_, h', ⟨rfl, a6, a7, nx', a1, a2, ?_, ?_, a5⟩, fun self => ?_⟩
    · rw [tf1]; exact a3
    · rw [tf2]; exact a4
    · unfold bJ23_resize_c26_235
      dsimp only
      rw [l_Fv (x := nx e.1) E rfl, l_Fi E rfl, l_J, if_pos (by rw [hn]; exact (bit_two k hk _ c2).mpr (by rw [← hn, hb, c1])), l_J, hnx]
      rw [tf1, tf2, adr_app, head_app, last_app]
      by_cases hl : (adr ((c.take p).filter (fun e => e.2.1 % (2 * n) == j))).getLast? = none
      · rw [if_pos hl, if_pos hl, a8 hl]
      · rw [if_neg hl, if_neg hl, a9 hl]
  · have hb2 : e.2.1 % (2 * n) = j + n := by rcases two_mod (a := e.2.1) hn0 with q | q <;> omega
    obtain ⟨h', ⟨nx', a1, a2, a3, a4, a5⟩, a6, a7, a8, a9⟩ := side (fun e => e.2.1 % (2 * n) == j + n) (fun e => e.2.1 % (2 * n) == j) (by simp [hb2]) (fun e he q => fg1 e he ⟨q.2, q.1⟩) I7 I6
    have tf1 : (c.take (p + 1)).filter (fun e => e.2.1 % (2 * n) == j) = (c.take p).filter (fun e => e.2.1 % (2 * n) == j) := by rw [take_filter he, if_neg (by simp; omega)]
    have tf2 : (c.take (p + 1)).filter (fun e => e.2.1 % (2 * n) == j + n) = (c.take p).filter (fun e => e.2.1 % (2 * n) == j + n) ++ [e] := by rw [take_filter he, if_pos (by simp [hb2])]
    refine ⟨_, h', ⟨rfl, a6, a7, nx', a1, a2, ?_, ?_, a5⟩, fun self => ?_⟩
    · rw [tf1]; exact a4
    · rw [tf2]; exact a3
    · unfold bJ23_resize_c26_235
      dsimp only
      rw [l_Fv (x := nx e.1) E rfl, l_Fi E rfl, l_J, if_neg (by rw [hn]; exact fun q => hb (by rw [hn, (bit_two k hk _ c2).mp q, ← hn, c1])), l_J, hnx]
      rw [tf1, tf2, adr_app, head_app, last_app]
      by_cases hl : (adr ((c.take p).filter (fun e => e.2.1 % (2 * n) == j + n))).getLast? = none
      · rw [if_pos hl, if_pos hl, a8 hl]
      · rw [if_neg hl, if_neg hl, a9 hl]
/-- the whole chain -/
theorem rs_split {h4 : Hp} {es c : List En} {n k j : Nat} (hn : n = 2 ^ k) (hk : k < 8) (hd : (adr c).Nodup) (hc : ∀ e, e ∈ c → e.2.1 % n = j ∧ e.2.1 < 128 ∧ G.1 ≤ e.1) (hE : ∀ e, e ∈ c → h4.2.2 e.1 = some (ND e.2.1 e.2.2.1 e.2.2.2 (nxt (adr c) e.1) (prv (adr es) e.1) (nxt (adr es) e.1))) (h0 : 0 < c.length) (hN : c.length < N) (j28 : (Option Nat × Option Nat × Option Nat × Option Nat) → Hp → Out (Option Nat)) : ∃ x' h', RSI h4 es c n j c.length x' h' ∧ gLp (bJ23_resize_c26_235 G N (nI n) j28) N ((adr c).head?, none, none, none, none) h4 = j28 x' h' := by
  have start : RSI h4 es c n j 0 (none, none, none, none) h4 := by
    refine ⟨by simp [adr], rfl, rfl, nxt (adr c), hE, fun q e _ he => nxt_at _ hd q e.1 (by rw [adr_at, he]; rfl), ?_, ?_, fun _ _ => rfl⟩
    · intro i x y hx; simp [adr] at hx
    · intro i x y hx; simp [adr] at hx
  obtain ⟨x, hh, ⟨I1, I2⟩, self, e2⟩ := lp_r (B := bJ23_resize_c26_235 G N (nI n) j28) (N := N) (n := c.length - 1) (fun p x hh => x.1 = (adr c)[p]? ∧ RSI h4 es c n j p x.2 hh) (x0 := ((adr c).head?, none, none, none, none)) (h0 := h4) (by omega) ⟨by rw [List.head?_eq_getElem?], start⟩ (fun p x hh hp I self => by
    obtain ⟨e, he⟩ : ∃ e, c[p]? = some e := ⟨_, List.getElem?_eq_getElem (by omega)⟩
    obtain ⟨x', h', a1, a2⟩ := rs_step (N := N) hn hk hd hc he I.2 j28
    refine ⟨((adr c)[p + 1]?, x'), h', ⟨rfl, a1⟩, ?_⟩
    have h1 : x = (some e.1, x.2) := by rw [← show (adr c)[p]? = some e.1 by rw [adr_at, he]; rfl, ← I.1]
    rw [h1, a2, if_neg]
    rw [adr_at, List.getElem?_eq_getElem (show p + 1 < c.length by omega)]
    simp)
  obtain ⟨e, he⟩ : ∃ e, c[c.length - 1]? = some e := ⟨_, List.getElem?_eq_getElem (by omega)⟩
  obtain ⟨x', h', a1, a2⟩ := rs_step (N := N) hn hk hd hc he I2 j28
  refine ⟨x', h', ?_, ?_⟩
  · rw [show c.length - 1 + 1 = c.length by omega] at a1
    exact a1
  · rw [e2]
    have h1 : x = (some e.1, x.2) := by rw [← show (adr c)[c.length - 1]? = some e.1 by rw [adr_at, he]; rfl, ← I1]
    rw [h1, a2, if_pos]
    rw [adr_at, List.getElem?_eq_none (by omega)]
    rfl
end R2
