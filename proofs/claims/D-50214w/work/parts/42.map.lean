/-! the linked hash map: what its cells say; looking up -/
set_option maxRecDepth 100000
set_option maxHeartbeats 1000000
def nxt : List Nat → Nat → Option Nat
  | [], _ => none
  | [_], _ => none
  | x :: y :: l, a => if a = x then some y else nxt (y :: l) a
def prv : List Nat → Nat → Option Nat
  | [], _ => none
  | [_], _ => none
  | x :: y :: l, a => if a = y then some x else prv (y :: l) a
/-- an entry: its node, hash, key, value -/
abbrev En : Type := Nat × Nat × Nat × Nat
def adr (es : List En) : List Nat := es.map (fun e => e.1)
def chn (n i : Nat) (es : List En) : List En := es.filter (fun e => e.2.1 % n == i)
/-- a key: one of ours, or an Integer -/
def KeyAt (h : Hp) (z : Bool) (k hs : Nat) : Prop := if z = true then h.2.2 k = some (.inr (10, [.int (nI (hs / 8)), .int (nI (hs % 8))])) else h.2.2 k = some (.inr (19, [.int (nI hs)]))
def EnAt (h : Hp) (n : Nat) (es : List En) (e : En) : Prop := h.2.2 e.1 = some (.inr (27, [.int (nI e.2.1), .ref e.2.2.1, .ref e.2.2.2, va_rf (nxt (adr (chn n (e.2.1 % n) es)) e.1), va_rf (prv (adr es) e.1), va_rf (nxt (adr es) e.1)]))
def TabR (h : Hp) (tab : Option Nat) (n : Nat) (es : List En) : Prop := (∃ t f, tab = some t ∧ h.2.2 t = some (.inl (8, n, .inr (.inr (.inr (.inr f))))) ∧ ∀ i, i < n → f i = (adr (chn n i es)).head?) ∨ (tab = none ∧ es = [])
def VwAt (h : Hp) (m ci : Nat) (v : Option Nat) : Prop := ∀ a, v = some a → h.2.2 a = some (.inr (ci, [.int 0, .ref m]))
def MapC (h : Hp) (m : Nat) (tab : Option Nat) (es : List En) (th : Int32) : Prop := ∃ (mc : Int32) (lf : UInt32) (ve vk vv : Option Nat), h.2.2 m = some (.inr (26, [va_rf tab, va_rf ve, .int (nI es.length), .int mc, .int th, .float lf, va_rf vk, va_rf vv, va_rf (adr es).head?, va_rf (adr es).getLast?, .int 0, .int 0])) ∧ VwAt h m 29 ve ∧ VwAt h m 31 vk ∧ VwAt h m 33 vv
def LHM (h : Hp) (z : Bool) (m n : Nat) (es : List En) : Prop := ∃ (tab : Option Nat) (th : Int32) (k : Nat), n = 2 ^ k ∧ 4 ≤ k ∧ k ≤ 8 ∧ MapC h m tab es th ∧ TabR h tab n es ∧ (∀ e, e ∈ es → EnAt h n es e ∧ KeyAt h z e.2.2.1 e.2.1 ∧ e.2.1 < 128) ∧ (adr es).Nodup ∧ (es.map (fun e => e.2.1)).Nodup
section M1
variable {α : Type} {G : GG} {N : Nat} {h : Hp} {z : Bool}
theorem k_eq {a b hs : Nat} {j : Int32 → Hp → Out α} (A : KeyAt h z a hs) (B : KeyAt h z b hs) : gSw h (some a) 10 (bV h (some a) 10 (fun q => sX7_equals G N (some q) (some b) h) j) (bV h (some a) 19 (fun q => sJ20_equals G N (some q) (some b) h) j) = j 1 h := by
  unfold KeyAt at A B
  unfold gSw
  cases z with
  | true =>
    simp only [if_true] at A B
    simp only [A, if_true]
    rw [l_bV A]
    unfold sX7_equals gIn
    simp only [B]
    rw [if_pos (show 10 ∈ [10] by decide), l_J, if_neg (by decide), l_Ck B (show 10 ∈ [10] by decide), l_Fi B rfl, l_Fi A rfl, if_pos rfl, l_Fi B rfl, l_Fi A rfl, if_pos rfl]
    rfl
  | false =>
    simp only [Bool.false_eq_true, if_false] at A B
    simp only [A, if_neg (show ¬ 19 = 10 by decide)]
    rw [l_bV A]
    unfold sJ20_equals sJ20_intValue gIn
    simp only [B]
    rw [if_pos (show 19 ∈ [19] by decide), if_neg (by decide), l_Fi A rfl, l_Ck B (show 19 ∈ [19] by decide), l_bV B, l_Fi B rfl, l_bnd, if_pos rfl]
    rfl
theorem hs_ok : ∀ n, n < 128 → nI n ^^^ (((nI n).toUInt32 >>> ((16 : Int32).toUInt32 &&& Int32.toUInt32 31)).toInt32) = nI n := by decide +kernel
theorem hs_key : ∀ n, n < 128 → (8 : Int32) * nI (n / 8) + nI (n % 8) = nI n := by decide +kernel
theorem k_hash {a hs : Nat} (A : KeyAt h z a hs) (hh : hs < 128) : sJ23_hash G N (some a) h = some (.inl (nI hs), h) := by
  unfold KeyAt at A
  unfold sJ23_hash gSw
  rw [if_neg (by simp), l_J]
  cases z with
  | true =>
    simp only [if_true] at A
    simp only [A, if_true]
    rw [l_bV A]
    unfold sX7_hashCode
    rw [l_Fi A rfl, l_Fi A rfl, l_bnd, hs_key hs hh, hs_ok hs hh]
  | false =>
    simp only [Bool.false_eq_true, if_false] at A
    simp only [A, if_neg (show ¬ 19 = 10 by decide)]
    rw [l_bV A]
    unfold sJ20_hashCode sJ20_hashCode_2
    rw [l_Fi A rfl, l_bnd, l_bnd, hs_ok hs hh]
theorem ix_ok {n k hs : Nat} (hn : n = 2 ^ k) (hk : k ≤ 8) : (nI n - 1) &&& nI hs = nI (hs % n) := by
  have h1 : 0 < n := by rw [hn]; exact Nat.two_pow_pos k
  rw [n_1, pk_sub h1, ni_and, Nat.and_comm, hn, Nat.and_two_pow_sub_one_eq_mod]
end M1
theorem nxt_at : ∀ (l : List Nat), l.Nodup → ∀ (p a : Nat), l[p]? = some a → nxt l a = l[p + 1]?
  | [], _, p, a, h => by simp at h
  | [x], _, p, a, h => by
    have hp : p = 0 := by
      rcases p with _ | p
      · rfl
      · simp at h
    subst hp
    rfl
  | x :: y :: l, hd, p, a, h => by
    rcases p with _ | p
    · have : x = a := by simpa using h
      subst this
      show (if x = x then some y else nxt (y :: l) x) = _
      rw [if_pos rfl]
      rfl
    · have hd2 : (y :: l).Nodup := (List.nodup_cons.mp hd).2
      have hx : x ∉ (y :: l) := (List.nodup_cons.mp hd).1
      have h2 : (y :: l)[p]? = some a := by simpa using h
      have hne : a ≠ x := fun e => hx (by rw [← e]; exact List.mem_of_getElem? h2)
      show (if a = x then some y else nxt (y :: l) a) = _
      rw [if_neg hne, nxt_at (y :: l) hd2 p a h2]
      rfl
theorem adr_at {es : List En} {p : Nat} : (adr es)[p]? = (es[p]?).map (fun e => e.1) := List.getElem?_map
theorem chn_sub {n i : Nat} {es : List En} : (adr (chn n i es)).Sublist (adr es) := List.Sublist.map _ List.filter_sublist
/-- looking an entry up -/
def look (es : List En) (hs : Nat) : Option En := es.find? (fun e => e.2.1 == hs)
theorem look_chn {n hs : Nat} {es : List En} : look (chn n (hs % n) es) hs = look es hs := by
  unfold look chn
  induction es with
  | nil => rfl
  | cons e es ih =>
    by_cases h1 : e.2.1 % n == hs % n
    · rw [List.filter_cons, if_pos h1, List.find?_cons, List.find?_cons, ih]
    · rw [List.filter_cons, if_neg h1, ih, List.find?_cons]
      have h2 : (e.2.1 == hs) = false := by
        simp only [beq_eq_false_iff_ne, ne_eq]
        intro q
        exact h1 (by rw [q]; exact beq_self_eq_true _)
      rw [h2]
theorem gin_e {α : Type} {h : Hp} {a : Nat} {fs : List Value} {k : Int32 → Out α} (e : h.2.2 a = some (.inr (27, fs))) : gIn h (some a) [] [27] k = k 0 := by
  unfold gIn
  simp only [e]
  rw [if_neg (by simp), if_pos (show 27 ∈ [27] by decide)]
theorem va_some {x : Option Nat} {a : Nat} (h : x = some a) : va_rf x = .ref a := by rw [h]; rfl
theorem l_Fv {α : Type} {h : Hp} {a ci k : Nat} {fs : List Value} {x : Option Nat} {kont : Option Nat → Out α} (e : h.2.2 a = some (.inr (ci, fs))) (hk : fs[k]? = some (va_rf x)) : gFr h (some a) ci k kont = kont x := by
  cases x with
  | none => exact l_Fn e hk
  | some y => exact l_Fr e hk
section M2
variable {α : Type} {G : GG} {N : Nat} {h : Hp} {z : Bool}
/-- the walk along a chain -/
theorem m_walk {n hs k p : Nat} {es : List En} (hh : hs < 128) (hE : ∀ e, e ∈ es → EnAt h n es e ∧ KeyAt h z e.2.2.1 e.2.1 ∧ e.2.1 < 128) (hd : (adr es).Nodup) (K : KeyAt h z k hs) (hN : es.length < N) (hp : p < (chn n (hs % n) es).length) (h0 : ∀ q, q < p → ∀ e, (chn n (hs % n) es)[q]? = some e → e.2.1 ≠ hs) :
    gLp (bJ23_getNode_c26_99 G N (some k) (nI hs)) N ((adr (chn n (hs % n) es))[p]?) h = some (.inl ((look es hs).map (fun e => e.1)), h) := by
  classical
  have hl : (chn n (hs % n) es).length ≤ es.length := List.length_filter_le _ _
  have hin : ∀ q e, (chn n (hs % n) es)[q]? = some e → e ∈ es ∧ e.2.1 % n = hs % n := fun q e he => by
    have h1 := List.mem_filter.mp (List.mem_of_getElem? he)
    exact ⟨h1.1, by simpa using h1.2⟩
  have hnx : ∀ q e, (chn n (hs % n) es)[q]? = some e → nxt (adr (chn n (e.2.1 % n) es)) e.1 = (adr (chn n (hs % n) es))[q + 1]? := fun q e he => by
    rw [(hin q e he).2]
    exact nxt_at _ (chn_sub.nodup hd) q e.1 (by rw [adr_at, he]; rfl)
  -- by how much is left
  have key : ∀ d p M, p + d + 1 = (chn n (hs % n) es).length → d < M → (∀ q, q < p → ∀ e, (chn n (hs % n) es)[q]? = some e → e.2.1 ≠ hs) → gLp (bJ23_getNode_c26_99 G N (some k) (nI hs)) M ((adr (chn n (hs % n) es))[p]?) h = some (.inl ((look es hs).map (fun e => e.1)), h) := by
    intro d
    induction d with
    | zero =>
      intro p M hp hM h0
      obtain ⟨M', rfl⟩ : ∃ M', M = M' + 1 := ⟨M - 1, by omega⟩
      obtain ⟨e, he⟩ : ∃ e, (chn n (hs % n) es)[p]? = some e := ⟨_, List.getElem?_eq_getElem (show p < (chn n (hs % n) es).length by omega)⟩
      obtain ⟨E, Ke, he2⟩ := hE e (hin p e he).1
      rw [adr_at, he]
      show bJ23_getNode_c26_99 G N (some k) (nI hs) _ (some e.1) h = _
      unfold bJ23_getNode_c26_99
      rw [l_Fi E rfl, l_J]
      by_cases hc : e.2.1 = hs
      · have hL : look es hs = some e := by
          rw [← look_chn (n := n)]
          exact List.find?_eq_some_iff_getElem.mpr ⟨by simp [hc], p, by omega, by rw [List.getElem?_eq_getElem (by omega)] at he; exact Option.some.inj he, fun q hq => by
            have := h0 q hq _ (List.getElem?_eq_getElem (show q < (chn n (hs % n) es).length by omega))
            simp [this]⟩
        rw [if_pos (by rw [hc]), l_Fr E rfl, hL]
        by_cases hk : some e.2.2.1 = some k
        · rw [if_pos hk]; rfl
        · rw [if_neg hk, if_neg (by simp), l_J]
          rw [hc] at Ke
          rw [k_eq K Ke, if_neg (by decide)]
          rfl
      · rw [if_neg (fun q => hc ((nI_eq (by omega) (by omega)).mp q))]
        dsimp only
        rw [l_Fv (x := nxt (adr (chn n (e.2.1 % n) es)) e.1) E rfl, hnx p e he]
        have hend : (adr (chn n (hs % n) es))[p + 1]? = none := by
          rw [adr_at, List.getElem?_eq_none (by omega)]; rfl
        rw [hend, if_pos rfl]
        have hL : look es hs = none := by
          rw [← look_chn (n := n)]
          refine List.find?_eq_none.mpr fun e' h' => ?_
          obtain ⟨q, hq⟩ := List.getElem?_of_mem h'
          have hq2 : q < (chn n (hs % n) es).length := (List.getElem?_eq_some_iff.mp hq).1
          by_cases hqp : q = p
          · subst hqp
            rw [he] at hq
            cases hq
            simpa using hc
          · simpa using h0 q (by omega) e' hq
        rw [hL]
        rfl
    | succ d ih =>
      intro p M hp hM h0
      obtain ⟨M', rfl⟩ : ∃ M', M = M' + 1 := ⟨M - 1, by omega⟩
      obtain ⟨e, he⟩ : ∃ e, (chn n (hs % n) es)[p]? = some e := ⟨_, List.getElem?_eq_getElem (show p < (chn n (hs % n) es).length by omega)⟩
      obtain ⟨E, Ke, he2⟩ := hE e (hin p e he).1
      rw [adr_at, he]
      show bJ23_getNode_c26_99 G N (some k) (nI hs) _ (some e.1) h = _
      unfold bJ23_getNode_c26_99
      rw [l_Fi E rfl, l_J]
      by_cases hc : e.2.1 = hs
      · have hL : look es hs = some e := by
          rw [← look_chn (n := n)]
          exact List.find?_eq_some_iff_getElem.mpr ⟨by simp [hc], p, by omega, by rw [List.getElem?_eq_getElem (by omega)] at he; exact Option.some.inj he, fun q hq => by
            have := h0 q hq _ (List.getElem?_eq_getElem (show q < (chn n (hs % n) es).length by omega))
            simp [this]⟩
        rw [if_pos (by rw [hc]), l_Fr E rfl, hL]
        by_cases hk : some e.2.2.1 = some k
        · rw [if_pos hk]; rfl
        · rw [if_neg hk, if_neg (by simp), l_J]
          rw [hc] at Ke
          rw [k_eq K Ke, if_neg (by decide)]
          rfl
      · rw [if_neg (fun q => hc ((nI_eq (by omega) (by omega)).mp q))]
        dsimp only
        rw [l_Fv (x := nxt (adr (chn n (e.2.1 % n) es)) e.1) E rfl, hnx p e he]
        have hend : (adr (chn n (hs % n) es))[p + 1]? ≠ none := by
          rw [adr_at, List.getElem?_eq_getElem (show p + 1 < (chn n (hs % n) es).length by omega)]
          simp
        rw [if_neg hend]
        exact ih (p + 1) M' (by omega) (by omega) (fun q hq e' he' => by
          by_cases hqp : q = p
          · subst hqp
            rw [he] at he'
            cases he'
            exact hc
          · exact h0 q (by omega) e' he')
  exact key ((chn n (hs % n) es).length - p - 1) p N (by omega) (by omega) h0
theorem l_Lenr {a t n : Nat} {f : Nat → Option Nat} {kont : Int32 → Out α} (e : h.2.2 a = some (.inl (t, n, .inr (.inr (.inr (.inr f)))))) (ht : t < AT.length) : gLen h (some a) kont = kont (nI n) := by
  unfold gLen; simp only [e, ht, if_true]; rfl
theorem l_Arv {a t n i : Nat} {f : Nat → Option Nat} {x : Option Nat} {kont : Option Nat → Out α} (e : h.2.2 a = some (.inl (t, n, .inr (.inr (.inr (.inr f)))))) (hi : i < n) (hn : n < 2 ^ 31) (hy : f i = x) : gAr h (some a) t (nI i) kont = kont x := by
  unfold gAr; simp only [e]
  rw [if_pos ⟨trivial, nI_in hi hn⟩, nI_clamp (by omega), hy]
theorem m_node {m n hs k : Nat} {es : List En} (A : LHM h z m n es) (hh : hs < 128) (K : KeyAt h z k hs) (hN : es.length + 1 < N) : sJ23_getNode_c26 G N (some m) (some k) h = some (.inl ((look es hs).map (fun e => e.1)), h) := by
  classical
  obtain ⟨tab, th, kk, hn, hk4, hk8, ⟨mc, lf, ve, vk, vv, eM, -⟩, hT, hE, hd, hd2⟩ := A
  have hn0 : 0 < n := by rw [hn]; exact Nat.two_pow_pos kk
  have hn8 : n ≤ 2 ^ 8 := by rw [hn]; exact Nat.pow_le_pow_right (by omega) hk8
  unfold sJ23_getNode_c26
  rw [l_Fv (x := tab) eM rfl]
  rcases hT with ⟨t, f, e1, e2, e3⟩ | ⟨e1, e2⟩
  · subst e1
    rw [if_neg (by simp), l_Lenr e2 (by decide), n_0, if_neg (fun q => absurd ((nI_leI (by omega) (by omega)).mp q) (by omega)), k_hash K hh, l_bnd, ix_ok hn hk8, l_Arv e2 (Nat.mod_lt _ hn0) (by omega) (e3 _ (Nat.mod_lt _ hn0))]
    have hin : ∀ q e, (chn n (hs % n) es)[q]? = some e → e ∈ es ∧ e.2.1 % n = hs % n := fun q e he => by
      have h1 := List.mem_filter.mp (List.mem_of_getElem? he)
      exact ⟨h1.1, by simpa using h1.2⟩
    rw [List.head?_eq_getElem?]
    by_cases hz : (chn n (hs % n) es).length = 0
    · have hL : look es hs = none := by
        rw [← look_chn (n := n), List.eq_nil_of_length_eq_zero hz]; rfl
      rw [adr_at, List.getElem?_eq_none (by omega), hL]
      rfl
    · obtain ⟨e, he⟩ : ∃ e, (chn n (hs % n) es)[0]? = some e := ⟨_, List.getElem?_eq_getElem (show 0 < (chn n (hs % n) es).length by omega)⟩
      obtain ⟨E, Ke, he2⟩ := hE e (hin 0 e he).1
      have hnx : nxt (adr (chn n (e.2.1 % n) es)) e.1 = (adr (chn n (hs % n) es))[0 + 1]? := by
        rw [(hin 0 e he).2]
        exact nxt_at _ (chn_sub.nodup hd) 0 e.1 (by rw [adr_at, he]; rfl)
      rw [adr_at, he, Option.map_some]
      rw [if_neg (by simp), l_Fi E rfl, l_J]
      by_cases hc : e.2.1 = hs
      · have hL : look es hs = some e := by
          rw [← look_chn (n := n)]
          refine List.find?_eq_some_iff_getElem.mpr ⟨by simp [hc], 0, by omega, ?_, fun q hq => by omega⟩
          rw [List.getElem?_eq_getElem (by omega)] at he
          exact Option.some.inj he
        rw [if_pos (by rw [hc]), l_Fr E rfl, hL]
        by_cases hk : some e.2.2.1 = some k
        · rw [if_pos hk]; rfl
        · rw [if_neg hk, if_neg (by simp), l_J]
          rw [hc] at Ke
          rw [k_eq K Ke, if_neg (by decide)]
          rfl
      · rw [if_neg (fun q => hc ((nI_eq (by omega) (by omega)).mp q))]
        dsimp only
        rw [l_Fv (x := nxt (adr (chn n (e.2.1 % n) es)) e.1) E rfl, hnx]
        by_cases h1 : (chn n (hs % n) es).length = 1
        · have hL : look es hs = none := by
            rw [← look_chn (n := n)]
            refine List.find?_eq_none.mpr fun e' h' => ?_
            obtain ⟨q, hq⟩ := List.getElem?_of_mem h'
            have hq2 : q < (chn n (hs % n) es).length := (List.getElem?_eq_some_iff.mp hq).1
            have : q = 0 := by omega
            subst this
            rw [he] at hq
            cases hq
            simpa using hc
          rw [adr_at, List.getElem?_eq_none (by omega), hL]
          rfl
        · rw [if_neg (by rw [adr_at, List.getElem?_eq_getElem (show 0 + 1 < (chn n (hs % n) es).length by omega)]; simp), gin_e E, if_pos (show (0 : Int32) = nI 0 from rfl)]
          exact m_walk hh hE hd K (by omega) (by omega) (fun q hq e' he' => by
            have : q = 0 := by omega
            subst this
            rw [he] at he'
            cases he'
            exact hc)
  · subst e1
    subst e2
    rw [if_pos rfl]
    rfl
theorem m_bV {β : Type} {m n : Nat} {es : List En} {g : Nat → Out β} {k : β → Hp → Out α} (A : LHM h z m n es) : bV h (some m) 26 g k = bnd (g m) k := by
  obtain ⟨tab, th, kk, hn, hk4, hk8, ⟨mc, lf, ve, vk, vv, eM, -⟩, -⟩ := A
  exact l_bV eM
theorem look_mem {es : List En} {hs : Nat} {e : En} (hL : look es hs = some e) : e ∈ es ∧ e.2.1 = hs := by
  refine ⟨List.mem_of_find?_eq_some hL, ?_⟩
  have := List.find?_some hL
  simpa using this
theorem m_get {m n hs k : Nat} {es : List En} (A : LHM h z m n es) (hh : hs < 128) (K : KeyAt h z k hs) (hN : es.length + 1 < N) : sJ24_get G N (some m) (some k) h = some (.inl ((look es hs).map (fun e => e.2.2.2)), h) := by
  have A' := A
  obtain ⟨tab, th, kk, hn, hk4, hk8, ⟨mc, lf, ve, vk, vv, eM, -⟩, hT, hE, hd, hd2⟩ := A
  unfold sJ24_get
  rw [m_bV A', m_node A' hh K hN, l_bnd]
  cases hL : look es hs with
  | none => rfl
  | some e =>
    obtain ⟨E, -, -⟩ := hE e (look_mem hL).1
    show (if some e.1 = none then _ else _) = _
    rw [if_neg (by simp), l_Fi eM rfl, l_J, if_pos rfl]
    show gFr h (some e.1) 27 2 _ = _
    rw [l_Fr E rfl]
    rfl
theorem m_size {m n : Nat} {es : List En} (A : LHM h z m n es) : sJ23_size_c26 G N (some m) h = some (.inl (nI es.length), h) := by
  obtain ⟨tab, th, kk, hn, hk4, hk8, ⟨mc, lf, ve, vk, vv, eM, -⟩, hT, hE, hd, hd2⟩ := A
  unfold sJ23_size_c26
  rw [l_Fi eM rfl]
theorem m_isEmpty {m n : Nat} {es : List En} (A : LHM h z m n es) (hl : es.length < 1000) : sJ23_isEmpty_c26 G N (some m) h = some (.inl (bZ (es.length = 0)), h) := by
  obtain ⟨tab, th, kk, hn, hk4, hk8, ⟨mc, lf, ve, vk, vv, eM, -⟩, hT, hE, hd, hd2⟩ := A
  unfold sJ23_isEmpty_c26
  rw [l_Fi eM rfl]
  by_cases h0 : es.length = 0
  · rw [h0, bZ_t rfl]; rfl
  · rw [bZ_f h0]
    have : ¬ nI es.length = 0 := nI_ne0 (by omega) (by omega)
    simp only [l_J, this, if_false]; rfl
end M2
