/-! the linked hash map: changes -/
set_option maxRecDepth 100000
set_option maxHeartbeats 1000000
section H1
variable {α : Type} {G : GG} {N : Nat} {h : Hp}
theorem hup_at {a : Nat} {e : GC} : (hup h a e).2.2 a = some e := if_pos rfl
theorem hup_ne {a q : Nat} {e : GC} (hq : q ≠ a) : (hup h a e).2.2 q = h.2.2 q := if_neg hq
theorem hnw_at {e : GC} {n : Nat} : (hnw h e n).2.2 h.1 = some e := if_pos rfl
theorem hnw_ne {q : Nat} {e : GC} {n : Nat} (hq : q ≠ h.1) : (hnw h e n).2.2 q = h.2.2 q := if_neg hq
theorem l_P {a ci k : Nat} {fs : List Value} {v : Value} {kont : Hp → Out α} (e : h.2.2 a = some (.inr (ci, fs))) (hb : G.1 ≤ a) (hk : k < fs.length) : gP G h (some a) ci k v kont = kont (hup h a (.inr (ci, fs.set k v))) := by
  unfold gP; simp only [e]
  rw [if_pos ⟨trivial, hb, hk⟩]
theorem l_Sr {a t n i : Nat} {cs : List Nat} {f : Nat → Option Nat} {x : Option Nat} {kont : Hp → Out α} (e : h.2.2 a = some (.inl (t, n, .inr (.inr (.inr (.inr f)))))) (hb : G.1 ≤ a) (hi : i < n) (hn : n < 2 ^ 31) (hx : ∀ y, x = some y → ∃ c fs, h.2.2 y = some (.inr (c, fs)) ∧ c ∈ cs) : gSr G h (some a) t cs (nI i) x kont = kont (hup h a (.inl (t, n, .inr (.inr (.inr (.inr (va_up f i x))))))) := by
  unfold gSr
  simp only [e]
  rw [if_pos ⟨trivial, hb, nI_in hi hn⟩, nI_clamp (by omega)]
  cases x with
  | none => rfl
  | some y =>
    obtain ⟨c, fs, e1, e2⟩ := hx y rfl
    simp only [e1]
    rw [if_pos e2]
/-- a node's cell -/
abbrev ND (hs k v : Nat) (nx bf af : Option Nat) : GC := .inr (27, [.int (nI hs), .ref k, .ref v, va_rf nx, va_rf bf, va_rf af])
/-- a map's cell -/
abbrev MC (tab ve : Option Nat) (sz mc th : Int32) (lf : UInt32) (vk vv hd tl : Option Nat) : GC := .inr (26, [va_rf tab, va_rf ve, .int sz, .int mc, .int th, .float lf, va_rf vk, va_rf vv, va_rf hd, va_rf tl, .int 0, .int 0])
theorem hnw_up {e e' : GC} {n : Nat} : hup (hnw h e n) h.1 e' = hnw h e' n := by
  unfold hup hnw
  refine congrArg (fun f => (h.1 + 1, h.2.1 + n, f)) (funext fun q => ?_)
  by_cases hq : q = h.1
  · simp only [hq, if_true]
  · simp only [hq, if_false]
theorem hup_up {a : Nat} {e e' : GC} : hup (hup h a e) a e' = hup h a e' := by
  unfold hup
  refine congrArg (fun f => (h.1, h.2.1, f)) (funext fun q => ?_)
  by_cases hq : q = a
  · simp only [hq, if_true]
  · simp only [hq, if_false]
theorem m_init {hs k v : Nat} {kn : Option Nat} (hb : G.1 ≤ h.1) : sJ48_init G N (some h.1) (nI hs) (some k) (some v) kn (hnw h (.inr (27, [.int 0, .null, .null, .null, .null, .null])) 6) = some (.inl (), hnw h (ND hs k v kn none none) 6) := by
  unfold sJ48_init sJ47_init_c27
  rw [l_bI, l_NN, l_P hnw_at hb (by (show 0 < 6; omega)), hnw_up, l_P hnw_at hb (by (show 1 < 6; omega)), hnw_up, l_P hnw_at hb (by (show 2 < 6; omega)), hnw_up, l_P hnw_at hb (by (show 3 < 6; omega)), hnw_up]
  rfl
/-- a node put behind the last: what changes -/
theorem m_link {m : Nat} {tab ve vk vv hd tl : Option Nat} {sz mc th : Int32} {lf : UInt32} {hs k v : Nat} (hb : G.1 ≤ h.1) (hm : G.1 ≤ m) (hm1 : m < h.1) (eM : h.2.2 m = some (MC tab ve sz mc th lf vk vv hd tl))
    (hl : ∀ l, tl = some l → G.1 ≤ l ∧ l < h.1 ∧ l ≠ m ∧ ∃ hs' k' v' nx' bf' af', h.2.2 l = some (ND hs' k' v' nx' bf' af')) :
    ∃ h', sJ24_newNode G N (some m) (nI hs) (some k) (some v) none h = some (.inl (some h.1), h') ∧ h'.1 = h.1 + 1 ∧ h'.2.1 = h.2.1 + 6 ∧ h'.2.2 h.1 = some (ND hs k v none tl none) ∧
      h'.2.2 m = some (MC tab ve sz mc th lf vk vv (if tl = none then some h.1 else hd) (some h.1)) ∧
      (∀ l hs' k' v' nx' bf' af', tl = some l → h.2.2 l = some (ND hs' k' v' nx' bf' af') → h'.2.2 l = some (ND hs' k' v' nx' bf' (some h.1))) ∧
      ∀ q, q ≠ m → q ≠ h.1 → some q ≠ tl → h'.2.2 q = h.2.2 q := by
  have e0 : (hnw h (ND hs k v none none none) 6).2.2 m = some (MC tab ve sz mc th lf vk vv hd tl) := by rw [hnw_ne (by omega)]; exact eM
  unfold sJ24_newNode gNew
  dsimp only
  rw [l_bI, m_init hb, l_bnd, l_bV e0]
  unfold sJ24_linkNodeAtEnd
  rw [l_Fi e0 rfl, if_neg (by decide), l_Fv (x := tl) e0 rfl, l_P e0 hm (by (show 9 < 12; omega))]
  cases tl with
  | none =>
    rw [if_pos rfl, l_P hup_at hm (by (show 8 < 12; omega)), hup_up]
    refine ⟨_, rfl, rfl, rfl, ?_, ?_, (fun l _ _ _ _ _ _ h1 => nomatch h1), fun q q1 q2 _ => ?_⟩
    · rw [hup_ne (by omega), hnw_at]
    · rw [hup_at]; rfl
    · rw [hup_ne q1, hnw_ne q2]
  | some l =>
    obtain ⟨l1, l2, l3, hs', k', v', nx', bf', af', eL⟩ := hl l rfl
    rw [if_neg (by simp), l_P (by rw [hup_ne (show h.1 ≠ m by omega)]; exact hnw_at) hb (by (show 4 < 6; omega))]
    rw [l_P (by rw [hup_ne (show l ≠ h.1 by omega), hup_ne l3, hnw_ne (by omega)]; exact eL) l1 (by (show 5 < 6; omega))]
    refine ⟨_, rfl, rfl, rfl, ?_, ?_, fun l9 hs9 k9 v9 nx9 bf9 af9 h1 h2 => ?_, fun q q1 q2 q3 => ?_⟩
    · rw [hup_ne (by omega), hup_at]; rfl
    · rw [hup_ne (Ne.symm l3), hup_ne (by omega), hup_at]; rfl
    · cases h1
      rw [eL] at h2
      rw [hup_at]
      injection h2 with h2
      injection h2 with h2
      have h3 := (Prod.mk.inj h2).2
      rw [h3]
      rfl
    · rw [hup_ne (fun e => q3 (by rw [e])), hup_ne q2, hup_ne q1, hnw_ne q2]
end H1
