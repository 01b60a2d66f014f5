/-! the linked hash map: its table made, and made larger -/
set_option maxRecDepth 100000
set_option maxHeartbeats 2000000
theorem l_NA {α : Type} {h : Hp} {t n : Nat} {z : (Nat → Int32) ⊕ (Nat → Int64) ⊕ (Nat → UInt32) ⊕ (Nat → UInt64) ⊕ (Nat → Option Nat)} {kont : Option Nat → Hp → Out α} (hn : n ≤ 67108864) : gNA h t z (nI n) kont = kont (some h.1) (hnw h (.inl (t, n, z)) n) := by
  unfold gNA
  rw [nI_clamp (by omega), if_neg (fun q => q.elim (nI_pos (by omega)) (fun q => by omega))]
theorem l_Ff {α : Type} {h : Hp} {a ci k : Nat} {fs : List Value} {y : UInt32} {kont : UInt32 → Out α} (e : h.2.2 a = some (.inr (ci, fs))) (hk : fs[k]? = some (.float y)) : gFf h (some a) ci k kont = kont y := by
  unfold gFf gF; simp only [e, hk, if_true]
theorem hup_1 {h : Hp} {a : Nat} {e : GC} : (hup h a e).1 = h.1 := rfl
theorem hup_2 {h : Hp} {a : Nat} {e : GC} : (hup h a e).2.1 = h.2.1 := rfl
theorem hnw_1 {h : Hp} {n : Nat} {e : GC} : (hnw h e n).1 = h.1 + 1 := rfl
theorem hnw_2 {h : Hp} {n : Nat} {e : GC} : (hnw h e n).2.1 = h.2.1 + n := rfl
theorem va_upE {α : Type} {f : Nat → α} {k : Nat} {v : α} {j : Nat} : va_up f k v j = if j = k then v else f j := rfl
section R1
variable {α : Type} {G : GG} {N : Nat} {h : Hp} {z : Bool} {w : Nat → Nat}
theorem fl12 : FP.f2i (FP.fmul (FP.i2f (nI 16)) 1061158912) = nI 12 := by decide +kernel
theorem fl12a : (FP.fmul (FP.i2f (nI 16)) 1061158912) &&& 0x7fffffff ≤ 0x7f800000 := by decide +kernel
theorem fl12b : ¬ 0 ≤ Op.cmpValue (FP.fcmp (FP.fmul (FP.i2f (nI 16)) 1061158912) (1317011456 : UInt32)) .g := by decide +kernel
/-- the first table -/
theorem m_resize0 {t m n : Nat} {es : List En} {sz mc th : Int32} {lf : UInt32} {ve vk vv : Option Nat} {kk : Nat} (A : MX G.1 h w t z m n es none sz mc th lf ve vk vv kk) : ∃ h', sJ23_resize_c26 G N (some m) h = some (.inl (some h.1), h') ∧ h'.1 = h.1 + 1 ∧ h'.2.1 = h.2.1 + 16 ∧ (∀ q, q < h.1 → q ≠ m → h'.2.2 q = h.2.2 q) ∧ MX G.1 h' (nw w h.1 t) t z m n es (some h.1) sz mc (nI 12) lf ve vk vv kk := by
  obtain ⟨h1, h2, h3, h4, h5, h6, h7, h8, h9, h10, h11, h12⟩ := A
  rcases h8 with ⟨a, f, a1, -⟩ | ⟨-, a2, a3, a4⟩
  · exact absurd a1 (by simp)
  subst a2 a3
  have hm := h12.2.1
  have base : ∀ x9 : Int32, x9 = nI 12 → ∃ h', (gP G h (some m) 26 4 (.int x9) fun h12 => gNA h12 8 z_R (nI 16) fun v13 h14 => gP G h14 (some m) 26 0 (va_rf v13) fun h15 => (some (.inl v13, h15) : Out (Option Nat))) = some (.inl (some h.1), h') ∧ h'.1 = h.1 + 1 ∧ h'.2.1 = h.2.1 + 16 ∧ (∀ q, q < h.1 → q ≠ m → h'.2.2 q = h.2.2 q) ∧ MX G.1 h' (nw w h.1 t) t z m n [] (some h.1) sz mc (nI 12) lf ve vk vv 4 := by
    intro x9 hx
    subst hx
    rw [l_P h4 h12.1 (by (show 4 < 12; omega)), l_NA (by omega), l_P (by rw [hnw_ne (by rw [hup_1]; omega)]; exact hup_at) h12.1 (by (show 0 < 12; omega))]
    have vw : ∀ ci v, VwO h w m ci v → VwO (hup (hnw (hup h m (MC none ve sz mc (nI 12) lf vk vv (adr []).head? (adr []).getLast?)) (.inl (8, 16, z_R)) 16) m (MC (some h.1) ve sz mc (nI 12) lf vk vv (adr []).head? (adr []).getLast?)) (nw w h.1 t) m ci v := fun ci v V a ha => by
      obtain ⟨p1, p2, p3⟩ := V a ha
      by_cases hq : a = m
      · subst hq
        rw [h4] at p3
        have := Option.some.inj p3
        injection this with this
        have := (Prod.mk.inj this).2
        simp at this
      · refine ⟨by rw [hup_1, hnw_1, hup_1]; omega, by rw [nw_lt p1]; exact p2, ?_⟩
        rw [hup_ne hq, hnw_ne (by rw [hup_1]; omega), hup_ne hq]
        exact p3
    refine ⟨_, rfl, rfl, rfl, fun q q1 q2 => by rw [hup_ne q2, hnw_ne (by rw [hup_1]; omega), hup_ne q2], h1, h2, h3, hup_at, vw _ _ h5, vw _ _ h6, vw _ _ h7, ?_, (fun e he => nomatch he), h10, h11, h12.1, by rw [hup_1, hnw_1, hup_1]; omega, by rw [nw_lt hm]; exact h12.2.2⟩
    refine Or.inl ⟨h.1, fun _ => none, rfl, ⟨by have := h12.1; omega, by rw [hup_1, hnw_1, hup_1]; omega, nw_ge (Nat.le_refl _)⟩, rfl, ?_, fun i _ => rfl⟩
    rw [hup_ne (by omega), h1]
    exact hnw_at
  unfold sJ23_resize_c26
  rw [l_Fn h4 rfl, l_J, if_pos rfl]
  dsimp only
  rw [l_Fi h4 rfl, l_J]
  rw [if_pos (show (0 : Int32) ≤ 0 by decide)]
  rcases a4 with rfl | ⟨rfl, rfl⟩
  · rw [if_pos (show (0 : Int32) ≤ 0 by decide)]
    dsimp only
    rw [l_J, if_neg (show ¬ (12 : Int32) = 0 by decide)]
    dsimp only
    have := base 12 rfl
    rw [show (16 : Int32) = nI 16 from rfl]
    simpa only [if_true] using this
  · rw [if_neg (show ¬ (16 : Int32) ≤ 0 by decide)]
    dsimp only
    rw [l_J, if_pos rfl, l_Ff h4 rfl]
    unfold gOk32
    rw [show (16 : Int32) = nI 16 from rfl, if_pos fl12a]
    dsimp only
    rw [l_J, l_J, if_neg (show ¬ 1073741824 ≤ nI 16 by decide), if_neg fl12b, fl12]
    have := base (nI 12) rfl
    simpa only [if_true] using this
end R1
