/-! the linked hash map: the table twice as large, put together -/
set_option maxRecDepth 100000
set_option maxHeartbeats 2000000
theorem sh_two : ∀ k, k < 8 → (nI (2 ^ k)) <<< ((1 : Int32) &&& 31) = nI (2 * 2 ^ k) := by decide +kernel
theorem sh_th : ∀ k, k < 5 → (nI (12 * 2 ^ k)) <<< ((1 : Int32) &&& 31) = nI (12 * 2 ^ (k + 1)) := by decide +kernel
section R4
variable {G : GG} {N : Nat} {h : Hp} {z : Bool} {w : Nat → Nat}
theorem mc_ne {a t n : Nat} {x : (Nat → Int32) ⊕ (Nat → Int64) ⊕ (Nat → UInt32) ⊕ (Nat → UInt64) ⊕ (Nat → Option Nat)} {m : Nat} {fs : List Value} {c : Nat} (h1 : h.2.2 a = some (.inl (t, n, x))) (h2 : h.2.2 m = some (.inr (c, fs))) : a ≠ m := fun q => by
  rw [q, h2] at h1; cases h1
theorem cl_ne {a m c c' : Nat} {fs fs' : List Value} (h1 : h.2.2 a = some (.inr (c', fs'))) (h2 : h.2.2 m = some (.inr (c, fs))) (hc : c' ≠ c) : a ≠ m := fun q => by
  rw [q, h2] at h1
  injection h1 with h1
  injection h1 with h1
  exact hc (Prod.mk.inj h1).1.symm
theorem m_resize {t m n a kk : Nat} {es : List En} {sz mc th : Int32} {lf : UInt32} {ve vk vv : Option Nat} (A : MX G.1 h w t z m n es (some a) sz mc th lf ve vk vv kk) (ht : t ≠ 0) (hk : kk ≤ 7) (hN : 200 + es.length < N) : ∃ h', sJ23_resize_c26 G N (some m) h = some (.inl (some h.1), h') ∧ h'.1 = h.1 + 1 ∧ h'.2.1 = h.2.1 + 2 * n ∧ (∀ q, q < h.1 → w q ≠ t → h'.2.2 q = h.2.2 q) ∧ MX G.1 h' (nw w h.1 t) t z m (2 * n) es (some h.1) sz mc (nI (12 * 2 ^ (kk + 1 - 4))) lf ve vk vv (kk + 1) := by
  classical
  obtain ⟨h1, h2, h3, h4, h5, h6, h7, h8, h9, h10, h11, h12⟩ := A
  rcases h8 with ⟨a9, f, a1, a2, a3, a4, a5⟩ | ⟨a1, -⟩
  · cases a1
    have hn7 : n ≤ 128 := by
      rw [h1]; exact Nat.le_trans (Nat.pow_le_pow_right (by omega) hk) (by decide)
    have hn16 : 16 ≤ n := by
      rw [h1]; exact Nat.le_trans (by decide) (Nat.pow_le_pow_right (show 0 < 2 by omega) h2)
    have ham : a ≠ m := mc_ne a4 h4
    have hEm : ∀ e, e ∈ es → e.1 ≠ m ∧ e.1 ≠ a := fun e he => ⟨cl_ne (h9 e he).1 h4 (by decide), fun q => mc_ne a4 (h9 e he).1 q.symm⟩
    -- the heap ahead of the loop
    have ha1 := a2.2.1
    have hm1 := h12.2.1
    obtain ⟨g, hg⟩ : ∃ g, g = hup (hnw (hup h m (MC (some a) ve sz mc (nI (12 * 2 ^ (kk + 1 - 4))) lf vk vv (adr es).head? (adr es).getLast?)) (.inl (8, 2 * n, z_R)) (2 * n)) m (MC (some h.1) ve sz mc (nI (12 * 2 ^ (kk + 1 - 4))) lf vk vv (adr es).head? (adr es).getLast?) := ⟨_, rfl⟩
    have g1 : g.1 = h.1 + 1 := by rw [hg]; rfl
    have g2 : g.2.1 = h.2.1 + 2 * n := by rw [hg]; rfl
    have gm : g.2.2 m = some (MC (some h.1) ve sz mc (nI (12 * 2 ^ (kk + 1 - 4))) lf vk vv (adr es).head? (adr es).getLast?) := by rw [hg]; exact hup_at
    have ga : g.2.2 h.1 = some (.inl (8, 2 * n, z_R)) := by rw [hg, hup_ne (by omega)]; exact hnw_at
    have gq : ∀ q, q < h.1 → q ≠ m → g.2.2 q = h.2.2 q := fun q q1 q2 => by rw [hg, hup_ne q2, hnw_ne (by rw [hup_1]; omega), hup_ne q2]
    have start : ROI g es n a h.1 0 g := by
      refine ⟨rfl, rfl, ⟨f, by rw [gq a ha1 ham]; exact a4, fun i hi _ => a5 i hi⟩, ⟨fun _ => none, ga, fun i _ => by rw [if_neg (by omega)], fun i _ => by rw [if_neg (by omega)]⟩, fun e he => ?_, fun _ _ _ _ => rfl⟩
      rw [gq e.1 (h9 e he).2.2.2.1.2.1 (hEm e he).1, if_neg (by omega)]
      exact (h9 e he).1
    obtain ⟨x, hh, ⟨I0, I1, I2, -, ⟨fn, I3, I4, I5⟩, I6, I7⟩, self, e2⟩ := lp_r (B := bJ23_resize_c26_151 G N (some a) (nI n) (nI (2 * n), nI (12 * 2 ^ (kk + 1 - 4))) (some h.1)) (N := N) (n := n) (fun j x hh => x = nI j ∧ ROI g es n a h.1 j hh) (x0 := nI 0) (h0 := g) (by omega) ⟨rfl, start⟩ (fun j x hh hj I self => by
      obtain ⟨h', q1, q2⟩ := ro_step (N := N) (G := G) (x6 := nI (12 * 2 ^ (kk + 1 - 4))) h1 hk h10 (fun e he => ⟨(h9 e he).2.2.1, (h9 e he).2.2.2.1.1, (hEm e he).2, by have := (h9 e he).2.2.2.1.2.1; omega⟩) a2.1 (by have := a2.1; omega) (by omega) (by omega) hj I.2 self
      rw [I.1]
      exact ⟨_, h', ⟨rfl, q1⟩, q2⟩)
    have hOw : ∀ q, Ow G.1 h w t q → Ow G.1 hh (nw w h.1 t) t q := fun q O => ⟨O.1, by rw [I1, g1]; have := O.2.1; omega, by rw [nw_lt O.2.1]; exact O.2.2⟩
    have hIm : ∀ q, Im h w q → Im hh (nw w h.1 t) q := fun q O => ⟨by rw [I1, g1]; have := O.1; omega, by rw [nw_lt O.1]; exact O.2⟩
    have fr : ∀ q, q < h.1 → w q ≠ t → hh.2.2 q = h.2.2 q := fun q q1 q2 => by
      rw [I7 q (fun e => q2 (by rw [e]; exact a2.2.2)) (by omega) (fun hx => by
        obtain ⟨e, b1, b2⟩ := List.mem_map.mp hx
        exact q2 (by rw [← b2]; exact (h9 e b1).2.2.2.1.2.2)), gq q q1 (fun e => q2 (by rw [e]; exact h12.2.2))]
    have hVw : ∀ ci v, VwO h w m ci v → VwO hh (nw w h.1 t) m ci v := fun ci v V => V.same (by rw [I1, g1]; omega) (fun q hq => nw_lt hq) (fun q hq => by
      obtain ⟨p1, p2, p3⟩ := V q hq
      exact fr q p1 (by rw [p2]; exact fun e => ht e.symm))
    refine ⟨hh, ?_, by rw [I1, g1], by rw [I2, g2], fr, by rw [Nat.pow_succ]; omega, by omega, by omega, ?_, hVw _ _ h5, hVw _ _ h6, hVw _ _ h7, Or.inl ⟨h.1, fn, rfl, ⟨by have := a2.1; omega, by rw [I1, g1]; omega, nw_ge (Nat.le_refl _)⟩, rfl, I3, fun i hi => ?_⟩, fun e he => ?_, h10, h11, hOw m h12⟩
    · unfold sJ23_resize_c26
      rw [l_Fr h4 rfl, l_J, if_neg (by simp), l_Lenr a4 (by decide)]
      dsimp only
      rw [l_Fi h4 rfl, l_J, if_neg (by rw [n_0]; exact fun q => absurd ((nI_leI (by omega) (by omega)).mp q) (by omega)), if_pos (by rw [show (1073741824 : Int32) = nI 1073741824 from rfl]; exact (nI_ltI (by omega) (by omega)).mpr (by omega)), l_let]
      rw [show nI n <<< ((1 : Int32) &&& 31) = nI (2 * n) by rw [h1]; exact sh_two kk (by omega)]
      rw [if_neg (by rw [show (1073741824 : Int32) = nI 1073741824 from rfl]; exact fun q => absurd ((nI_leI (by omega) (by omega)).mp q) (by omega)), if_neg (by rw [n_16]; exact fun q => absurd ((nI_ltI (by omega) (by omega)).mp q) (by omega)), l_let]
      rw [show th <<< ((1 : Int32) &&& 31) = nI (12 * 2 ^ (kk + 1 - 4)) by rw [a3, show kk + 1 - 4 = kk - 4 + 1 by omega]; exact sh_th _ (by omega)]
      dsimp only
      have hth : ¬ nI (12 * 2 ^ (kk + 1 - 4)) = 0 := by
        have q1 : 2 ^ (kk + 1 - 4) ≤ 2 ^ 4 := Nat.pow_le_pow_right (by omega) (by omega)
        have q2 : 0 < 2 ^ (kk + 1 - 4) := Nat.two_pow_pos _
        exact nI_ne0 (by omega) (by omega)
      rw [l_J, if_neg hth]
      dsimp only
      rw [l_P h4 h12.1 (by (show 4 < 12; omega)), l_NA (by omega), l_P (by rw [hnw_ne (by rw [hup_1]; omega)]; exact hup_at) h12.1 (by (show 0 < 12; omega)), if_neg (by simp)]
      rw [hg] at e2
      refine e2.trans ?_
      unfold bJ23_resize_c26_151
      rw [if_pos (by rw [I0]; exact (nI_leI (by omega) (by omega)).mpr (Nat.le_refl _))]
    · rw [I7 m (Ne.symm ham) (by omega) (fun hx => by
        obtain ⟨e, b1, b2⟩ := List.mem_map.mp hx
        exact (hEm e b1).1 b2), gm]
    · by_cases hi2 : i < n
      · rw [I4 i hi2, if_pos hi2]
      · have := I5 (i - n) (by omega)
        rw [if_pos (by omega), show i - n + n = i by omega] at this
        exact this
    · obtain ⟨b1, b2, b3, b4, b5, b6⟩ := h9 e he
      refine ⟨?_, ?_, b3, hOw _ b4, hIm _ b5, hIm _ b6⟩
      · have := I6 e he
        rw [if_pos (Nat.mod_lt _ (by omega))] at this
        exact this
      · unfold KeyAt at b2 ⊢
        rw [fr _ b5.1 (by rw [b5.2]; exact fun e => ht e.symm)]
        exact b2
  · cases a1
end R4
