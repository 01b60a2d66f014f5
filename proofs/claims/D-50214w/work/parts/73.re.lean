/-! other tags; a list that grows -/
set_option maxRecDepth 100000
set_option maxHeartbeats 2000000
/-- tags by their old ones -/
def Rt (f : Nat → Nat) (h : Hp) (w w' : Nat → Nat) : Prop := f 0 = 0 ∧ f 1 = 1 ∧ ∀ q, q < h.1 → w' q = f (w q)
section A1
variable {f : Nat → Nat} {b t t2 o m n q : Nat} {h : Hp} {w w' y : Nat → Nat} {z : Bool} {es : List En} {R : Row} {nl : Nat → List Nat} {e : GC}
theorem Ow.re (O : Ow b h w t q) (F : Rt f h w w') : Ow b h w' (f t) q := ⟨O.1, O.2.1, by rw [F.2.2 q O.2.1, O.2.2]⟩
theorem Im.re (O : Im h w q) (F : Rt f h w w') : Im h w' q := ⟨O.1, by rw [F.2.2 q O.1, O.2, F.1]⟩
theorem ImC.re (O : ImC h w q e) (F : Rt f h w w') : ImC h w' q e := ⟨O.1, by rw [F.2.2 q O.1, O.2.1, F.1], O.2.2⟩
theorem VwO.re {ci : Nat} {v : Option Nat} (V : VwO h w m ci v) (F : Rt f h w w') : VwO h w' m ci v := fun a ha => by
  obtain ⟨p1, p2, p3⟩ := V a ha
  exact ⟨p1, by rw [F.2.2 a p1, p2, F.1], p3⟩
theorem MR.re (A : MR b h w t z m n es) (F : Rt f h w w') : MR b h w' (f t) z m n es := by
  obtain ⟨tab, mc, th, lf, ve, vk, vv, kk, h1, h2, h3, h4, h5, h6, h7, h8, h9, h10, h11, h12⟩ := A
  refine ⟨tab, mc, th, lf, ve, vk, vv, kk, h1, h2, h3, h4, h5.re F, h6.re F, h7.re F, ?_, fun e he => ?_, h10, h11, h12.re F⟩
  · rcases h8 with ⟨a, g, a1, a2, a3⟩ | h8
    · exact Or.inl ⟨a, g, a1, a2.re F, a3⟩
    · exact Or.inr h8
  · obtain ⟨b1, b2, b3, b4, b5, b6⟩ := h9 e he
    exact ⟨b1, b2, b3, b4.re F, b5.re F, b6.re F⟩
theorem AW.re {a : Nat} {x : Nat → Nat} (A : AW h w a n x) (F : Rt f h w w') : AW h w' a n x := by
  obtain ⟨e, m, mc, g, h1, h2, h3⟩ := A
  exact ⟨e, m, mc, g, h1.re F, h2.re F, h3⟩
theorem StrC.re {s : Nat} {L : List Nat} (A : StrC h w s L) (F : Rt f h w w') : StrC h w' s L := by
  obtain ⟨a, hh, hz, g, h1, h2, h3⟩ := A
  exact ⟨a, hh, hz, g, h1.re F, h2.re F, h3⟩
theorem MtW.re {mt : Nat} {sp : Nat → Nat} (A : MtW h w mt R sp nl) (F : Rt f h w w') : MtW h w' mt R sp nl := by
  obtain ⟨cr, sr, rl, fl, ms, ka, ca, sa, csp, rg, fg, kf, g, h1, h2, h3, h4, h5, h6, h7, h8, h9, h10, h11, h12, h13⟩ := A
  refine ⟨cr, sr, rl, fl, ms, ka, ca, sa, csp, rg, fg, kf, g, h1.re F, h2.re F, h3.re F, fun k hk => ?_, h5.re F, h6.re F, fun s hs => ?_, h8.re F, fun k hk => (h9 k hk).re F, h10.re F, fun k hk => (h11 k hk).re F, h12.re F, fun p hp => ⟨(h13 p hp).1, (h13 p hp).2.re F⟩⟩
  · obtain ⟨nm, x, y, z, f, a1, a2⟩ := h4 k hk
    exact ⟨nm, x, y, z, f, a1.re F, a2.re F⟩
  · obtain ⟨nm, f, a1, a2⟩ := h7 s hs
    exact ⟨nm, f, a1.re F, a2.re F⟩
theorem BuR.re {bu : Nat} (A : BuR b h w t bu R) (F : Rt f h w w') : BuR b h w' (f t) bu R := by
  obtain ⟨el, hd, i, g, a1, a2, a3, a4, a5, a6, a7, a8⟩ := A
  refine ⟨el, hd, i, g, a1.re F, a2, a3.re F, a4, a5, a6, a7, fun k hk => ?_⟩
  obtain ⟨bl, b1, b2⟩ := a8 k hk
  exact ⟨bl, b1, b2.re F⟩
theorem VoR.re (A : VoR h w R o es) (F : Rt f h w w') : VoR h w' R o es := by
  refine ⟨fun p hp => ?_, A.2⟩
  rcases A.1 p hp with q | ⟨e, rd, tm, a1, a2, a3⟩
  · exact Or.inl q
  · exact Or.inr ⟨e, rd, tm, a1, a2.re F, a3⟩
theorem CabO.re {cb ru mp nn : Nat} (A : CabO b h w t t2 o R cb ru mp nn es) (F : Rt f h w w') : CabO b h w' (f t) (f t2) o R cb ru mp nn es := by
  obtain ⟨a1, a2, ⟨a3, a4⟩, a6, a7⟩ := A
  exact ⟨a1.re F, a2, ⟨a3.re F, a4⟩, a6.re F, a7.re F⟩
theorem SumO.re {rd gr : Nat} (A : SumO b h w rd gr) (F : Rt f h w w') : SumO b h w' rd gr := by
  obtain ⟨a1, a2, a3, a4, a5⟩ := A
  have h1 := a1.re F
  have h2 := a2.re F
  rw [F.2.1] at h1 h2
  exact ⟨h1, h2, a3, a4, a5⟩
end A1
section A2
variable {f : Nat → Nat} {b st : Nat} {h : Hp} {w w' y : Nat → Nat} {R : Row} {nl : Nat → List Nat} {mt cl se bu rd gr : Nat} {cb ru mp sp nn : Nat → Nat} {es : Nat → List En}
theorem StX.re (A : StX b h w y st R nl mt cl se bu rd gr cb ru mp sp nn es) (F : Rt f h w w') : StX b h w' (fun i => f (y i)) st R nl mt cl se bu rd gr cb ru mp sp nn es := by
  obtain ⟨a1, a2, ⟨a3, a4⟩, a6, a7, a8, a9, a10, a11, a12⟩ := A
  exact ⟨a1, a2.re F, ⟨a3.re F, a4⟩, a6.re F, a7.re F, a8.re F, a9.re F, fun k hk => (a10 k hk).re F, a11, a12⟩
end A2
section A3
variable {α : Type} {G : GG} {N : Nat} {h : Hp}
/-- a list that grows: its array e is the shared empty one, or one of ten -/
def LB (G : GG) (h : Hp) (a e n : Nat) (x : Nat → Nat) : Prop := ∃ (mc : Int32) (f : Nat → Option Nat), h.2.2 a = some (.inr (24, [.int mc, .ref e, .int (nI n)])) ∧ ((n = 0 ∧ e = G.2.2.2.2 0 ∧ h.2.2 e = some (.inl (5, 0, .inr (.inr (.inr (.inr f)))))) ∨ (0 < n ∧ G.1 ≤ e ∧ e < h.1 ∧ n ≤ 10 ∧ h.2.2 e = some (.inl (5, 10, .inr (.inr (.inr (.inr f))))) ∧ ∀ i, i < n → f i = some (x i)))
theorem LB.bV {β : Type} {a e n : Nat} {x : Nat → Nat} {g : Nat → Out β} {k : β → Hp → Out α} (A : LB G h a e n x) : bV h (some a) 24 g k = bnd (g a) k := by
  obtain ⟨mc, f, e1, -⟩ := A
  exact l_bV e1
theorem LB.same {h' : Hp} {a e n : Nat} {x : Nat → Nat} (A : LB G h a e n x) (h1 : h.1 ≤ h'.1) (ha : h'.2.2 a = h.2.2 a) (he : h'.2.2 e = h.2.2 e) : LB G h' a e n x := by
  obtain ⟨mc, f, e1, e2⟩ := A
  refine ⟨mc, f, by rw [ha]; exact e1, ?_⟩
  rcases e2 with ⟨a1, a2, a3⟩ | ⟨a0, a1, a2, a3, a4, a5⟩
  · exact Or.inl ⟨a1, a2, by rw [he]; exact a3⟩
  · exact Or.inr ⟨a0, a1, by omega, a3, by rw [he]; exact a4, a5⟩
theorem lb_new {a : Nat} {f : Nat → Option Nat} (b1 : G.1 ≤ a) (ha : h.2.2 a = some (.inr (24, [.int 0, .null, .int 0]))) (hE : h.2.2 (G.2.2.2.2 0) = some (.inl (5, 0, .inr (.inr (.inr (.inr f)))))) (x : Nat → Nat) : ∃ h', sJ12_init G N (some a) h = some (.inl (), h') ∧ h'.1 = h.1 ∧ h'.2.1 = h.2.1 ∧ (∀ q, q ≠ a → h'.2.2 q = h.2.2 q) ∧ LB G h' a (G.2.2.2.2 0) 0 x := by
  unfold sJ12_init sJ11_init_c24 sJ0_init_c24
  simp only [l_bI, l_NN, l_bnd]
  first
    | rw [l_P ha b1 (by (show 1 < 3; omega))]
      refine ⟨_, rfl, rfl, rfl, fun q hq => hup_ne hq, 0, f, hup_at, Or.inl ⟨rfl, rfl, by rw [hup_ne (mc_ne hE ha)]; exact hE⟩⟩
    | rw [l_P ha b1 (by (show 0 < 3; omega)), l_bnd, l_P hup_at b1 (by (show 1 < 3; omega)), hup_up]
      refine ⟨_, rfl, rfl, rfl, fun q hq => hup_ne hq, 0, f, hup_at, Or.inl ⟨rfl, rfl, by rw [hup_ne (mc_ne hE ha)]; exact hE⟩⟩
theorem lb_add {a e n v c : Nat} {fs : List Value} {x : Nat → Nat} (A : LB G h a e n x) (hn : n < 10) (b1 : G.1 ≤ a) (b2 : G.1 ≤ h.1) (ha : a < h.1) (hv : h.2.2 v = some (.inr (c, fs))) (hc : c ∈ asl_java_lang_Object) (hc2 : c ≠ 24) (hv1 : v < h.1) : ∃ h' e', sJ12_add G N (some a) (some v) h = some (.inl 1, h') ∧ h.1 ≤ h'.1 ∧ h'.1 ≤ h.1 + 1 ∧ h'.2.1 ≤ h.2.1 + 10 ∧ LB G h' a e' (n + 1) (va_up x n v) ∧ (∀ q, q < h.1 → q ≠ a → (q = e → n = 0) → h'.2.2 q = h.2.2 q) ∧ ((n = 0 ∧ e' = h.1) ∨ (0 < n ∧ e' = e)) := by
  obtain ⟨mc, f, e1, e2⟩ := A
  have va : v ≠ a := cl_ne hv e1 hc2
  unfold sJ12_add sJ12_add_2
  rw [l_Fi e1 rfl, l_P e1 b1 (by (show 0 < 3; omega)), l_Fr hup_at rfl, l_Fi hup_at rfl, l_bV hup_at]
  rcases e2 with ⟨a1, a2, a3⟩ | ⟨a0, a1, a2, a3, a4, a5⟩
  · subst a1 a2
    have ea : G.2.2.2.2 0 ≠ a := mc_ne a3 e1
    have m3 : (imax (10 : Int32) (nI 0 + 1)) = nI 10 := by decide
    rw [l_Lenr (by rw [hup_ne ea]; exact a3) (by decide), l_J, if_pos rfl, l_bV hup_at]
    unfold sJ12_grow sJ12_grow_2
    rw [l_Fi hup_at rfl, l_bV hup_at, l_Fr hup_at rfl, l_Lenr (by rw [hup_ne ea]; exact a3) (by decide), if_neg (by decide), l_Fr hup_at rfl, if_pos rfl, p_max, l_bnd, m3, l_NA (by omega), l_P (by rw [hnw_ne (by rw [hup_1]; omega)]; exact hup_at) b1 (by (show 1 < 3; omega)), l_bnd, l_bnd]
    dsimp only
    rw [l_Srn (by rw [hup_ne (by rw [hup_1]; omega)]; exact hnw_at) (by rw [hup_1]; exact b2) (show 0 < 10 by omega) (by omega) (by rw [hup_ne va, hnw_ne (by rw [hup_1]; omega), hup_ne va]; exact hv) hc, l_P (by rw [hup_ne (by rw [hup_1]; omega)]; exact hup_at) b1 (by (show 2 < 3; omega)), l_bnd]
    refine ⟨_, h.1, rfl, by simp only [hup_1, hnw_1]; omega, by simp only [hup_1, hnw_1]; omega, by simp only [hup_2, hnw_2]; omega, ⟨mc + 1, _, hup_at, Or.inr ⟨by omega, b2, by simp only [hup_1, hnw_1]; omega, by omega, by rw [hup_ne (by omega)]; exact hup_at, fun i hi => ?_⟩⟩, fun q q1 q2 q3 => ?_, Or.inl ⟨rfl, rfl⟩⟩
    · have : i = 0 := by omega
      subst this
      rw [va_upE, if_pos rfl, va_upE, if_pos rfl]
    · rw [hup_ne q2, hup_ne (by rw [hup_1]; omega), hup_ne q2, hnw_ne (by rw [hup_1]; omega), hup_ne q2]
  · have ea : e ≠ a := mc_ne a4 e1
    rw [l_Lenr (by rw [hup_ne ea]; exact a4) (by decide), l_J, if_neg (fun q => absurd ((nI_eq (by omega) (by omega)).mp q) (by omega))]
    dsimp only
    rw [l_Srn (by rw [hup_ne ea]; exact a4) a1 hn (by omega) (by rw [hup_ne va]; exact hv) hc, l_P (by rw [hup_ne (Ne.symm ea)]; exact hup_at) b1 (by (show 2 < 3; omega)), l_bnd]
    refine ⟨_, e, rfl, Nat.le_refl _, by simp only [hup_1]; omega, by simp only [hup_2]; omega, ⟨mc + 1, _, ?_, Or.inr ⟨by omega, a1, a2, by omega, by rw [hup_ne ea]; exact hup_at, fun i hi => ?_⟩⟩, fun q q1 q2 q3 => ?_, Or.inr ⟨a0, rfl⟩⟩
    · rw [hup_at, n_1, nI_add]
      rfl
    · rw [va_upE, va_upE]
      by_cases hq : i = n
      · rw [if_pos hq, if_pos hq]
      · rw [if_neg hq, if_neg hq]; exact a5 i (by omega)
    · rw [hup_ne q2, hup_ne (fun h => by have := q3 h; omega), hup_ne q2]
end A3
