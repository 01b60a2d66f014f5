/-! the linked hash map: clear; views; iterators -/
set_option maxRecDepth 100000
set_option maxHeartbeats 2000000
section I1
variable {α : Type} {G : GG} {N : Nat} {h : Hp} {z : Bool} {w : Nat → Nat}
theorem m_clear {t m n : Nat} {es : List En} (A : MR G.1 h w t z m n es) (ht : t ≠ 0) (hN : 400 < N) : ∃ h', sJ24_clear G N (some m) h = some (.inl (), h') ∧ h'.1 = h.1 ∧ h'.2.1 = h.2.1 ∧ (∀ q, q < h.1 → w q ≠ t → h'.2.2 q = h.2.2 q) ∧ MR G.1 h' w t z m n [] := by
  classical
  obtain ⟨tab, mc, th, lf, ve, vk, vv, kk, X⟩ := A
  have hlen := X.len
  obtain ⟨h1, h2, h3, h4, h5, h6, h7, h8, h9, h10, h11, h12⟩ := X
  have hn16 : 16 ≤ n := by
    rw [h1]; exact Nat.le_trans (by decide) (Nat.pow_le_pow_right (show 0 < 2 by omega) h2)
  have hn8 : n ≤ 2 ^ 8 := by rw [h1]; exact Nat.pow_le_pow_right (by omega) h3
  -- the end
  have fin : ∀ (u : Hp) (sz : Int32), u.1 = h.1 → u.2.1 = h.2.1 → sz = 0 → u.2.2 m = some (MC tab ve sz (mc + 1) th lf vk vv (adr es).head? (adr es).getLast?) → (∀ q, w q ≠ t → u.2.2 q = h.2.2 q) → (∀ a, tab = some a → ∃ f : Nat → Option Nat, u.2.2 a = some (.inl (8, n, .inr (.inr (.inr (.inr f))))) ∧ ∀ i, i < n → f i = none) → ∃ h', (gP G u (some m) 26 9 (va_rf none) fun h3 => gP G h3 (some m) 26 8 (va_rf none) fun h4 => (some (.inl (), h4) : Out Unit)) = some (.inl (), h') ∧ h'.1 = h.1 ∧ h'.2.1 = h.2.1 ∧ (∀ q, q < h.1 → w q ≠ t → h'.2.2 q = h.2.2 q) ∧ MR G.1 h' w t z m n [] := by
    intro u sz u1 u2 hsz um uq ut
    subst hsz
    rw [l_P um h12.1 (by (show 9 < 12; omega)), l_P hup_at h12.1 (by (show 8 < 12; omega)), hup_up]
    have um' : ∀ q, q ≠ m → (hup u m (MC tab ve 0 (mc + 1) th lf vk vv none none)).2.2 q = u.2.2 q := fun q hq => hup_ne hq
    have vw : ∀ ci v, VwO h w m ci v → ci ≠ 26 → VwO (hup u m (MC tab ve 0 (mc + 1) th lf vk vv none none)) w m ci v := fun ci v V hc => V.same (by rw [hup_1, u1]; exact Nat.le_refl _) (fun _ _ => rfl) (fun q hq => by
      obtain ⟨p1, p2, p3⟩ := V q hq
      rw [um' q (cl_ne p3 h4 hc), uq q (by rw [p2]; exact fun e => ht e.symm)])
    refine ⟨hup u m (MC tab ve 0 (mc + 1) th lf vk vv none none), rfl, u1, u2, fun q _ q2 => by rw [um' q (fun e => q2 (by rw [e]; exact h12.2.2)), uq q q2], tab, mc + 1, th, lf, ve, vk, vv, kk, h1, h2, h3, hup_at, vw _ _ h5 (by decide), vw _ _ h6 (by decide), vw _ _ h7 (by decide), ?_, (fun e he => nomatch he), List.nodup_nil, List.nodup_nil, h12.1, by rw [hup_1, u1]; exact h12.2.1, h12.2.2⟩
    rcases h8 with ⟨a, f, a1, a2, a3, a4, a5⟩ | ⟨a1, a2, a3⟩
    · obtain ⟨f', f1, f2⟩ := ut a a1
      exact Or.inl ⟨a, f', a1, ⟨a2.1, by rw [hup_1, u1]; exact a2.2.1, a2.2.2⟩, a3, by rw [um' a (mc_ne f1 um)]; exact f1, fun i hi => by rw [f2 i hi]; rfl⟩
    · exact Or.inr ⟨a1, rfl, a3⟩
  unfold sJ24_clear
  rw [l_bV h4]
  unfold sJ23_clear_c26
  rw [l_Fi h4 rfl, l_P h4 h12.1 (by (show 3 < 12; omega)), l_Fv (x := tab) hup_at rfl]
  rcases h8 with ⟨a, f, a1, a2, a3, a4, a5⟩ | ⟨a1, a2, a3⟩
  · subst a1
    have ham : a ≠ m := mc_ne a4 h4
    rw [if_neg (by simp), l_Fi hup_at rfl]
    by_cases hz : es.length = 0
    · have hes := List.eq_nil_of_length_eq_zero hz
      rw [if_pos (by rw [hz]; decide), l_bnd]
      refine fin _ (nI es.length) rfl rfl (by rw [hz]; rfl) hup_at (fun q q2 => hup_ne (fun e => q2 (by rw [e]; exact h12.2.2))) (fun a9 ha => ?_)
      cases ha
      exact ⟨f, by rw [hup_ne ham]; exact a4, fun i hi => by rw [a5 i hi, hes]; rfl⟩
    · rw [if_neg (by rw [n_0]; exact fun q => absurd ((nI_leI (by omega) (by omega)).mp q) (by omega)), l_P hup_at h12.1 (by (show 2 < 12; omega)), hup_up]
      obtain ⟨u, hu⟩ : ∃ u, u = hup h m (.inr (26, ([va_rf (some a), va_rf ve, .int (nI es.length), .int mc, .int th, .float lf, va_rf vk, va_rf vv, va_rf (adr es).head?, va_rf (adr es).getLast?, .int 0, .int 0].set 3 (.int (mc + 1))).set 2 (.int 0))) := ⟨_, rfl⟩
      rw [← hu]
      have hu2 : u = hup h m (MC (some a) ve 0 (mc + 1) th lf vk vv (adr es).head? (adr es).getLast?) := hu
      have ua : u.2.2 a = some (.inl (8, n, .inr (.inr (.inr (.inr f))))) := by rw [hu2, hup_ne ham]; exact a4
      obtain ⟨x, hh, ⟨I1, I2, I3, ⟨f', I4, I5⟩, I6⟩, self, e2⟩ := lp_r (B := bJ23_clear_c26_33 G N (some a)) (N := N) (n := n) (fun j x hh => x = nI j ∧ hh.1 = h.1 ∧ hh.2.1 = h.2.1 ∧ (∃ f' : Nat → Option Nat, hh.2.2 a = some (.inl (8, n, .inr (.inr (.inr (.inr f'))))) ∧ ∀ i, i < j → f' i = none) ∧ ∀ q, q ≠ a → hh.2.2 q = u.2.2 q) (x0 := 0) (h0 := u) (by omega) ⟨rfl, by rw [hu2]; rfl, by rw [hu2]; rfl, ⟨f, ua, fun i hi => by omega⟩, fun _ _ => rfl⟩ (fun j x hh hj I self => by
        obtain ⟨I1, I2, I3, ⟨f', I4, I5⟩, I6⟩ := I
        refine ⟨nI (j + 1), hup hh a (.inl (8, n, .inr (.inr (.inr (.inr (va_up f' j none)))))), ⟨rfl, I2, I3, ⟨_, hup_at, fun i hi => ?_⟩, fun q hq => by rw [hup_ne hq]; exact I6 q hq⟩, ?_⟩
        · rw [va_upE]
          by_cases hq : i = j
          · rw [if_pos hq]
          · rw [if_neg hq]; exact I5 i (by omega)
        · unfold bJ23_clear_c26_33
          rw [I1, l_Lenr I4 (by decide), if_neg (fun q => absurd ((nI_leI (by omega) (by omega)).mp q) (by omega)), l_Sr I4 a2.1 hj (by omega) (fun y hy => by cases hy), n_1, nI_add])
      rw [e2]
      unfold bJ23_clear_c26_33
      rw [I1, l_Lenr I4 (by decide), if_pos ((nI_leI (by omega) (by omega)).mpr (Nat.le_refl _)), l_bnd]
      refine fin hh 0 I2 I3 rfl (by rw [I6 m (Ne.symm ham), hu2]; exact hup_at) (fun q q2 => by rw [I6 q (fun e => q2 (by rw [e]; exact a2.2.2)), hu2, hup_ne (fun e => q2 (by rw [e]; exact h12.2.2))]) (fun a9 ha => ?_)
      cases ha
      exact ⟨f', I4, I5⟩
  · subst a1
    rw [if_pos rfl, l_bnd]
    refine fin _ (nI es.length) rfl rfl (by rw [a2]; rfl) hup_at (fun q q2 => hup_ne (fun e => q2 (by rw [e]; exact h12.2.2))) (fun a9 ha => nomatch ha)
/-- an iterator: what is next -/
def ItAt (h : Hp) (ci it m : Nat) (mc : Int32) (nx : Option Nat) : Prop := ∃ cur : Option Nat, h.2.2 it = some (.inr (ci, [va_rf nx, va_rf cur, .int mc, .int 0, .ref m]))
theorem VwO.one {b t m n kk : Nat} {es : List En} {tab : Option Nat} {sz mc th : Int32} {lf : UInt32} {ve vk vv : Option Nat} (A : MX b h w t z m n es tab sz mc th lf ve vk vv kk) : m < h.1 := A.2.2.2.2.2.2.2.2.2.2.2.2.1

/-- the view: E -/
theorem m_viewE {t m n kk : Nat} {es : List En} {tab : Option Nat} {sz mc th : Int32} {lf : UInt32} {ve vk vv : Option Nat} (A : MX G.1 h w t z m n es tab sz mc th lf ve vk vv kk) (hb : G.1 ≤ h.1) : ∃ v h' ve' vk' vv', sJ24_entrySet G N (some m) h = some (.inl (some v), h') ∧ Tr (fun _ => False) 1 h w h' (nw w h.1 0) ∧ MX G.1 h' (nw w h.1 0) t z m n es tab sz mc th lf ve' vk' vv' kk ∧ v < h'.1 ∧ nw w h.1 0 v = 0 ∧ h'.2.2 v = some (.inr (29, [.int 0, .ref m])) := by
  obtain ⟨h1, h2, h3, h4, h5, h6, h7, h8, h9, h10, h11, h12⟩ := A
  have hm := h12.2.1
  unfold sJ24_entrySet sJ24_sequencedEntrySet
  rw [l_bV h4]
  cases hv : ve with
  | some v =>
    rw [hv] at h4 h5
    obtain ⟨p1, p2, p3⟩ := h5 v rfl
    rw [l_Fr h4 rfl, if_neg (by simp), l_Ck p3 (show 29 ∈ [29] by decide), l_bnd]
    have hw : ∀ q, q < h.1 → nw w h.1 0 q = w q := fun q hq => nw_lt hq
    have ow : ∀ q, Ow G.1 h w t q → Ow G.1 h (nw w h.1 0) t q := fun q O => ⟨O.1, O.2.1, by rw [hw q O.2.1]; exact O.2.2⟩
    have im : ∀ q, Im h w q → Im h (nw w h.1 0) q := fun q O => ⟨O.1, by rw [hw q O.1]; exact O.2⟩
    refine ⟨v, h, some v, vk, vv, rfl, ⟨Nat.le_refl _, by omega, by omega, hw, fun q _ _ => Or.inl rfl⟩, ⟨h1, h2, h3, h4, h5.same (Nat.le_refl _) hw (fun _ _ => rfl), h6.same (Nat.le_refl _) hw (fun _ _ => rfl), h7.same (Nat.le_refl _) hw (fun _ _ => rfl), ?_, fun e he => ?_, h10, h11, ow _ h12⟩, p1, by rw [hw v p1]; exact p2, p3⟩
    · rcases h8 with ⟨a, f, a1, a2, a3⟩ | h8
      · exact Or.inl ⟨a, f, a1, ow _ a2, a3⟩
      · exact Or.inr h8
    · obtain ⟨b1, b2, b3, b4, b5, b6⟩ := h9 e he
      exact ⟨b1, b2, b3, ow _ b4, im _ b5, im _ b6⟩
  | none =>
    rw [hv] at h4 h5
    rw [l_Fn h4 rfl, if_pos rfl]
    unfold gNew sJ50_init sJ35_init_c29 sJ0_init_c29 gPz
    dsimp only
    rw [l_bI, l_P hnw_at hb (by (show 1 < 2; omega)), l_bI, l_bI, l_NN, l_bnd, l_bnd, if_pos (show gOkZ 0 = true by decide), l_P hup_at hb (by (show 0 < 2; omega)), l_bnd, l_P (by rw [hup_ne (by omega), hup_ne (by omega), hnw_ne (by omega)]; exact h4) h12.1 (by (show 1 < 12; omega)), l_bnd]
    obtain ⟨g, hg⟩ : ∃ g, g = hup (hup (hup (hnw h (.inr (29, [.int 0, .null])) 2) h.1 (.inr (29, [.int 0, .ref m]))) h.1 (.inr (29, [.int 0, .ref m]))) m (MC tab (some h.1) sz mc th lf vk vv (adr es).head? (adr es).getLast?) := ⟨_, rfl⟩
    have gv : g.2.2 h.1 = some (.inr (29, [.int 0, .ref m])) := by rw [hg, hup_ne (by omega)]; exact hup_at
    have gm : g.2.2 m = some (MC tab (some h.1) sz mc th lf vk vv (adr es).head? (adr es).getLast?) := by rw [hg]; exact hup_at
    have gq : ∀ q, q < h.1 → q ≠ m → g.2.2 q = h.2.2 q := fun q q1 q2 => by rw [hg, hup_ne q2, hup_ne (by omega), hup_ne (by omega), hnw_ne (by omega)]
    have g1 : g.1 = h.1 + 1 := by rw [hg]; rfl
    have g2 : g.2.1 = h.2.1 + 2 := by rw [hg]; rfl
    have ow : ∀ q, Ow G.1 h w t q → Ow G.1 g (nw w h.1 0) t q := fun q O => ⟨O.1, by have := O.2.1; omega, by rw [nw_lt O.2.1]; exact O.2.2⟩
    have im : ∀ q, Im h w q → Im g (nw w h.1 0) q := fun q O => ⟨by have := O.1; omega, by rw [nw_lt O.1]; exact O.2⟩
    have ko : ∀ (q c : Nat) (fs : List Value), c ≠ 26 → q < h.1 → h.2.2 q = some (.inr (c, fs)) → g.2.2 q = some (.inr (c, fs)) := fun q c fs hc q1 hq => by
      rw [gq q q1 (cl_ne hq h4 hc)]; exact hq
    have vw : ∀ ci v, ci ≠ 26 → VwO h w m ci v → VwO g (nw w h.1 0) m ci v := fun ci v hc V a ha => by
      obtain ⟨p1, p2, p3⟩ := V a ha
      exact ⟨by omega, by rw [nw_lt p1]; exact p2, ko _ _ _ hc p1 p3⟩
    have vn : VwO g (nw w h.1 0) m 29 (some h.1) := fun a ha => by
      cases ha
      exact ⟨by omega, nw_ge (Nat.le_refl _), gv⟩
    refine ⟨h.1, g, some h.1, vk, vv, by rw [hg]; rfl, ⟨by omega, by omega, by omega, fun q hq => nw_lt hq, fun q q1 _ => ?_⟩, ⟨h1, h2, h3, gm, vn, vw _ _ (by decide) h6, vw _ _ (by decide) h7, ?_, fun e he => ?_, h10, h11, ow _ h12⟩, by omega, nw_ge (Nat.le_refl _), gv⟩
    · by_cases hq : q = m
      · subst hq
        exact Or.inr (Or.inr ⟨tab, none, sz, mc, th, lf, vk, vv, _, _, _, _, _, h4, gm, fun _ _ _ => ⟨vn, vw _ _ (by decide) h6, vw _ _ (by decide) h7⟩⟩)
      · exact Or.inl (gq q q1 hq)
    · rcases h8 with ⟨a, f, a1, a2, a3, a4, a5⟩ | h8
      · exact Or.inl ⟨a, f, a1, ow _ a2, a3, by rw [gq a a2.2.1 (mc_ne a4 h4)]; exact a4, a5⟩
      · exact Or.inr h8
    · obtain ⟨b1, b2, b3, b4, b5, b6⟩ := h9 e he
      refine ⟨ko _ _ _ (by decide) b4.2.1 b1, ?_, b3, ow _ b4, im _ b5, im _ b6⟩
      unfold KeyAt at b2 ⊢
      cases z with
      | true => simp only [if_true] at b2 ⊢; exact ko _ _ _ (by decide) b5.1 b2
      | false => simp only [Bool.false_eq_true, if_false] at b2 ⊢; exact ko _ _ _ (by decide) b5.1 b2
/-- its iterator -/
theorem m_iterE {t m n kk v : Nat} {es : List En} {tab : Option Nat} {sz mc th : Int32} {lf : UInt32} {ve vk vv : Option Nat} (A : MX G.1 h w t z m n es tab sz mc th lf ve vk vv kk) (hb : G.1 ≤ h.1) (hv : h.2.2 v = some (.inr (29, [.int 0, .ref m]))) (hv1 : v < h.1) : ∃ h', sJ50_iterator G N (some v) h = some (.inl (some h.1), h') ∧ h'.1 = h.1 + 1 ∧ h'.2.1 = h.2.1 + 5 ∧ (∀ q, q < h.1 → h'.2.2 q = h.2.2 q) ∧ ItAt h' 28 h.1 m mc (adr es).head? := by
  obtain ⟨h1, h2, h3, h4, -, -, -, -, -, -, -, h12⟩ := A
  have hm := h12.2.1
  unfold sJ50_iterator sJ32_init sJ31_init_c28 gNew gPz
  dsimp only
  obtain ⟨g, hg⟩ : ∃ g, g = hnw h (.inr (28, [.null, .null, .int 0, .int 0, .null])) 5 := ⟨_, rfl⟩
  rw [← hg]
  have gi : g.2.2 h.1 = some (.inr (28, [.null, .null, .int 0, .int 0, .null])) := by rw [hg]; exact hnw_at
  have gq : ∀ q, q < h.1 → g.2.2 q = h.2.2 q := fun q hq => by rw [hg, hnw_ne (by omega)]
  rw [l_Fr (by rw [gq v hv1]; exact hv) rfl, l_Fi (by rw [gq v hv1]; exact hv) rfl, l_bI, l_bI, l_P gi hb (by (show 4 < 5; omega)), l_NN, if_pos (show gOkZ 0 = true by decide), l_P hup_at hb (by (show 3 < 5; omega)), hup_up, l_J, if_pos rfl]
  have um : ∀ e, (hup g h.1 e).2.2 m = some (MC tab ve sz mc th lf vk vv (adr es).head? (adr es).getLast?) := fun e => by rw [hup_ne (by omega), gq m hm]; exact h4
  rw [l_Fv (x := (adr es).head?) (um _) rfl]
  dsimp only
  rw [l_P hup_at hb (by (show 0 < 5; omega)), hup_up, l_Fi (um _) rfl, l_P hup_at hb (by (show 2 < 5; omega)), hup_up, l_P hup_at hb (by (show 1 < 5; omega)), hup_up, l_bnd, l_bnd]
  exact ⟨_, rfl, by rw [hg]; rfl, by rw [hg]; rfl, fun q hq => by rw [hup_ne (by omega), gq q hq], none, hup_at⟩
theorem m_hasE {it m : Nat} {mc : Int32} {nx : Option Nat} (I : ItAt h 28 it m mc nx) : sJ31_hasNext_c28 G N (some it) h = some (.inl (bZ (nx ≠ none)), h) := by
  obtain ⟨cur, I⟩ := I
  unfold sJ31_hasNext_c28
  rw [l_Fv (x := nx) I rfl]
  cases nx with
  | none => rw [if_pos rfl, bZ_f (by simp)]; rfl
  | some a => rw [if_neg (by simp), bZ_t (by simp)]; rfl
theorem m_nextE {t m n kk it : Nat} {e : En} {es : List En} {tab : Option Nat} {sz mc th : Int32} {lf : UInt32} {ve vk vv : Option Nat} (A : MX G.1 h w t z m n es tab sz mc th lf ve vk vv kk) (I : ItAt h 28 it m mc (some e.1)) (hi : G.1 ≤ it) (he : e ∈ es) : ∃ h', sJ32_next G N (some it) h = some (.inl (some e.1), h') ∧ h'.1 = h.1 ∧ h'.2.1 = h.2.1 ∧ (∀ q, q ≠ it → h'.2.2 q = h.2.2 q) ∧ ItAt h' 28 it m mc (nxt (adr es) e.1) := by
  obtain ⟨h1, h2, h3, h4, -, -, -, -, h9, -, -, h12⟩ := A
  obtain ⟨cur, I⟩ := I
  have E := (h9 e he).1
  have hne : e.1 ≠ it := cl_ne E I (by decide)
  unfold sJ32_next sJ32_next_2 sJ31_nextNode_c28
  rw [l_bV I, l_bV I, l_Fv (x := some e.1) I rfl, l_Fr I rfl, l_Fi h4 rfl, l_Fi I rfl, if_pos rfl, if_neg (by simp), l_P I hi (by (show 1 < 5; omega)), l_Fi hup_at rfl, l_J, if_pos rfl, l_Fv (x := nxt (adr es) e.1) (by rw [hup_ne hne]; exact E) rfl]
  dsimp only
  rw [l_P hup_at hi (by (show 0 < 5; omega)), hup_up, l_bnd, l_bnd]
  exact ⟨_, rfl, rfl, rfl, fun q hq => hup_ne hq, some e.1, hup_at⟩

/-- the view: K -/
theorem m_viewK {t m n kk : Nat} {es : List En} {tab : Option Nat} {sz mc th : Int32} {lf : UInt32} {ve vk vv : Option Nat} (A : MX G.1 h w t z m n es tab sz mc th lf ve vk vv kk) (hb : G.1 ≤ h.1) : ∃ v h' ve' vk' vv', sJ24_keySet G N (some m) h = some (.inl (some v), h') ∧ Tr (fun _ => False) 1 h w h' (nw w h.1 0) ∧ MX G.1 h' (nw w h.1 0) t z m n es tab sz mc th lf ve' vk' vv' kk ∧ v < h'.1 ∧ nw w h.1 0 v = 0 ∧ h'.2.2 v = some (.inr (31, [.int 0, .ref m])) := by
  obtain ⟨h1, h2, h3, h4, h5, h6, h7, h8, h9, h10, h11, h12⟩ := A
  have hm := h12.2.1
  unfold sJ24_keySet sJ24_sequencedKeySet
  rw [l_bV h4]
  cases hv : vk with
  | some v =>
    rw [hv] at h4 h6
    obtain ⟨p1, p2, p3⟩ := h6 v rfl
    rw [l_Fr h4 rfl, if_neg (by simp), l_Ck p3 (show 31 ∈ [31] by decide), l_bnd]
    have hw : ∀ q, q < h.1 → nw w h.1 0 q = w q := fun q hq => nw_lt hq
    have ow : ∀ q, Ow G.1 h w t q → Ow G.1 h (nw w h.1 0) t q := fun q O => ⟨O.1, O.2.1, by rw [hw q O.2.1]; exact O.2.2⟩
    have im : ∀ q, Im h w q → Im h (nw w h.1 0) q := fun q O => ⟨O.1, by rw [hw q O.1]; exact O.2⟩
    refine ⟨v, h, ve, some v, vv, rfl, ⟨Nat.le_refl _, by omega, by omega, hw, fun q _ _ => Or.inl rfl⟩, ⟨h1, h2, h3, h4, h5.same (Nat.le_refl _) hw (fun _ _ => rfl), h6.same (Nat.le_refl _) hw (fun _ _ => rfl), h7.same (Nat.le_refl _) hw (fun _ _ => rfl), ?_, fun e he => ?_, h10, h11, ow _ h12⟩, p1, by rw [hw v p1]; exact p2, p3⟩
    · rcases h8 with ⟨a, f, a1, a2, a3⟩ | h8
      · exact Or.inl ⟨a, f, a1, ow _ a2, a3⟩
      · exact Or.inr h8
    · obtain ⟨b1, b2, b3, b4, b5, b6⟩ := h9 e he
      exact ⟨b1, b2, b3, ow _ b4, im _ b5, im _ b6⟩
  | none =>
    rw [hv] at h4 h6
    rw [l_Fn h4 rfl, if_pos rfl]
    unfold gNew sJ37_init sJ35_init_c31 sJ0_init_c31 gPz
    dsimp only
    rw [l_bI, l_P hnw_at hb (by (show 1 < 2; omega)), l_bI, l_bI, l_NN, l_bnd, l_bnd, if_pos (show gOkZ 0 = true by decide), l_P hup_at hb (by (show 0 < 2; omega)), l_bnd, l_P (by rw [hup_ne (by omega), hup_ne (by omega), hnw_ne (by omega)]; exact h4) h12.1 (by (show 6 < 12; omega)), l_bnd]
    obtain ⟨g, hg⟩ : ∃ g, g = hup (hup (hup (hnw h (.inr (31, [.int 0, .null])) 2) h.1 (.inr (31, [.int 0, .ref m]))) h.1 (.inr (31, [.int 0, .ref m]))) m (MC tab ve sz mc th lf (some h.1) vv (adr es).head? (adr es).getLast?) := ⟨_, rfl⟩
    have gv : g.2.2 h.1 = some (.inr (31, [.int 0, .ref m])) := by rw [hg, hup_ne (by omega)]; exact hup_at
    have gm : g.2.2 m = some (MC tab ve sz mc th lf (some h.1) vv (adr es).head? (adr es).getLast?) := by rw [hg]; exact hup_at
    have gq : ∀ q, q < h.1 → q ≠ m → g.2.2 q = h.2.2 q := fun q q1 q2 => by rw [hg, hup_ne q2, hup_ne (by omega), hup_ne (by omega), hnw_ne (by omega)]
    have g1 : g.1 = h.1 + 1 := by rw [hg]; rfl
    have g2 : g.2.1 = h.2.1 + 2 := by rw [hg]; rfl
    have ow : ∀ q, Ow G.1 h w t q → Ow G.1 g (nw w h.1 0) t q := fun q O => ⟨O.1, by have := O.2.1; omega, by rw [nw_lt O.2.1]; exact O.2.2⟩
    have im : ∀ q, Im h w q → Im g (nw w h.1 0) q := fun q O => ⟨by have := O.1; omega, by rw [nw_lt O.1]; exact O.2⟩
    have ko : ∀ (q c : Nat) (fs : List Value), c ≠ 26 → q < h.1 → h.2.2 q = some (.inr (c, fs)) → g.2.2 q = some (.inr (c, fs)) := fun q c fs hc q1 hq => by
      rw [gq q q1 (cl_ne hq h4 hc)]; exact hq
    have vw : ∀ ci v, ci ≠ 26 → VwO h w m ci v → VwO g (nw w h.1 0) m ci v := fun ci v hc V a ha => by
      obtain ⟨p1, p2, p3⟩ := V a ha
      exact ⟨by omega, by rw [nw_lt p1]; exact p2, ko _ _ _ hc p1 p3⟩
    have vn : VwO g (nw w h.1 0) m 31 (some h.1) := fun a ha => by
      cases ha
      exact ⟨by omega, nw_ge (Nat.le_refl _), gv⟩
    refine ⟨h.1, g, ve, some h.1, vv, by rw [hg]; rfl, ⟨by omega, by omega, by omega, fun q hq => nw_lt hq, fun q q1 _ => ?_⟩, ⟨h1, h2, h3, gm, vw _ _ (by decide) h5, vn, vw _ _ (by decide) h7, ?_, fun e he => ?_, h10, h11, ow _ h12⟩, by omega, nw_ge (Nat.le_refl _), gv⟩
    · by_cases hq : q = m
      · subst hq
        exact Or.inr (Or.inr ⟨tab, ve, sz, mc, th, lf, none, vv, _, _, _, _, _, h4, gm, fun _ _ _ => ⟨vw _ _ (by decide) h5, vn, vw _ _ (by decide) h7⟩⟩)
      · exact Or.inl (gq q q1 hq)
    · rcases h8 with ⟨a, f, a1, a2, a3, a4, a5⟩ | h8
      · exact Or.inl ⟨a, f, a1, ow _ a2, a3, by rw [gq a a2.2.1 (mc_ne a4 h4)]; exact a4, a5⟩
      · exact Or.inr h8
    · obtain ⟨b1, b2, b3, b4, b5, b6⟩ := h9 e he
      refine ⟨ko _ _ _ (by decide) b4.2.1 b1, ?_, b3, ow _ b4, im _ b5, im _ b6⟩
      unfold KeyAt at b2 ⊢
      cases z with
      | true => simp only [if_true] at b2 ⊢; exact ko _ _ _ (by decide) b5.1 b2
      | false => simp only [Bool.false_eq_true, if_false] at b2 ⊢; exact ko _ _ _ (by decide) b5.1 b2
/-- its iterator -/
theorem m_iterK {t m n kk v : Nat} {es : List En} {tab : Option Nat} {sz mc th : Int32} {lf : UInt32} {ve vk vv : Option Nat} (A : MX G.1 h w t z m n es tab sz mc th lf ve vk vv kk) (hb : G.1 ≤ h.1) (hv : h.2.2 v = some (.inr (31, [.int 0, .ref m]))) (hv1 : v < h.1) : ∃ h', sJ37_iterator G N (some v) h = some (.inl (some h.1), h') ∧ h'.1 = h.1 + 1 ∧ h'.2.1 = h.2.1 + 5 ∧ (∀ q, q < h.1 → h'.2.2 q = h.2.2 q) ∧ ItAt h' 30 h.1 m mc (adr es).head? := by
  obtain ⟨h1, h2, h3, h4, -, -, -, -, -, -, -, h12⟩ := A
  have hm := h12.2.1
  unfold sJ37_iterator sJ33_init sJ31_init_c30 gNew gPz
  dsimp only
  obtain ⟨g, hg⟩ : ∃ g, g = hnw h (.inr (30, [.null, .null, .int 0, .int 0, .null])) 5 := ⟨_, rfl⟩
  rw [← hg]
  have gi : g.2.2 h.1 = some (.inr (30, [.null, .null, .int 0, .int 0, .null])) := by rw [hg]; exact hnw_at
  have gq : ∀ q, q < h.1 → g.2.2 q = h.2.2 q := fun q hq => by rw [hg, hnw_ne (by omega)]
  rw [l_Fr (by rw [gq v hv1]; exact hv) rfl, l_Fi (by rw [gq v hv1]; exact hv) rfl, l_bI, l_bI, l_P gi hb (by (show 4 < 5; omega)), l_NN, if_pos (show gOkZ 0 = true by decide), l_P hup_at hb (by (show 3 < 5; omega)), hup_up, l_J, if_pos rfl]
  have um : ∀ e, (hup g h.1 e).2.2 m = some (MC tab ve sz mc th lf vk vv (adr es).head? (adr es).getLast?) := fun e => by rw [hup_ne (by omega), gq m hm]; exact h4
  rw [l_Fv (x := (adr es).head?) (um _) rfl]
  dsimp only
  rw [l_P hup_at hb (by (show 0 < 5; omega)), hup_up, l_Fi (um _) rfl, l_P hup_at hb (by (show 2 < 5; omega)), hup_up, l_P hup_at hb (by (show 1 < 5; omega)), hup_up, l_bnd, l_bnd]
  exact ⟨_, rfl, by rw [hg]; rfl, by rw [hg]; rfl, fun q hq => by rw [hup_ne (by omega), gq q hq], none, hup_at⟩
theorem m_hasK {it m : Nat} {mc : Int32} {nx : Option Nat} (I : ItAt h 30 it m mc nx) : sJ31_hasNext_c30 G N (some it) h = some (.inl (bZ (nx ≠ none)), h) := by
  obtain ⟨cur, I⟩ := I
  unfold sJ31_hasNext_c30
  rw [l_Fv (x := nx) I rfl]
  cases nx with
  | none => rw [if_pos rfl, bZ_f (by simp)]; rfl
  | some a => rw [if_neg (by simp), bZ_t (by simp)]; rfl
theorem m_nextK {t m n kk it : Nat} {e : En} {es : List En} {tab : Option Nat} {sz mc th : Int32} {lf : UInt32} {ve vk vv : Option Nat} (A : MX G.1 h w t z m n es tab sz mc th lf ve vk vv kk) (I : ItAt h 30 it m mc (some e.1)) (hi : G.1 ≤ it) (he : e ∈ es) : ∃ h', sJ33_next G N (some it) h = some (.inl (some e.2.2.1), h') ∧ h'.1 = h.1 ∧ h'.2.1 = h.2.1 ∧ (∀ q, q ≠ it → h'.2.2 q = h.2.2 q) ∧ ItAt h' 30 it m mc (nxt (adr es) e.1) := by
  obtain ⟨h1, h2, h3, h4, -, -, -, -, h9, -, -, h12⟩ := A
  obtain ⟨cur, I⟩ := I
  have E := (h9 e he).1
  have hne : e.1 ≠ it := cl_ne E I (by decide)
  unfold sJ33_next sJ47_getKey_c27 sJ31_nextNode_c30
  rw [l_bV I, l_Fv (x := some e.1) I rfl, l_Fr I rfl, l_Fi h4 rfl, l_Fi I rfl, if_pos rfl, if_neg (by simp), l_P I hi (by (show 1 < 5; omega)), l_Fi hup_at rfl, l_J, if_pos rfl, l_Fv (x := nxt (adr es) e.1) (by rw [hup_ne hne]; exact E) rfl]
  dsimp only
  rw [l_P hup_at hi (by (show 0 < 5; omega)), hup_up, l_bnd, l_bV (by rw [hup_ne hne]; exact E), l_Fr (by rw [hup_ne hne]; exact E) rfl, l_bnd]
  exact ⟨_, rfl, rfl, rfl, fun q hq => hup_ne hq, some e.1, hup_at⟩

/-- the view: V -/
theorem m_viewV {t m n kk : Nat} {es : List En} {tab : Option Nat} {sz mc th : Int32} {lf : UInt32} {ve vk vv : Option Nat} (A : MX G.1 h w t z m n es tab sz mc th lf ve vk vv kk) (hb : G.1 ≤ h.1) : ∃ v h' ve' vk' vv', sJ24_values G N (some m) h = some (.inl (some v), h') ∧ Tr (fun _ => False) 1 h w h' (nw w h.1 0) ∧ MX G.1 h' (nw w h.1 0) t z m n es tab sz mc th lf ve' vk' vv' kk ∧ v < h'.1 ∧ nw w h.1 0 v = 0 ∧ h'.2.2 v = some (.inr (33, [.int 0, .ref m])) := by
  obtain ⟨h1, h2, h3, h4, h5, h6, h7, h8, h9, h10, h11, h12⟩ := A
  have hm := h12.2.1
  unfold sJ24_values sJ24_sequencedValues
  rw [l_bV h4]
  cases hv : vv with
  | some v =>
    rw [hv] at h4 h7
    obtain ⟨p1, p2, p3⟩ := h7 v rfl
    rw [l_Fr h4 rfl, if_neg (by simp), l_Ck p3 (show 33 ∈ [33] by decide), l_bnd]
    have hw : ∀ q, q < h.1 → nw w h.1 0 q = w q := fun q hq => nw_lt hq
    have ow : ∀ q, Ow G.1 h w t q → Ow G.1 h (nw w h.1 0) t q := fun q O => ⟨O.1, O.2.1, by rw [hw q O.2.1]; exact O.2.2⟩
    have im : ∀ q, Im h w q → Im h (nw w h.1 0) q := fun q O => ⟨O.1, by rw [hw q O.1]; exact O.2⟩
    refine ⟨v, h, ve, vk, some v, rfl, ⟨Nat.le_refl _, by omega, by omega, hw, fun q _ _ => Or.inl rfl⟩, ⟨h1, h2, h3, h4, h5.same (Nat.le_refl _) hw (fun _ _ => rfl), h6.same (Nat.le_refl _) hw (fun _ _ => rfl), h7.same (Nat.le_refl _) hw (fun _ _ => rfl), ?_, fun e he => ?_, h10, h11, ow _ h12⟩, p1, by rw [hw v p1]; exact p2, p3⟩
    · rcases h8 with ⟨a, f, a1, a2, a3⟩ | h8
      · exact Or.inl ⟨a, f, a1, ow _ a2, a3⟩
      · exact Or.inr h8
    · obtain ⟨b1, b2, b3, b4, b5, b6⟩ := h9 e he
      exact ⟨b1, b2, b3, ow _ b4, im _ b5, im _ b6⟩
  | none =>
    rw [hv] at h4 h7
    rw [l_Fn h4 rfl, if_pos rfl]
    unfold gNew sJ27_init sJ0_init_c33 gPz
    dsimp only
    rw [l_bI, l_P hnw_at hb (by (show 1 < 2; omega)), l_bI, l_NN, l_bnd, if_pos (show gOkZ 0 = true by decide), l_P hup_at hb (by (show 0 < 2; omega)), l_bnd, l_P (by rw [hup_ne (by omega), hup_ne (by omega), hnw_ne (by omega)]; exact h4) h12.1 (by (show 7 < 12; omega)), l_bnd]
    obtain ⟨g, hg⟩ : ∃ g, g = hup (hup (hup (hnw h (.inr (33, [.int 0, .null])) 2) h.1 (.inr (33, [.int 0, .ref m]))) h.1 (.inr (33, [.int 0, .ref m]))) m (MC tab ve sz mc th lf vk (some h.1) (adr es).head? (adr es).getLast?) := ⟨_, rfl⟩
    have gv : g.2.2 h.1 = some (.inr (33, [.int 0, .ref m])) := by rw [hg, hup_ne (by omega)]; exact hup_at
    have gm : g.2.2 m = some (MC tab ve sz mc th lf vk (some h.1) (adr es).head? (adr es).getLast?) := by rw [hg]; exact hup_at
    have gq : ∀ q, q < h.1 → q ≠ m → g.2.2 q = h.2.2 q := fun q q1 q2 => by rw [hg, hup_ne q2, hup_ne (by omega), hup_ne (by omega), hnw_ne (by omega)]
    have g1 : g.1 = h.1 + 1 := by rw [hg]; rfl
    have g2 : g.2.1 = h.2.1 + 2 := by rw [hg]; rfl
    have ow : ∀ q, Ow G.1 h w t q → Ow G.1 g (nw w h.1 0) t q := fun q O => ⟨O.1, by have := O.2.1; omega, by rw [nw_lt O.2.1]; exact O.2.2⟩
    have im : ∀ q, Im h w q → Im g (nw w h.1 0) q := fun q O => ⟨by have := O.1; omega, by rw [nw_lt O.1]; exact O.2⟩
    have ko : ∀ (q c : Nat) (fs : List Value), c ≠ 26 → q < h.1 → h.2.2 q = some (.inr (c, fs)) → g.2.2 q = some (.inr (c, fs)) := fun q c fs hc q1 hq => by
      rw [gq q q1 (cl_ne hq h4 hc)]; exact hq
    have vw : ∀ ci v, ci ≠ 26 → VwO h w m ci v → VwO g (nw w h.1 0) m ci v := fun ci v hc V a ha => by
      obtain ⟨p1, p2, p3⟩ := V a ha
      exact ⟨by omega, by rw [nw_lt p1]; exact p2, ko _ _ _ hc p1 p3⟩
    have vn : VwO g (nw w h.1 0) m 33 (some h.1) := fun a ha => by
      cases ha
      exact ⟨by omega, nw_ge (Nat.le_refl _), gv⟩
    refine ⟨h.1, g, ve, vk, some h.1, by rw [hg]; rfl, ⟨by omega, by omega, by omega, fun q hq => nw_lt hq, fun q q1 _ => ?_⟩, ⟨h1, h2, h3, gm, vw _ _ (by decide) h5, vw _ _ (by decide) h6, vn, ?_, fun e he => ?_, h10, h11, ow _ h12⟩, by omega, nw_ge (Nat.le_refl _), gv⟩
    · by_cases hq : q = m
      · subst hq
        exact Or.inr (Or.inr ⟨tab, ve, sz, mc, th, lf, vk, none, _, _, _, _, _, h4, gm, fun _ _ _ => ⟨vw _ _ (by decide) h5, vw _ _ (by decide) h6, vn⟩⟩)
      · exact Or.inl (gq q q1 hq)
    · rcases h8 with ⟨a, f, a1, a2, a3, a4, a5⟩ | h8
      · exact Or.inl ⟨a, f, a1, ow _ a2, a3, by rw [gq a a2.2.1 (mc_ne a4 h4)]; exact a4, a5⟩
      · exact Or.inr h8
    · obtain ⟨b1, b2, b3, b4, b5, b6⟩ := h9 e he
      refine ⟨ko _ _ _ (by decide) b4.2.1 b1, ?_, b3, ow _ b4, im _ b5, im _ b6⟩
      unfold KeyAt at b2 ⊢
      cases z with
      | true => simp only [if_true] at b2 ⊢; exact ko _ _ _ (by decide) b5.1 b2
      | false => simp only [Bool.false_eq_true, if_false] at b2 ⊢; exact ko _ _ _ (by decide) b5.1 b2
/-- its iterator -/
theorem m_iterV {t m n kk v : Nat} {es : List En} {tab : Option Nat} {sz mc th : Int32} {lf : UInt32} {ve vk vv : Option Nat} (A : MX G.1 h w t z m n es tab sz mc th lf ve vk vv kk) (hb : G.1 ≤ h.1) (hv : h.2.2 v = some (.inr (33, [.int 0, .ref m]))) (hv1 : v < h.1) : ∃ h', sJ27_iterator G N (some v) h = some (.inl (some h.1), h') ∧ h'.1 = h.1 + 1 ∧ h'.2.1 = h.2.1 + 5 ∧ (∀ q, q < h.1 → h'.2.2 q = h.2.2 q) ∧ ItAt h' 32 h.1 m mc (adr es).head? := by
  obtain ⟨h1, h2, h3, h4, -, -, -, -, -, -, -, h12⟩ := A
  have hm := h12.2.1
  unfold sJ27_iterator sJ34_init sJ31_init_c32 gNew gPz
  dsimp only
  obtain ⟨g, hg⟩ : ∃ g, g = hnw h (.inr (32, [.null, .null, .int 0, .int 0, .null])) 5 := ⟨_, rfl⟩
  rw [← hg]
  have gi : g.2.2 h.1 = some (.inr (32, [.null, .null, .int 0, .int 0, .null])) := by rw [hg]; exact hnw_at
  have gq : ∀ q, q < h.1 → g.2.2 q = h.2.2 q := fun q hq => by rw [hg, hnw_ne (by omega)]
  rw [l_Fr (by rw [gq v hv1]; exact hv) rfl, l_Fi (by rw [gq v hv1]; exact hv) rfl, l_bI, l_bI, l_P gi hb (by (show 4 < 5; omega)), l_NN, if_pos (show gOkZ 0 = true by decide), l_P hup_at hb (by (show 3 < 5; omega)), hup_up, l_J, if_pos rfl]
  have um : ∀ e, (hup g h.1 e).2.2 m = some (MC tab ve sz mc th lf vk vv (adr es).head? (adr es).getLast?) := fun e => by rw [hup_ne (by omega), gq m hm]; exact h4
  rw [l_Fv (x := (adr es).head?) (um _) rfl]
  dsimp only
  rw [l_P hup_at hb (by (show 0 < 5; omega)), hup_up, l_Fi (um _) rfl, l_P hup_at hb (by (show 2 < 5; omega)), hup_up, l_P hup_at hb (by (show 1 < 5; omega)), hup_up, l_bnd, l_bnd]
  exact ⟨_, rfl, by rw [hg]; rfl, by rw [hg]; rfl, fun q hq => by rw [hup_ne (by omega), gq q hq], none, hup_at⟩
theorem m_hasV {it m : Nat} {mc : Int32} {nx : Option Nat} (I : ItAt h 32 it m mc nx) : sJ31_hasNext_c32 G N (some it) h = some (.inl (bZ (nx ≠ none)), h) := by
  obtain ⟨cur, I⟩ := I
  unfold sJ31_hasNext_c32
  rw [l_Fv (x := nx) I rfl]
  cases nx with
  | none => rw [if_pos rfl, bZ_f (by simp)]; rfl
  | some a => rw [if_neg (by simp), bZ_t (by simp)]; rfl
theorem m_nextV {t m n kk it : Nat} {e : En} {es : List En} {tab : Option Nat} {sz mc th : Int32} {lf : UInt32} {ve vk vv : Option Nat} (A : MX G.1 h w t z m n es tab sz mc th lf ve vk vv kk) (I : ItAt h 32 it m mc (some e.1)) (hi : G.1 ≤ it) (he : e ∈ es) : ∃ h', sJ34_next G N (some it) h = some (.inl (some e.2.2.2), h') ∧ h'.1 = h.1 ∧ h'.2.1 = h.2.1 ∧ (∀ q, q ≠ it → h'.2.2 q = h.2.2 q) ∧ ItAt h' 32 it m mc (nxt (adr es) e.1) := by
  obtain ⟨h1, h2, h3, h4, -, -, -, -, h9, -, -, h12⟩ := A
  obtain ⟨cur, I⟩ := I
  have E := (h9 e he).1
  have hne : e.1 ≠ it := cl_ne E I (by decide)
  unfold sJ34_next sJ31_nextNode_c32
  rw [l_bV I, l_Fv (x := some e.1) I rfl, l_Fr I rfl, l_Fi h4 rfl, l_Fi I rfl, if_pos rfl, if_neg (by simp), l_P I hi (by (show 1 < 5; omega)), l_Fi hup_at rfl, l_J, if_pos rfl, l_Fv (x := nxt (adr es) e.1) (by rw [hup_ne hne]; exact E) rfl]
  dsimp only
  rw [l_P hup_at hi (by (show 0 < 5; omega)), hup_up, l_bnd, l_Fr (by rw [hup_ne hne]; exact E) rfl]
  exact ⟨_, rfl, rfl, rfl, fun q hq => hup_ne hq, some e.1, hup_at⟩
end I1
