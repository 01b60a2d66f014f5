/-! the linked hash map: an entry put behind the others -/
set_option maxRecDepth 100000
set_option maxHeartbeats 2000000
theorem nd_le : ∀ (b : Nat) (l : List Nat), l.Nodup → (∀ x, x ∈ l → x < b) → l.length ≤ b
  | 0, l, _, h => by
    cases l with
    | nil => exact Nat.le_refl _
    | cons x l => exact absurd (h x List.mem_cons_self) (by omega)
  | b + 1, l, hd, h => by
    by_cases hb : b ∈ l
    · have h1 := nd_le b (l.erase b) (hd.erase b) (fun x hx => by
        have h2 := (hd.mem_erase_iff.mp hx)
        have := h x h2.2
        have := h2.1
        omega)
      rw [List.length_erase_of_mem hb] at h1
      omega
    · have := nd_le b l hd (fun x hx => by
        have h1 := h x hx
        have h2 : x ≠ b := fun e => hb (by rw [← e]; exact hx)
        omega)
      omega
section S1
variable {G : GG} {N : Nat} {h : Hp} {z : Bool} {w : Nat → Nat}
theorem MX.len {b t m n kk : Nat} {es : List En} {tab : Option Nat} {sz mc th : Int32} {lf : UInt32} {ve vk vv : Option Nat} (A : MX b h w t z m n es tab sz mc th lf ve vk vv kk) : es.length ≤ 128 := by
  obtain ⟨h1, h2, h3, h4, h5, h6, h7, h8, h9, h10, h11, h12⟩ := A
  have := nd_le 128 _ h11 (fun x hx => by
    obtain ⟨e, e1, e2⟩ := List.mem_map.mp hx
    rw [← e2]
    exact (h9 e e1).2.2.1)
  rw [List.length_map] at this
  exact this
theorem MX.up {b t m n kk : Nat} {es : List En} {tab : Option Nat} {sz mc th sz' mc' : Int32} {lf : UInt32} {ve vk vv : Option Nat} (A : MX b h w t z m n es tab sz mc th lf ve vk vv kk) : MX b (hup h m (MC tab ve sz' mc' th lf vk vv (adr es).head? (adr es).getLast?)) w t z m n es tab sz' mc' th lf ve vk vv kk := by
  obtain ⟨h1, h2, h3, h4, h5, h6, h7, h8, h9, h10, h11, h12⟩ := A
  have ko : ∀ (q c : Nat) (fs : List Value), c ≠ 26 → h.2.2 q = some (.inr (c, fs)) → (hup h m (MC tab ve sz' mc' th lf vk vv (adr es).head? (adr es).getLast?)).2.2 q = some (.inr (c, fs)) := fun q c fs hc hq => by
    rw [hup_ne (cl_ne hq h4 hc)]; exact hq
  have vw : ∀ ci v, ci ≠ 26 → VwO h w m ci v → VwO (hup h m (MC tab ve sz' mc' th lf vk vv (adr es).head? (adr es).getLast?)) w m ci v := fun ci v hc V a ha => by
    obtain ⟨p1, p2, p3⟩ := V a ha
    exact ⟨p1, p2, ko _ _ _ hc p3⟩
  refine ⟨h1, h2, h3, hup_at, vw _ _ (by decide) h5, vw _ _ (by decide) h6, vw _ _ (by decide) h7, ?_, fun e he => ?_, h10, h11, h12⟩
  · rcases h8 with ⟨a, f, a1, a2, a3, a4, a5⟩ | h8
    · exact Or.inl ⟨a, f, a1, a2, a3, by rw [hup_ne (mc_ne a4 h4)]; exact a4, a5⟩
    · exact Or.inr h8
  · obtain ⟨b1, b2, b3, b4, b5, b6⟩ := h9 e he
    refine ⟨ko _ _ _ (by decide) b1, ?_, b3, b4, b5, b6⟩
    unfold KeyAt at b2 ⊢
    cases z with
    | true => simp only [if_true] at b2 ⊢; exact ko _ _ _ (by decide) b2
    | false => simp only [Bool.false_eq_true, if_false] at b2 ⊢; exact ko _ _ _ (by decide) b2
theorem m_afterIns {m : Nat} {tab ve vk vv hd tl : Option Nat} {sz mc th : Int32} {lf : UInt32} (e : h.2.2 m = some (MC tab ve sz mc th lf vk vv hd tl)) : sJ24_afterNodeInsertion G N (some m) 1 h = some (.inl (), h) := by
  unfold sJ24_afterNodeInsertion sJ24_removeEldestEntry
  rw [if_neg (by decide), l_Fv (x := hd) e rfl]
  cases hd with
  | none => rw [if_pos rfl]
  | some a => rw [if_neg (by simp), l_bV e, l_RZ0, l_bnd, if_pos rfl]
theorem m_afterAcc {m : Nat} {a : Option Nat} {tab ve vk vv hd tl : Option Nat} {sz mc th : Int32} {lf : UInt32} (e : h.2.2 m = some (MC tab ve sz mc th lf vk vv hd tl)) : sJ24_afterNodeAccess G N (some m) a h = some (.inl (), h) := by
  unfold sJ24_afterNodeAccess
  rw [l_Fi e rfl, l_J, l_J, if_neg (by decide), l_Fi e rfl, if_pos rfl, l_Fi e rfl, if_pos rfl]
  dsimp only
  rw [l_Fi e rfl, if_neg (by decide)]
/-- the end of a put that adds -/
theorem m_fin {t m n a kk : Nat} {es : List En} {sz mc th : Int32} {lf : UInt32} {ve vk vv : Option Nat} (A : MX G.1 h w t z m n es (some a) sz mc th lf ve vk vv kk) (hsz : sz + 1 = nI es.length) (ht : t ≠ 0) (hN : 400 < N) :
    ∃ h' n', n ≤ n' ∧ (gFi h (some m) 26 3 fun v10 => gP G h (some m) 26 3 (.int (v10 + (1 : Int32))) fun h11 => gFi h11 (some m) 26 2 fun v12 => gLet (v12 + (1 : Int32)) fun v13 => gP G h11 (some m) 26 2 (.int v13) fun h14 => gFi h14 (some m) 26 4 fun v15 =>
      gJ (fun (x16 : Unit) (h17 : Hp) => bV h17 (some m) 26 (fun q21 => sJ24_afterNodeInsertion G N (some q21) (1 : Int32) h17) fun v19 h20 => (some (.inl (none : Option Nat), h20) : Out (Option Nat))) fun j18 =>
      if v13 ≤ v15 then (j18 () h14) else bV h14 (some m) 26 (fun q24 => sJ23_resize_c26 G N (some q24) h14) fun v22 h23 => j18 () h23) = some (.inl none, h') ∧ h.1 ≤ h'.1 ∧ h'.1 ≤ h.1 + (n' - n) / 2 ∧ h'.2.1 ≤ h.2.1 + 4 * ((n' - n) / 2) ∧ (∀ q, q < h.1 → w q ≠ t → h'.2.2 q = h.2.2 q) ∧ MR G.1 h' (nw w h.1 t) t z m n' es := by
  have A' := A
  obtain ⟨h1, h2, h3, h4, h5, h6, h7, h8, h9, h10, h11, h12⟩ := A
  have B := A'.up (sz' := nI es.length) (mc' := mc + 1)
  have hl := A'.len
  obtain ⟨g, hg⟩ : ∃ g, g = hup h m (MC (some a) ve (nI es.length) (mc + 1) th lf vk vv (adr es).head? (adr es).getLast?) := ⟨_, rfl⟩
  have eg : g.2.2 m = some (MC (some a) ve (nI es.length) (mc + 1) th lf vk vv (adr es).head? (adr es).getLast?) := by rw [hg]; exact hup_at
  rw [← hg] at B
  have fg : ∀ q, q < h.1 → w q ≠ t → g.2.2 q = h.2.2 q := fun q q1 q2 => by
    rw [hg, hup_ne (fun e => q2 (by rw [e]; exact h12.2.2))]
  have pre : ∀ {β : Type} (K : Int32 → Int32 → Hp → Out β), (gFi h (some m) 26 3 fun v10 => gP G h (some m) 26 3 (.int (v10 + (1 : Int32))) fun h11 => gFi h11 (some m) 26 2 fun v12 => gLet (v12 + (1 : Int32)) fun v13 => gP G h11 (some m) 26 2 (.int v13) fun h14 => gFi h14 (some m) 26 4 fun v15 => K v13 v15 h14) = K (nI es.length) th g := by
    intro β K
    rw [l_Fi h4 rfl, l_P h4 h12.1 (by (show 3 < 12; omega)), l_Fi hup_at rfl, l_let, l_P hup_at h12.1 (by (show 2 < 12; omega)), hup_up, l_Fi hup_at rfl, hsz, hg]
    rfl
  have th2 : th = nI (12 * 2 ^ (kk - 4)) := by
    rcases h8 with ⟨a9, f, a1, a2, a3, a4, a5⟩ | ⟨a1, -⟩
    · exact a3
    · cases a1
  have hp : 2 ^ (kk - 4) ≤ 2 ^ 4 := Nat.pow_le_pow_right (by omega) (by omega)
  by_cases hc : es.length ≤ 12 * 2 ^ (kk - 4)
  · refine ⟨g, n, Nat.le_refl _, ?_, by rw [hg]; exact Nat.le_refl _, by rw [hg]; exact Nat.le_add_right _ _, by rw [hg]; exact Nat.le_add_right _ _, fg, some a, mc + 1, th, lf, ve, vk, vv, kk, ?_⟩
    · rw [pre, l_J, if_pos (by rw [th2]; exact (nI_leI (by omega) (by omega)).mpr hc)]
      dsimp only
      rw [l_bV eg, m_afterIns eg, l_bnd]
    · have hw : ∀ q, q < g.1 → nw w h.1 t q = w q := fun q hq => nw_lt (by rw [hg] at hq; exact hq)
      obtain ⟨b1, b2, b3, b4, b5, b6, b7, b8, b9, b10, b11, b12⟩ := B
      have ow : ∀ q, Ow G.1 g w t q → Ow G.1 g (nw w h.1 t) t q := fun q O => ⟨O.1, O.2.1, by rw [hw q O.2.1]; exact O.2.2⟩
      have im : ∀ q, Im g w q → Im g (nw w h.1 t) q := fun q O => ⟨O.1, by rw [hw q O.1]; exact O.2⟩
      have vw : ∀ ci v, VwO g w m ci v → VwO g (nw w h.1 t) m ci v := fun ci v V => V.same (Nat.le_refl _) hw (fun _ _ => rfl)
      refine ⟨b1, b2, b3, b4, vw _ _ b5, vw _ _ b6, vw _ _ b7, ?_, fun e he => ?_, b10, b11, ow _ b12⟩
      · rcases b8 with ⟨a, f, a1, a2, a3, a4, a5⟩ | b8
        · exact Or.inl ⟨a, f, a1, ow _ a2, a3, a4, a5⟩
        · exact Or.inr b8
      · obtain ⟨c1, c2, c3, c4, c5, c6⟩ := b9 e he
        exact ⟨c1, c2, c3, ow _ c4, im _ c5, im _ c6⟩
  · have hk7 : kk ≤ 7 := by
      rcases Nat.lt_or_ge 7 kk with q | q
      · have : 2 ^ 4 ≤ 2 ^ (kk - 4) := Nat.pow_le_pow_right (by omega) (by omega)
        omega
      · exact q
    have hg1 : g.1 = h.1 := by rw [hg]; rfl
    have hg2 : g.2.1 = h.2.1 := by rw [hg]; rfl
    obtain ⟨h', r1, r2, r3, r4, r5⟩ := m_resize (N := N) B ht hk7 (by omega)
    have hn16 : 16 ≤ n := by
      rw [h1]; exact Nat.le_trans (by decide) (Nat.pow_le_pow_right (show 0 < 2 by omega) h2)
    rw [hg1] at r4 r5
    have hn2 : 2 * (n / 2) = n := by
      rw [h1, show kk = (kk - 1) + 1 by omega, Nat.pow_succ]; omega
    refine ⟨h', 2 * n, by omega, ?_, by omega, by rw [r2, hg1]; omega, by rw [r3, hg2]; omega, fun q q1 q2 => by rw [r4 q q1 q2]; exact fg q q1 q2, some _, mc + 1, _, lf, ve, vk, vv, kk + 1, r5⟩
    rw [pre, l_J, if_neg (by rw [th2]; exact fun q => hc ((nI_leI (by omega) (by omega)).mp q)), l_bV eg, r1, l_bnd]
    dsimp only
    rw [l_bV r5.2.2.2.1, m_afterIns r5.2.2.2.1, l_bnd]
end S1
