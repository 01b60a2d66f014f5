/-! the linked hash map: put, as its users see it; new maps -/
set_option maxRecDepth 100000
set_option maxHeartbeats 2000000
section P4
variable {α : Type} {G : GG} {N : Nat} {h : Hp} {z : Bool} {w : Nat → Nat}
/-- what a put does to the entries -/
def PutE (es es' : List En) (a hs k v : Nat) : Prop := (look es hs = none → es' = es ++ [(a, hs, k, v)]) ∧ (look es hs ≠ none → es' = rpl es hs v)
theorem Tr.exact {S : Nat → Prop} {c : Nat} {h' : Hp} {w' : Nat → Nat} (h1 : h.1 ≤ h'.1) (h2 : h'.1 ≤ h.1 + c) (h3 : h'.2.1 ≤ h.2.1 + 4 * c) (h4 : ∀ q, q < h.1 → w' q = w q) (h5 : ∀ q, q < h.1 → ¬ S (w q) → h'.2.2 q = h.2.2 q) : Tr S c h w h' w' := ⟨h1, h2, h3, h4, fun q q1 q2 => Or.inl (h5 q q1 q2)⟩
theorem m_put {t m n hs k v : Nat} {es : List En} (A : MR G.1 h w t z m n es) (ht : t ≠ 0) (hb : G.1 ≤ h.1) (hh : hs < 128) (K : KeyAt h z k hs) (ik : Im h w k) (iv : Im h w v) (hN : 400 < N) :
    ∃ h' n' es' a, n ≤ n' ∧ sJ23_put_c26 G N (some m) (some k) (some v) h = some (.inl ((look es hs).map (fun e => e.2.2.2)), h') ∧ Tr (· = t) (2 + (n' - n) / 2 + (if es = [] then 4 else 0)) h w h' (nw w h.1 t) ∧ (∀ q, q < h.1 → w q ≠ t → h'.2.2 q = h.2.2 q) ∧ MR G.1 h' (nw w h.1 t) t z m n' es' ∧ PutE es es' a hs k v := by
  have A' := A
  obtain ⟨tab, mc, th, lf, ve, vk, vv, kk, X⟩ := A
  unfold sJ23_put_c26
  rw [k_hash K hh, l_bnd, l_bV X.2.2.2.1]
  cases tab with
  | some a =>
    obtain ⟨h', n', es', r1, r2, r3, r4, r5, r6, r7, r8, r9⟩ := m_putV (N := N) X ht hb hh K ik iv hN
    refine ⟨h', n', es', h.1, r1, by rw [r2]; rfl, Tr.exact r3 (by omega) (by omega) (fun q hq => nw_lt hq) r6, r6, r7, r8, fun q => (r9 q).1⟩
  | none =>
    obtain ⟨h', r1, r2, r3, r4, r5⟩ := m_resize0 (N := N) X
    have hes : es = [] := by
      rcases X.2.2.2.2.2.2.2.1 with ⟨a, f, a1, -⟩ | ⟨-, a2, -⟩
      · cases a1
      · exact a2
    have hm : w m = t := X.2.2.2.2.2.2.2.2.2.2.2.2.2
    have hm1 : m < h.1 := X.2.2.2.2.2.2.2.2.2.2.2.2.1
    have fr : ∀ q, q < h.1 → w q ≠ t → h'.2.2 q = h.2.2 q := fun q q1 q2 => r4 q q1 (fun e => q2 (by rw [e]; exact hm))
    have K' : KeyAt h' z k hs := by
      unfold KeyAt at K ⊢
      rw [fr k ik.1 (by rw [ik.2]; exact fun e => ht e.symm)]
      exact K
    have im : ∀ q, Im h w q → Im h' (nw w h.1 t) q := fun q O => ⟨by rw [r2]; have := O.1; omega, by rw [nw_lt O.1]; exact O.2⟩
    obtain ⟨h2, n', es', s1, s2, s3, s4, s5, s6, s7, s8, s9⟩ := m_putV (N := N) r5 ht (by omega) hh K' (im _ ik) (im _ iv) hN
    have tabE : ∃ f, h'.2.2 h.1 = some (.inl (8, n, .inr (.inr (.inr (.inr f))))) := by
      rcases r5.2.2.2.2.2.2.2.1 with ⟨a, f, a1, a2, a3, a4, a5⟩ | ⟨a1, -⟩
      · cases a1; exact ⟨f, a4⟩
      · cases a1
    obtain ⟨f, tabE⟩ := tabE
    have hn : n ≠ 0 := by rw [r5.1]; exact Nat.pos_iff_ne_zero.mp (Nat.two_pow_pos _)
    have hn8 : n ≤ 2 ^ 8 := by rw [r5.1]; exact Nat.pow_le_pow_right (by omega) r5.2.2.1
    have same : sJ23_putVal_c26 G N (some m) (nI hs) (some k) (some v) 0 1 h = sJ23_putVal_c26 G N (some m) (nI hs) (some k) (some v) 0 1 h' := by
      unfold sJ23_putVal_c26
      rw [l_Fn X.2.2.2.1 rfl, l_J, l_J, if_pos rfl]
      dsimp only
      rw [l_bV X.2.2.2.1, r1, l_bnd, l_Lenr tabE (by decide)]
      symm
      rw [l_Fr r5.2.2.2.1 rfl, l_J, l_J, if_neg (by simp), l_Lenr tabE (by decide), if_neg (nI_ne0 (by omega) (by omega))]
    refine ⟨h2, n', es', h'.1, s1, by rw [same, s2]; rfl, Tr.exact (by omega) (by rw [if_pos hes]; omega) (by rw [if_pos hes]; omega) (fun q hq => nw_lt hq) (fun q q1 q2 => ?_), fun q q1 q2 => ?_, by rw [nw_nw (by omega)] at s7; exact s7, s8, fun q => (s9 q).1⟩
    · rw [s6 q (by omega) (by rw [nw_lt q1]; exact q2)]; exact fr q q1 q2
    · rw [s6 q (by omega) (by rw [nw_lt q1]; exact q2)]; exact fr q q1 q2
/-- what is found behind a put -/
theorem look_app {es : List En} {e : En} {p : Nat} : look (es ++ [e]) p = (match look es p with | some x => some x | none => if e.2.1 = p then some e else none) := by
  unfold look
  rw [List.find?_append]
  cases h : List.find? (fun e => e.2.1 == p) es with
  | some x => rfl
  | none =>
    by_cases hq : e.2.1 = p
    · simp [hq]
    · simp [hq]
theorem look_rpl {es : List En} {hs v p : Nat} : look (rpl es hs v) p = (look es p).map (fun e => if e.2.1 = hs then (e.1, e.2.1, e.2.2.1, v) else e) := by
  unfold look rpl
  rw [List.find?_map]
  congr 1
  refine congrArg (fun f => List.find? f es) (funext fun e => ?_)
  show ((if e.2.1 = hs then ((e.1, e.2.1, e.2.2.1, v) : En) else e).2.1 == p) = (e.2.1 == p)
  rw [(rpl_f hs v e).2.1]
theorem PutE.at {es es' : List En} {a hs k v : Nat} (P : PutE es es' a hs k v) : ∃ e, look es' hs = some e ∧ e.2.2.2 = v := by
  cases hL : look es hs with
  | none =>
    rw [P.1 hL, look_app, hL]
    exact ⟨_, if_pos rfl, rfl⟩
  | some e =>
    rw [P.2 (by rw [hL]; simp), look_rpl, hL]
    refine ⟨_, rfl, ?_⟩
    dsimp only
    rw [if_pos (look_mem hL).2]
theorem PutE.ne {es es' : List En} {a hs k v p : Nat} (P : PutE es es' a hs k v) (hp : p ≠ hs) : look es' p = look es p := by
  cases hL : look es hs with
  | none =>
    rw [P.1 hL, look_app]
    cases h : look es p with
    | some x => rfl
    | none => exact if_neg (fun q => hp q.symm)
  | some e =>
    rw [P.2 (by rw [hL]; simp), look_rpl]
    cases h : look es p with
    | none => rfl
    | some x =>
      show some (if x.2.1 = hs then (x.1, x.2.1, x.2.2.1, v) else x) = some x
      rw [if_neg (fun q => hp ((look_mem h).2.symm.trans q))]
theorem PutE.hs {es es' : List En} {a hs k v : Nat} (P : PutE es es' a hs k v) : ∀ e, e ∈ es' → e.2.1 = hs ∨ ∃ e0, e0 ∈ es ∧ e0.2.1 = e.2.1 := fun e he => by
  cases hL : look es hs with
  | none =>
    rw [P.1 hL] at he
    rcases List.mem_append.mp he with q | q
    · exact Or.inr ⟨e, q, rfl⟩
    · have : e = (a, hs, k, v) := by simpa using q
      exact Or.inl (by rw [this])
  | some e1 =>
    rw [P.2 (by rw [hL]; simp)] at he
    obtain ⟨e0, c1, c2⟩ := List.mem_map.mp he
    exact Or.inr ⟨e0, c1, by rw [← c2]; exact (rpl_f hs v e0).2.1.symm⟩
theorem PutE.len {es es' : List En} {a hs k v : Nat} (P : PutE es es' a hs k v) : es'.length ≤ es.length + 1 := by
  cases hL : look es hs with
  | none => rw [P.1 hL, List.length_append]; exact Nat.le_refl _
  | some e => rw [P.2 (by rw [hL]; simp)]; unfold rpl; rw [List.length_map]; omega
/-- a new map -/
theorem m_new {t m : Nat} (h1 : h.2.2 m = some (MC none none 0 0 0 0 none none none none)) (hm : Ow G.1 h w t m) : ∃ h', sJ24_init G N (some m) h = some (.inl (), h') ∧ h'.1 = h.1 ∧ h'.2.1 = h.2.1 ∧ (∀ q, q ≠ m → h'.2.2 q = h.2.2 q) ∧ MR G.1 h' w t z m 16 [] := by
  unfold sJ24_init sJ23_init_c26 sJ22_init_c26 gPz
  rw [l_bI, l_bI, l_NN, l_bnd, l_P h1 hm.1 (by (show 5 < 12; omega)), l_bnd, l_P hup_at hm.1 (by (show 11 < 12; omega)), hup_up, if_pos (show gOkZ 0 = true by decide), l_P hup_at hm.1 (by (show 10 < 12; omega)), hup_up]
  refine ⟨_, rfl, rfl, rfl, fun q hq => hup_ne hq, none, 0, 0, 1061158912, none, none, none, 4, rfl, by omega, by omega, hup_at, (fun _ q => nomatch q), (fun _ q => nomatch q), (fun _ q => nomatch q), Or.inr ⟨rfl, rfl, rfl, Or.inl rfl⟩, (fun e he => nomatch he), List.nodup_nil, List.nodup_nil, hm.1, hm.2.1, hm.2.2⟩
end P4
