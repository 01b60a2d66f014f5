/-! a cabin copied -/
set_option maxRecDepth 100000
set_option maxHeartbeats 2000000
section U1
variable {α : Type} {G : GG} {N : Nat} {h : Hp} {w : Nat → Nat} {R : Row} {o : Nat}
theorem l_Cp {a0 a n0 n1 n : Nat} {f g : Nat → Int32} {kont : Hp → Out α} (e0 : h.2.2 a0 = some (.inl (0, n0, .inl f))) (e1 : h.2.2 a = some (.inl (0, n1, .inl g))) (b0 : G.1 ≤ a0) (b1 : G.1 ≤ a) (h0 : n ≤ n0) (h1 : n ≤ n1) (hn : n < 1000) : gCp G h (some a0) (nI 0) (some a) (nI 0) (nI n) 0 .int kont = kont (hup h a (.inl (0, n1, .inl (va_cpy f g 0 0 n)))) := by
  unfold gCp
  simp only [e0, e1]
  rw [nI_clamp (by omega), nI_clamp (by omega), if_pos ⟨trivial, trivial, b0, b1, nI_pos (by omega), nI_pos (by omega), nI_pos (by omega), by omega, by omega, fun _ _ => rfl⟩]
theorem take_look {es : List En} {k p : Nat} {e : En} (he : es[k]? = some e) : look (es.take (k + 1)) p = (match look (es.take k) p with | some x => some x | none => if e.2.1 = p then some e else none) := by
  rw [List.take_add_one, he]
  exact look_app
theorem take_none {es : List En} {k : Nat} {e : En} (hd : (es.map (fun e => e.2.1)).Nodup) (he : es[k]? = some e) : look (es.take k) e.2.1 = none := by
  unfold look
  refine List.find?_eq_none.mpr fun x hx => ?_
  obtain ⟨i, hi⟩ := List.getElem?_of_mem hx
  rw [List.getElem?_take] at hi
  by_cases h1 : i < k
  · rw [if_pos h1] at hi
    have w1 : (es.map (fun e => e.2.1))[i]? = some x.2.1 := by rw [List.getElem?_map, hi]; rfl
    have w2 : (es.map (fun e => e.2.1))[k]? = some e.2.1 := by rw [List.getElem?_map, he]; rfl
    simp only [beq_iff_eq]
    intro q
    rw [q] at w1
    have := (List.getElem?_inj (List.getElem?_eq_some_iff.mp w1).1 hd).mp (w1.trans w2.symm)
    omega
  · rw [if_neg h1] at hi; cases hi
/-- the votes put one by one -/
theorem c_putAll {t t2 c0 ru' mp mp' it nn kk : Nat} {es : List En} {tab : Option Nat} {sz mc th : Int32} {lf : UInt32} {ve vk vv : Option Nat} {fr : Nat → Int32} (ht : 3 < t) (ht2 : 3 < t2) (hne : t ≠ t2) (hb : G.1 ≤ h.1)
    (X : MX G.1 h w 0 true mp nn es tab sz mc th lf ve vk vv kk) (V : VoR h w R o es) (I : ItAt h 28 it mp mc (adr es).head?) (hi : Ow G.1 h w t it) (M : MR G.1 h w t2 true mp' 16 []) (hc0 : Ow G.1 h w t c0) (C : CabAt h c0 (R (10 + 3 * o)) (R (10 + 3 * o + 1)) (R (148 + o)) (R (158 + o)) (R (168 + o)) (R (138 + o)) (R (10 + 3 * o + 2)) ru' mp') (hru : Ow G.1 h w t ru') (eru : h.2.2 ru' = some (.inl (0, 8, .inl fr))) (hN : 1000 < N) :
    ∃ h' w' nn' es', gLp (bX12_init_2_120 G N (some c0) (some it)) N () h = some (.inl (), h') ∧ Tr (fun u => u = t ∨ u = t2) 290 h w h' w' ∧ MR G.1 h' w' t2 true mp' nn' es' ∧ VoR h' w' R o es' ∧ h'.2.2 c0 = h.2.2 c0 ∧ h'.2.2 ru' = h.2.2 ru' ∧ G.1 ≤ h'.1 := by
  classical
  have hd := X.2.2.2.2.2.2.2.2.2.1
  have hd2 := X.2.2.2.2.2.2.2.2.2.2.1
  have hlen : es.length ≤ 80 := by
    have := nd_le 80 _ hd2 (fun x hx => by
      obtain ⟨e, e1, e2⟩ := List.mem_map.mp hx
      rw [← e2]; exact (V.2 e e1).1)
    rw [List.length_map] at this
    exact this
  have nS0 : ¬ (fun u => u = t ∨ u = t2) 0 := fun q => by rcases q with q | q <;> omega
  have nt0 : ∀ k, k ≤ 3 → ¬ (k = t) := fun k hk q => by omega
  have nt20 : ∀ k, k ≤ 3 → ¬ (k = t2) := fun k hk q => by omega
  have val : ∀ e, e ∈ es → ∃ (rd : Prop) (tm : Nat), ImC h w e.2.2.2 (.inr (17, [.int (bZ rd), .int (nI tm)])) := fun e he => by
    have hL := look_some hd2 he rfl
    rcases V.1 e.2.1 (V.2 e he).1 with q | ⟨e', rd, tm, q1, q2, -⟩
    · rw [hL] at q; cases q.1
    · rw [hL] at q1
      rw [← Option.some.inj q1] at q2
      exact ⟨rd, tm, q2⟩
  obtain ⟨x, hh, ⟨w', nn', es', ve', vk', vv', J1, J2, J3, J4, J5, J6, J7, J8, J9, J10, J11⟩, self, e3⟩ := lp_r (B := bX12_init_2_120 G N (some c0) (some it)) (N := N) (n := es.length) (fun k x hh => ∃ w' nn' es' ve' vk' vv', ItAt hh 28 it mp mc ((adr es)[k]?) ∧ MX G.1 hh w' 0 true mp nn es tab sz mc th lf ve' vk' vv' kk ∧ MR G.1 hh w' t2 true mp' nn' es' ∧ (∀ p, (look es' p).map (fun e => e.2.2.2) = (look (es.take k) p).map (fun e => e.2.2.2)) ∧ (∀ e, e ∈ es' → ∃ e0, e0 ∈ es ∧ e0.2.1 = e.2.1) ∧ hh.2.2 c0 = h.2.2 c0 ∧ hh.2.2 ru' = h.2.2 ru' ∧ Tr (fun u => u = t ∨ u = t2) (2 * k + (nn' - 16) / 2 + (if k = 0 then 0 else 4)) h w hh w' ∧ 16 ≤ nn' ∧ es'.length = k ∧ nn' % 2 = 0) (x0 := ()) (h0 := h) (by omega) ⟨w, 16, [], ve, vk, vv, by rw [← List.head?_eq_getElem?]; exact I, X, M, fun p => by simp [look], (fun e he => nomatch he), rfl, rfl, Tr.refl, by omega, rfl, by omega⟩ (fun k x hh hk J self => by
    obtain ⟨w1, n1, es1, ve1, vk1, vv1, J1, J2, J3, J4, J5, J6, J7, J8, J9, J10, J11⟩ := J
    obtain ⟨e, he⟩ : ∃ e, es[k]? = some e := ⟨_, List.getElem?_eq_getElem hk⟩
    have hem : e ∈ es := List.mem_of_getElem? he
    have J1' : ItAt hh 28 it mp mc (some e.1) := by
      have : (adr es)[k]? = some e.1 := by rw [adr_at, he]; rfl
      rw [this] at J1; exact J1
    obtain ⟨h2, r1, r2, r3, r4, r5⟩ := m_nextE (N := N) J2 J1' hi.1 hem
    have hit : w1 it = t := by rw [J8.2.2.2.1 it hi.2.1]; exact hi.2.2
    have T2 : Tr (fun u => u = t) 0 hh w1 h2 w1 := Tr.ex r2 r3 (fun q _ q2 => r4 q (fun e => q2 (by rw [e]; exact hit)))
    obtain ⟨ve2, vk2, vv2, X2⟩ := J2.keep T2 (nt0 0 (by omega)) (nt0 0 (by omega))
    have M2 := J3.keep T2 (fun q => hne q.symm) (nt0 0 (by omega))
    obtain ⟨g1, g2, g3, g4, g5, g6⟩ := X2.2.2.2.2.2.2.2.2.1 e hem
    obtain ⟨rd, tm, v1⟩ := val e hem
    have v2 := (v1.keep J8 nS0 (ncl (by decide))).keep T2 (nt0 0 (by omega)) (ncl (by decide))
    have hb2 : G.1 ≤ h2.1 := by have := J8.1; omega
    have hnone : look es1 e.2.1 = none := by
      have := J4 e.2.1
      rw [take_none hd2 he] at this
      cases hq : look es1 e.2.1 with
      | none => rfl
      | some z => rw [hq] at this; cases this
    obtain ⟨h3, n3, es3, a, p0, p1, p2, p3, p4, p5⟩ := m_put (N := N) M2 (show t2 ≠ 0 by omega) hb2 g3 g2 g5 g6 (by omega)
    have s3 := p4.nle
    have e9 := p5.1 hnone
    have c0it : c0 ≠ it := by
      obtain ⟨cur, J⟩ := J1'
      have q1 := C
      unfold CabAt at q1
      rw [← J6] at q1
      exact cl_ne q1 J (by decide)
    have ruit : ru' ≠ it := by
      obtain ⟨cur, J⟩ := J1'
      exact mc_ne (by rw [J7]; exact eru) J
    have C2 : CabAt h2 c0 (R (10 + 3 * o)) (R (10 + 3 * o + 1)) (R (148 + o)) (R (158 + o)) (R (168 + o)) (R (138 + o)) (R (10 + 3 * o + 2)) ru' mp' := by
      unfold CabAt
      rw [r4 c0 c0it, J6]
      exact C
    have c0w : c0 < h2.1 ∧ w1 c0 = t := ⟨by have := J8.1; have := hc0.2.1; omega, by rw [J8.2.2.2.1 c0 hc0.2.1]; exact hc0.2.2⟩
    have ruw : ru' < h2.1 ∧ w1 ru' = t := ⟨by have := J8.1; have := hru.2.1; omega, by rw [J8.2.2.2.1 ru' hru.2.1]; exact hru.2.2⟩
    have itw : it < h2.1 ∧ w1 it = t := ⟨by have := J8.1; have := hi.2.1; omega, hit⟩
    obtain ⟨ve3, vk3, vv3, X3⟩ := X2.keep p2 (fun q => nt20 0 (by omega) q) (fun q => nt20 0 (by omega) q)
    have n2e : n3 % 2 = 0 := by
      obtain ⟨tab, mc, th, lf, ve, vk, vv, kk, Z⟩ := p4
      rw [Z.1, show kk = (kk - 1) + 1 by have := Z.2.1; omega, Nat.pow_succ]
      omega
    refine ⟨(), h3, ⟨_, n3, es3, ve3, vk3, vv3, ?_, X3, p4, fun p => ?_, fun x hx => ?_, ?_, ?_, ?_, by omega, ?_, n2e⟩, ?_⟩
    · have := r5
      rw [nxt_at _ hd k e.1 (by rw [adr_at, he]; rfl)] at this
      obtain ⟨cur, c1⟩ := this
      refine ⟨cur, ?_⟩
      rw [p3 it itw.1 (by rw [itw.2]; exact hne)]
      exact c1
    · rw [take_look he, e9, look_app]
      have := J4 p
      cases hq : look es1 p with
      | none =>
        rw [hq] at this
        cases hq2 : look (es.take k) p with
        | none =>
          dsimp only
          by_cases hp : e.2.1 = p
          · rw [if_pos hp, if_pos hp]; rfl
          · rw [if_neg hp, if_neg hp]
        | some z => rw [hq2] at this; cases this
      | some z =>
        rw [hq] at this
        cases hq2 : look (es.take k) p with
        | none => rw [hq2] at this; cases this
        | some z2 => rw [hq2] at this; exact this
    · rcases p5.hs x hx with q | ⟨e0, q1, q2⟩
      · exact ⟨e, hem, q.symm⟩
      · obtain ⟨e00, z1, z2⟩ := J5 e0 q1
        exact ⟨e00, z1, z2.trans q2⟩
    · rw [p3 c0 c0w.1 (by rw [c0w.2]; exact hne), r4 c0 c0it, J6]
    · rw [p3 ru' ruw.1 (by rw [ruw.2]; exact hne), r4 ru' ruit, J7]
    · have := (J8.trans (T2.mono (S' := fun u => u = t ∨ u = t2) (fun u q => Or.inl q) (Nat.le_refl _)) nS0).trans (p2.mono (S' := fun u => u = t ∨ u = t2) (fun u q => Or.inr q) (Nat.le_refl _)) nS0
      refine this.mono (fun _ q => q) ?_
      rw [if_neg (show ¬ k + 1 = 0 by omega)]
      by_cases hk0 : k = 0
      · rw [if_pos hk0, if_pos (List.eq_nil_of_length_eq_zero (by omega))]
        omega
      · rw [if_neg hk0, if_neg (fun q => hk0 (by rw [← J10, q]; rfl))]
        omega
    · rw [e9, List.length_append, J10]; rfl
    · unfold bX12_init_2_120
      have J1b := J1'
      obtain ⟨cur, J1c⟩ := J1b
      have itV : h2.2.2 it = some (.inr (28, _)) := r5.choose_spec
      rw [l_bV J1c, m_hasE J1', l_bnd, if_neg (by rw [bZ_t (by simp)]; decide), l_bV J1c, r1, l_bnd, l_Ck g1 (show 27 ∈ [27] by decide), l_Fr C2 rfl, l_bV g1]
      unfold sJ47_getKey_c27 sJ47_getValue_c27
      have kc : h2.2.2 e.2.2.1 = some (.inr (10, [.int (nI (e.2.1 / 8)), .int (nI (e.2.1 % 8))])) := by
        have := g2
        unfold KeyAt at this
        rw [if_pos rfl] at this
        exact this
      rw [l_Fr g1 rfl, l_bnd, l_Ck kc (show 10 ∈ [10] by decide), l_bV g1, l_Fr g1 rfl, l_bnd, l_Ck v2.2.2 (show 17 ∈ [17] by decide), m_bV M2.lhm, p1, l_bnd])
  have hz : (adr es)[es.length]? = none := by rw [adr_at, List.getElem?_eq_none (by omega)]; rfl
  rw [hz] at J1
  have hle := J3.nle
  refine ⟨hh, w', nn', es', ?_, J8.mono (fun _ q => q) (by split <;> omega), J3, ⟨fun p hp => ?_, fun e he => ?_⟩, J6, J7, by have := J8.1; omega⟩
  · rw [e3]
    unfold bX12_init_2_120
    obtain ⟨cur, J1c⟩ := id J1
    rw [l_bV J1c, m_hasE J1, l_bnd, if_pos (by rw [bZ_f (by simp)])]
  · have := J4 p
    rw [List.take_length] at this
    rcases V.1 p hp with ⟨q1, q2⟩ | ⟨e, rd, tm, q1, q2, q3⟩
    · rw [q1] at this
      refine Or.inl ⟨?_, q2⟩
      cases hq : look es' p with
      | none => rfl
      | some z => rw [hq] at this; cases this
    · rw [q1] at this
      cases hq : look es' p with
      | none => rw [hq] at this; cases this
      | some z =>
        rw [hq] at this
        have e9 : z.2.2.2 = e.2.2.2 := Option.some.inj this
        exact Or.inr ⟨z, rd, tm, rfl, by rw [e9]; exact q2.keep J8 nS0 (ncl (by decide)), q3⟩
  · obtain ⟨e0, z1, z2⟩ := J5 e he
    rw [← z2]
    exact V.2 e0 z1
end U1
