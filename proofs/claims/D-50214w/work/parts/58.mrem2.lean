/-! the linked hash map: remove -/
set_option maxRecDepth 100000
set_option maxHeartbeats 2000000
section Q2
variable {α : Type} {G : GG} {N : Nat} {h : Hp} {z : Bool} {w : Nat → Nat}
theorem lrm_len {x : Nat} {l : List Nat} (hd : l.Nodup) (hx : x ∈ l) : (lrm x l).length = l.length - 1 := by
  have : lrm x l = l.erase x := (List.Nodup.erase_eq_filter hd x).symm
  rw [this, List.length_erase_of_mem hx]
theorem adr_len {es : List En} : (adr es).length = es.length := List.length_map _
theorem hd_chn {es : List En} {n i : Nat} (hd2 : (es.map (fun e => e.2.1)).Nodup) : ((chn n i es).map (fun e => e.2.1)).Nodup := (List.Sublist.map _ List.filter_sublist).nodup hd2
/-- what is left when an entry is taken away -/
theorem m_rmvX {g : Hp} {t m n a kk : Nat} {e : En} {es : List En} {sz sz' mc mc' th : Int32} {lf : UInt32} {ve vk vv : Option Nat} {f1 : Nat → Option Nat} (A : MX G.1 h w t z m n es (some a) sz mc th lf ve vk vv kk) (ht : t ≠ 0) (he : e ∈ es) (q1 : g.1 = h.1)
    (q2 : g.2.2 m = some (MC (some a) ve sz' mc' th lf vk vv (if prv (adr es) e.1 = none then nxt (adr es) e.1 else (adr es).head?) (if nxt (adr es) e.1 = none then prv (adr es) e.1 else (adr es).getLast?)))
    (q4 : ∀ x, x ∈ es → x.1 ≠ e.1 → g.2.2 x.1 = some (ND x.2.1 x.2.2.1 x.2.2.2 (if nxt (adr (chn n (x.2.1 % n) es)) x.1 = some e.1 then nxt (adr (chn n (e.2.1 % n) es)) e.1 else nxt (adr (chn n (x.2.1 % n) es)) x.1) (if nxt (adr es) e.1 = some x.1 then prv (adr es) e.1 else prv (adr es) x.1) (if prv (adr es) e.1 = some x.1 then nxt (adr es) e.1 else nxt (adr es) x.1)))
    (q5 : g.2.2 a = some (.inl (8, n, .inr (.inr (.inr (.inr f1)))))) (q6 : ∀ i, i < n → f1 i = if (adr (chn n i es)).head? = some e.1 then nxt (adr (chn n (e.2.1 % n) es)) e.1 else (adr (chn n i es)).head?) (q7 : ∀ q, q < h.1 → w q ≠ t → g.2.2 q = h.2.2 q) :
    MX G.1 g w t z m n (rmv es e.2.1) (some a) sz' mc' th lf ve vk vv kk := by
  classical
  obtain ⟨h1, h2, h3, h4, h5, h6, h7, h8, h9, h10, h11, h12⟩ := A
  have hm : e.1 ∈ adr es := adr_mem he
  have ea : adr (rmv es e.2.1) = lrm e.1 (adr es) := adr_rmv h10 h11 he
  have ec : ∀ i, adr (chn n i (rmv es e.2.1)) = if e.2.1 % n = i then lrm e.1 (adr (chn n i es)) else adr (chn n i es) := fun i => by
    rw [chn_rmv]
    by_cases hq : e.2.1 % n = i
    · rw [if_pos hq]
      exact adr_rmv (chn_sub.nodup h10) (hd_chn h11) (List.mem_filter.mpr ⟨he, by simpa using hq⟩)
    · rw [if_neg hq, rmv_not]
      intro x hx q
      have h1 := List.mem_filter.mp hx
      have h2 : x.2.1 % n = i := by simpa using h1.2
      exact hq (by rw [← q]; exact h2)
  have en : ∀ i, e.2.1 % n ≠ i → e.1 ∉ adr (chn n i es) := fun i hi hx => by
    obtain ⟨x, x1, x2⟩ := List.mem_map.mp hx
    have h1 := List.mem_filter.mp x1
    have := entry_inj h10 h1.1 he x2
    subst this
    exact hi (by simpa using h1.2)
  have vw : ∀ ci v, VwO h w m ci v → VwO g w m ci v := fun ci v V => V.same (by rw [q1]; exact Nat.le_refl _) (fun q hq => rfl) (fun q hq => by
    obtain ⟨p1, p2, p3⟩ := V q hq
    exact q7 q p1 (by rw [p2]; exact fun e => ht e.symm))
  have ow : ∀ q, Ow G.1 h w t q → Ow G.1 g w t q := fun q O => ⟨O.1, by rw [q1]; exact O.2.1, O.2.2⟩
  have im : ∀ q, Im h w q → Im g w q := fun q O => ⟨by rw [q1]; exact O.1, O.2⟩
  refine ⟨h1, h2, h3, ?_, vw _ _ h5, vw _ _ h6, vw _ _ h7, ?_, fun x hx => ?_, ?_, ?_, ow _ h12⟩
  · rw [ea, head_rem h10, last_rem h10, q2]
    have c1 : (if prv (adr es) e.1 = none then nxt (adr es) e.1 else (adr es).head?) = if (adr es).head? = some e.1 then nxt (adr es) e.1 else (adr es).head? := by
      by_cases hq : (adr es).head? = some e.1
      · rw [if_pos hq, if_pos ((prv_none h10 hm).mpr hq)]
      · rw [if_neg hq, if_neg (fun q => hq ((prv_none h10 hm).mp q))]
    have c2 : (if nxt (adr es) e.1 = none then prv (adr es) e.1 else (adr es).getLast?) = if (adr es).getLast? = some e.1 then prv (adr es) e.1 else (adr es).getLast? := by
      by_cases hq : (adr es).getLast? = some e.1
      · rw [if_pos hq, if_pos ((nxt_none h10 hm).mpr hq)]
      · rw [if_neg hq, if_neg (fun q => hq ((nxt_none h10 hm).mp q))]
    rw [c1, c2]
  · rcases h8 with ⟨a9, f, a1, a2, a3, a4, a5⟩ | ⟨a1, -⟩
    · cases a1
      refine Or.inl ⟨a, f1, rfl, ow _ a2, a3, q5, fun i hi => ?_⟩
      rw [q6 i hi, ec]
      by_cases hq : e.2.1 % n = i
      · rw [if_pos hq, head_rem (chn_sub.nodup h10), hq]
      · rw [if_neg hq, if_neg (fun q => en i hq (List.mem_of_head? q))]
    · cases a1
  · have hx2 := List.mem_filter.mp hx
    have hne : x.2.1 ≠ e.2.1 := by simpa using hx2.2
    have hxe : x.1 ≠ e.1 := fun q => hne (by rw [entry_inj h10 hx2.1 he q])
    obtain ⟨b1, b2, b3, b4, b5, b6⟩ := h9 x hx2.1
    refine ⟨?_, ?_, b3, ow _ b4, im _ b5, im _ b6⟩
    · unfold EnAt
      rw [q4 x hx2.1 hxe, ea, nxt_rem hxe h10, prv_rem hxe h10, ec]
      have c1 : (if nxt (adr es) e.1 = some x.1 then prv (adr es) e.1 else prv (adr es) x.1) = if prv (adr es) x.1 = some e.1 then prv (adr es) e.1 else prv (adr es) x.1 := by
        by_cases hq : prv (adr es) x.1 = some e.1
        · rw [if_pos hq, if_pos (prv_nxt h10 hq)]
        · rw [if_neg hq, if_neg (fun q => hq (nxt_prv h10 q))]
      have c2 : (if prv (adr es) e.1 = some x.1 then nxt (adr es) e.1 else nxt (adr es) x.1) = if nxt (adr es) x.1 = some e.1 then nxt (adr es) e.1 else nxt (adr es) x.1 := by
        by_cases hq : nxt (adr es) x.1 = some e.1
        · rw [if_pos hq, if_pos (nxt_prv h10 hq)]
        · rw [if_neg hq, if_neg (fun q => hq (prv_nxt h10 q))]
      rw [c1, c2]
      by_cases hq : e.2.1 % n = x.2.1 % n
      · rw [if_pos hq, nxt_rem hxe (chn_sub.nodup h10), hq]
      · rw [if_neg hq, if_neg (fun q => en _ hq (nxt_mem q))]
    · unfold KeyAt at b2 ⊢
      rw [q7 _ b5.1 (by rw [b5.2]; exact fun e => ht e.symm)]
      exact b2
  · rw [ea]; exact List.filter_sublist.nodup h10
  · exact (List.Sublist.map _ List.filter_sublist).nodup h11
/-- the walk of a removal -/
theorem m_rwalk {n hs k : Nat} {es : List En} (hh : hs < 128) (hE : ∀ e, e ∈ es → EnAt h n es e ∧ KeyAt h z e.2.2.1 e.2.1 ∧ e.2.1 < 128) (hd : (adr es).Nodup) (hd2 : (es.map (fun e => e.2.1)).Nodup) (K : KeyAt h z k hs) (hN : es.length < N) {e0 e1 : En} (h0 : (chn n (hs % n) es)[0]? = some e0) (h1 : (chn n (hs % n) es)[1]? = some e1) (h00 : e0.2.1 ≠ hs) (j8 : (Option Nat × Option Nat) → Hp → Out (Option Nat)) :
    ∃ y, gLp (bJ23_removeNode_c26_115 G N (nI hs) (some k) j8 (fun x h => j8 (x.1, x.2) h)) N (some e0.1, some e1.1) h = (match look es hs with | some e => j8 (prv (adr (chn n (hs % n) es)) e.1, some e.1) h | none => j8 (y, none) h) := by
  classical
  have hl : (chn n (hs % n) es).length ≤ es.length := List.length_filter_le _ _
  have hin : ∀ q e, (chn n (hs % n) es)[q]? = some e → e ∈ es ∧ e.2.1 % n = hs % n := fun q e he => by
    have h1 := List.mem_filter.mp (List.mem_of_getElem? he)
    exact ⟨h1.1, by simpa using h1.2⟩
  have hnx : ∀ q e, (chn n (hs % n) es)[q]? = some e → nxt (adr (chn n (e.2.1 % n) es)) e.1 = (adr (chn n (hs % n) es))[q + 1]? := fun q e he => by
    rw [(hin q e he).2]
    exact nxt_at _ (chn_sub.nodup hd) q e.1 (by rw [adr_at, he]; rfl)
  have key : ∀ d p M e e', p + d + 2 = (chn n (hs % n) es).length → d < M → (chn n (hs % n) es)[p]? = some e → (chn n (hs % n) es)[p + 1]? = some e' → (∀ q, q ≤ p → ∀ e, (chn n (hs % n) es)[q]? = some e → e.2.1 ≠ hs) → ∃ y, gLp (bJ23_removeNode_c26_115 G N (nI hs) (some k) j8 (fun x h => j8 (x.1, x.2) h)) M (some e.1, some e'.1) h = (match look es hs with | some e => j8 (prv (adr (chn n (hs % n) es)) e.1, some e.1) h | none => j8 (y, none) h) := by
    intro d
    induction d with
    | zero =>
      intro p M e e' hp hM he he' h0
      obtain ⟨M', rfl⟩ : ∃ M', M = M' + 1 := ⟨M - 1, by omega⟩
      obtain ⟨E', Ke', he2⟩ := hE e' (hin _ e' he').1
      show ∃ y, bJ23_removeNode_c26_115 G N (nI hs) (some k) j8 (fun x h => j8 (x.1, x.2) h) _ (some e.1, some e'.1) h = _
      unfold bJ23_removeNode_c26_115
      rw [l_Fi E' rfl, l_J]
      by_cases hc : e'.2.1 = hs
      · have hL : look es hs = some e' := look_some hd2 (hin _ e' he').1 hc
        have hp9 : prv (adr (chn n (hs % n) es)) e'.1 = some e.1 := by
          rw [prv_at _ (chn_sub.nodup hd) p e'.1 (by rw [adr_at, he']; rfl), adr_at, he]; rfl
        refine ⟨none, ?_⟩
        rw [if_pos (by rw [hc]), l_Fr E' rfl, hL]
        dsimp only
        rw [hp9]
        by_cases hk : some e'.2.2.1 = some k
        · rw [if_pos hk]
        · rw [if_neg hk, if_neg (by simp), l_J]
          rw [hc] at Ke'
          rw [k_eq K Ke', if_neg (by decide)]
      · have hL : look es hs = none := by
          rw [← look_chn (n := n)]
          refine List.find?_eq_none.mpr fun e9 h9 => ?_
          obtain ⟨q, hq⟩ := List.getElem?_of_mem h9
          have hq2 : q < (chn n (hs % n) es).length := (List.getElem?_eq_some_iff.mp hq).1
          by_cases hqp : q = p + 1
          · subst hqp
            rw [he'] at hq
            cases hq
            simpa using hc
          · simpa using h0 q (by omega) e9 hq
        refine ⟨some e'.1, ?_⟩
        rw [if_neg (fun q => hc ((nI_eq (by omega) (by omega)).mp q))]
        dsimp only
        rw [l_Fv (x := nxt (adr (chn n (e'.2.1 % n) es)) e'.1) E' rfl, hnx _ e' he', if_pos (by rw [adr_at, List.getElem?_eq_none (by omega)]; rfl), hL]
    | succ d ih =>
      intro p M e e' hp hM he he' h0
      obtain ⟨M', rfl⟩ : ∃ M', M = M' + 1 := ⟨M - 1, by omega⟩
      obtain ⟨E', Ke', he2⟩ := hE e' (hin _ e' he').1
      show ∃ y, bJ23_removeNode_c26_115 G N (nI hs) (some k) j8 (fun x h => j8 (x.1, x.2) h) _ (some e.1, some e'.1) h = _
      unfold bJ23_removeNode_c26_115
      rw [l_Fi E' rfl, l_J]
      by_cases hc : e'.2.1 = hs
      · have hL : look es hs = some e' := look_some hd2 (hin _ e' he').1 hc
        have hp9 : prv (adr (chn n (hs % n) es)) e'.1 = some e.1 := by
          rw [prv_at _ (chn_sub.nodup hd) p e'.1 (by rw [adr_at, he']; rfl), adr_at, he]; rfl
        refine ⟨none, ?_⟩
        rw [if_pos (by rw [hc]), l_Fr E' rfl, hL]
        dsimp only
        rw [hp9]
        by_cases hk : some e'.2.2.1 = some k
        · rw [if_pos hk]
        · rw [if_neg hk, if_neg (by simp), l_J]
          rw [hc] at Ke'
          rw [k_eq K Ke', if_neg (by decide)]
      · obtain ⟨e9, he9⟩ : ∃ e, (chn n (hs % n) es)[p + 1 + 1]? = some e := ⟨_, List.getElem?_eq_getElem (by omega)⟩
        have e2 : (adr (chn n (hs % n) es))[p + 1 + 1]? = some e9.1 := by rw [adr_at, he9]; rfl
        rw [if_neg (fun q => hc ((nI_eq (by omega) (by omega)).mp q))]
        dsimp only
        rw [l_Fv (x := nxt (adr (chn n (e'.2.1 % n) es)) e'.1) E' rfl, hnx _ e' he', e2, if_neg (by simp)]
        exact ih (p + 1) M' e' e9 (by omega) (by omega) he' he9 (fun q hq e8 he8 => by
          by_cases hqp : q = p + 1
          · subst hqp
            rw [he'] at he8
            cases he8
            exact hc
          · exact h0 q (by omega) e8 he8)
  have hpos := (List.getElem?_eq_some_iff.mp h1).1
  exact key ((chn n (hs % n) es).length - 2) 0 N e0 e1 (by omega) (by omega) h0 h1 (fun q hq e he => by
    have : q = 0 := by omega
    subst this
    rw [h0] at he
    cases he
    exact h00)
end Q2
