/-! the linked hash map: put -/
set_option maxRecDepth 100000
set_option maxHeartbeats 2000000
section P1
variable {G : GG} {N : Nat} {h : Hp} {z : Bool} {w : Nat → Nat}
theorem look_none {es : List En} {hs : Nat} (hL : look es hs = none) : ∀ e, e ∈ es → e.2.1 ≠ hs := fun e he q => by
  have := List.find?_eq_none.mp hL e he
  simp [q] at this
theorem look_some {es : List En} {hs : Nat} {e : En} (hd : (es.map (fun e => e.2.1)).Nodup) (he : e ∈ es) (hh : e.2.1 = hs) : look es hs = some e := by
  cases hL : look es hs with
  | none => exact absurd hh (look_none hL e he)
  | some e' =>
    obtain ⟨h1, h2⟩ := look_mem hL
    obtain ⟨i, hi⟩ := List.getElem?_of_mem he
    obtain ⟨i', hi'⟩ := List.getElem?_of_mem h1
    have w1 : (es.map (fun e => e.2.1))[i]? = some hs := by rw [List.getElem?_map, hi]; simp [hh]
    have w2 : (es.map (fun e => e.2.1))[i']? = some hs := by rw [List.getElem?_map, hi']; simp [h2]
    have := (List.getElem?_inj (List.getElem?_eq_some_iff.mp w1).1 hd).mp (w1.trans w2.symm)
    subst this
    rw [hi] at hi'
    rw [Option.some.inj hi']
theorem last_mem {c : List En} {x : Nat} (h : (adr c).getLast? = some x) : ∃ e, e ∈ c ∧ e.1 = x := by
  obtain ⟨e, h1, h2⟩ := List.mem_map.mp (List.mem_of_getLast? h)
  exact ⟨e, h1, h2⟩
/-- a new entry is in -/
theorem m_insX {h1 : Hp} {t m n a kk hs k v : Nat} {es : List En} {sz mc th : Int32} {lf : UInt32} {ve vk vv : Option Nat} {f1 : Nat → Option Nat} (A : MX G.1 h w t z m n es (some a) sz mc th lf ve vk vv kk) (ht : t ≠ 0) (hb : G.1 ≤ h.1) (hh : hs < 128) (K : KeyAt h z k hs) (ik : Im h w k) (iv : Im h w v) (hL : look es hs = none) (q1 : h1.1 = h.1 + 1)
    (q2 : h1.2.2 m = some (MC (some a) ve sz mc th lf vk vv (if (adr es).getLast? = none then some h.1 else (adr es).head?) (some h.1))) (q3 : h1.2.2 h.1 = some (ND hs k v none (adr es).getLast? none))
    (q4 : ∀ e, e ∈ es → h1.2.2 e.1 = some (ND e.2.1 e.2.2.1 e.2.2.2 (if (adr (chn n (hs % n) es)).getLast? = some e.1 then some h.1 else nxt (adr (chn n (e.2.1 % n) es)) e.1) (prv (adr es) e.1) (if (adr es).getLast? = some e.1 then some h.1 else nxt (adr es) e.1)))
    (q5 : h1.2.2 a = some (.inl (8, n, .inr (.inr (.inr (.inr f1)))))) (q6 : ∀ i, i < n → f1 i = if i = hs % n ∧ chn n (hs % n) es = [] then some h.1 else (adr (chn n i es)).head?) (q7 : ∀ q, q < h.1 → w q ≠ t → h1.2.2 q = h.2.2 q) :
    MX G.1 h1 (nw w h.1 t) t z m n (es ++ [(h.1, hs, k, v)]) (some a) sz mc th lf ve vk vv kk := by
  classical
  obtain ⟨h1', h2, h3, h4, h5, h6, h7, h8, h9, h10, h11, h12⟩ := A
  have hne : ∀ e, e ∈ es → e.1 ≠ h.1 := fun e he q => by have := (h9 e he).2.2.2.1.2.1; omega
  have hni : h.1 ∉ adr es := fun q => by
    obtain ⟨e, e1, e2⟩ := List.mem_map.mp q
    exact hne e e1 e2
  have hnc : ∀ i, h.1 ∉ adr (chn n i es) := fun i q => hni (chn_sub.subset q)
  have ow : ∀ q, Ow G.1 h w t q → Ow G.1 h1 (nw w h.1 t) t q := fun q O => ⟨O.1, by rw [q1]; have := O.2.1; omega, by rw [nw_lt O.2.1]; exact O.2.2⟩
  have im : ∀ q, Im h w q → Im h1 (nw w h.1 t) q := fun q O => ⟨by rw [q1]; have := O.1; omega, by rw [nw_lt O.1]; exact O.2⟩
  have vw : ∀ ci v, VwO h w m ci v → VwO h1 (nw w h.1 t) m ci v := fun ci v V => V.same (by rw [q1]; omega) (fun q hq => nw_lt hq) (fun q hq => by
    obtain ⟨p1, p2, p3⟩ := V q hq
    exact q7 q p1 (by rw [p2]; exact fun e => ht e.symm))
  have ky : ∀ k hs, KeyAt h z k hs → Im h w k → KeyAt h1 z k hs := fun k hs K I => by
    unfold KeyAt at K ⊢
    rw [q7 k I.1 (by rw [I.2]; exact fun e => ht e.symm)]
    exact K
  have hlast : (adr (es ++ [(h.1, hs, k, v)])).getLast? = some h.1 := by rw [adr_app]; exact last_app
  refine ⟨h1', h2, h3, ?_, vw _ _ h5, vw _ _ h6, vw _ _ h7, ?_, fun e he => ?_, ?_, ?_, ow _ h12⟩
  · rw [hlast, adr_app, head_app]
    exact q2
  · rcases h8 with ⟨a9, f, a1, a2, a3, a4, a5⟩ | ⟨a1, -⟩
    · cases a1
      refine Or.inl ⟨a, f1, rfl, ow _ a2, a3, q5, fun i hi => ?_⟩
      rw [q6 i hi, chn_app]
      by_cases hi2 : hs % n = i
      · rw [if_pos hi2]
        by_cases hz : chn n (hs % n) es = []
        · rw [if_pos ⟨hi2.symm, hz⟩, ← hi2, hz]; rfl
        · rw [if_neg (fun q => hz q.2), adr_app, head_app, if_neg]
          rw [← hi2]
          intro q
          rw [List.getLast?_eq_none_iff] at q
          exact hz (List.map_eq_nil_iff.mp q)
      · rw [if_neg (fun q => hi2 q.1.symm), if_neg hi2]
    · cases a1
  · rcases List.mem_append.mp he with he | he
    · obtain ⟨b1, b2, b3, b4, b5, b6⟩ := h9 e he
      refine ⟨?_, ky _ _ b2 b5, b3, ow _ b4, im _ b5, im _ b6⟩
      unfold EnAt
      rw [q4 e he, chn_app, adr_app, nxt_app _ _ _ hni h10, prv_app _ _ _ (hne e he)]
      by_cases hi2 : hs % n = e.2.1 % n
      · rw [if_pos hi2, adr_app, nxt_app _ _ _ (hnc _) (chn_sub.nodup h10), hi2]
      · rw [if_neg hi2, if_neg]
        intro q
        obtain ⟨e', c1, c2⟩ := last_mem q
        have c3 := List.mem_filter.mp c1
        have := entry_inj h10 c3.1 he c2
        subst this
        have c4 := c3.2
        simp only [beq_iff_eq] at c4
        exact hi2 c4.symm
    · have : e = (h.1, hs, k, v) := by simpa using he
      subst this
      refine ⟨?_, ky _ _ K ik, hh, ⟨hb, by rw [q1]; show h.1 < h.1 + 1; omega, nw_ge (Nat.le_refl _)⟩, im _ ik, im _ iv⟩
      unfold EnAt
      dsimp only
      rw [q3, chn_app, if_pos rfl, adr_app, adr_app, nxt_new _ _ (hnc _), nxt_new _ _ hni, prv_new _ _ hni]
  · rw [adr_app]
    exact List.nodup_append.mpr ⟨h10, by simp, fun x hx y hy q => hni (by
      have h9 : y = h.1 := by simpa using hy
      rw [← h9, ← q]
      exact hx)⟩
  · rw [List.map_append]
    refine List.nodup_append.mpr ⟨h11, by simp, fun x hx y hy q => ?_⟩
    obtain ⟨e, e1, e2⟩ := List.mem_map.mp hx
    have : y = hs := by simpa using hy
    exact look_none hL e e1 (by rw [e2, q, this])
end P1
