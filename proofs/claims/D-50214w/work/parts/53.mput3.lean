/-! the linked hash map: put, put together -/
set_option maxRecDepth 100000
set_option maxHeartbeats 2000000
theorem nw_nw {w : Nat → Nat} {a b t : Nat} (h : a ≤ b) : nw (nw w a t) b t = nw w a t := by
  funext q
  by_cases h1 : q < b
  · rw [nw_lt h1]
  · rw [nw_ge (by omega), nw_ge (by omega)]
def rpl (es : List En) (hs v : Nat) : List En := es.map (fun e => if e.2.1 = hs then (e.1, e.2.1, e.2.2.1, v) else e)
theorem rpl_f (hs v : Nat) (e : En) : (if e.2.1 = hs then ((e.1, e.2.1, e.2.2.1, v) : En) else e).1 = e.1 ∧ (if e.2.1 = hs then ((e.1, e.2.1, e.2.2.1, v) : En) else e).2.1 = e.2.1 ∧ (if e.2.1 = hs then ((e.1, e.2.1, e.2.2.1, v) : En) else e).2.2.1 = e.2.2.1 := by
  by_cases h : e.2.1 = hs
  · rw [if_pos h]; exact ⟨rfl, rfl, rfl⟩
  · rw [if_neg h]; exact ⟨rfl, rfl, rfl⟩
theorem adr_rpl {es : List En} {hs v : Nat} : adr (rpl es hs v) = adr es := by
  unfold adr rpl
  rw [List.map_map]
  exact List.map_congr_left (fun e _ => (rpl_f hs v e).1)
theorem hsh_rpl {es : List En} {hs v : Nat} : (rpl es hs v).map (fun e => e.2.1) = es.map (fun e => e.2.1) := by
  unfold rpl
  rw [List.map_map]
  exact List.map_congr_left (fun e _ => (rpl_f hs v e).2.1)
theorem chn_rpl {es : List En} {hs v n i : Nat} : adr (chn n i (rpl es hs v)) = adr (chn n i es) := by
  have : chn n i (rpl es hs v) = rpl (chn n i es) hs v := by
    unfold chn rpl
    rw [List.filter_map]
    congr 1
    refine congrArg (fun p => List.filter p es) (funext fun e => ?_)
    show ((if e.2.1 = hs then ((e.1, e.2.1, e.2.2.1, v) : En) else e).2.1 % n == i) = (e.2.1 % n == i)
    rw [(rpl_f hs v e).2.1]
  rw [this, adr_rpl]
section P2
variable {α : Type} {G : GG} {N : Nat} {h : Hp} {z : Bool} {w : Nat → Nat}
/-- the walk of a put -/
theorem m_pwalk {n hs k : Nat} {es : List En} (hh : hs < 128) (hE : ∀ e, e ∈ es → EnAt h n es e ∧ KeyAt h z e.2.2.1 e.2.1 ∧ e.2.1 < 128) (hd : (adr es).Nodup) (hd2 : (es.map (fun e => e.2.1)).Nodup) (K : KeyAt h z k hs) (hN : es.length < N) {e0 : En} (h0 : (chn n (hs % n) es)[0]? = some e0) (h00 : e0.2.1 ≠ hs) (j28 : Option Nat → Hp → Out (Option Nat)) (j46 : (Option Nat × Option Nat × Int32) → Hp → Out (Option Nat)) :
    gLp (bJ23_putVal_c26_134 G N (nI hs) (some k) j28 j46 (fun x h => j28 x h)) N (some e0.1, 0) h = (match look es hs with | some e => j28 (some e.1) h | none => j46 ((adr (chn n (hs % n) es)).getLast?, none, nI ((chn n (hs % n) es).length - 1)) h) := by
  classical
  have hl : (chn n (hs % n) es).length ≤ es.length := List.length_filter_le _ _
  have hin : ∀ q e, (chn n (hs % n) es)[q]? = some e → e ∈ es ∧ e.2.1 % n = hs % n := fun q e he => by
    have h1 := List.mem_filter.mp (List.mem_of_getElem? he)
    exact ⟨h1.1, by simpa using h1.2⟩
  have hnx : ∀ q e, (chn n (hs % n) es)[q]? = some e → nxt (adr (chn n (e.2.1 % n) es)) e.1 = (adr (chn n (hs % n) es))[q + 1]? := fun q e he => by
    rw [(hin q e he).2]
    exact nxt_at _ (chn_sub.nodup hd) q e.1 (by rw [adr_at, he]; rfl)
  have key : ∀ d p M e, p + d + 1 = (chn n (hs % n) es).length → d < M → (chn n (hs % n) es)[p]? = some e → (∀ q, q ≤ p → ∀ e, (chn n (hs % n) es)[q]? = some e → e.2.1 ≠ hs) → gLp (bJ23_putVal_c26_134 G N (nI hs) (some k) j28 j46 (fun x h => j28 x h)) M (some e.1, nI p) h = (match look es hs with | some e => j28 (some e.1) h | none => j46 ((adr (chn n (hs % n) es)).getLast?, none, nI ((chn n (hs % n) es).length - 1)) h) := by
    intro d
    induction d with
    | zero =>
      intro p M e hp hM he h0
      obtain ⟨M', rfl⟩ : ∃ M', M = M' + 1 := ⟨M - 1, by omega⟩
      obtain ⟨E, Ke, he2⟩ := hE e (hin p e he).1
      have hL : look es hs = none := by
        rw [← look_chn (n := n)]
        refine List.find?_eq_none.mpr fun e' h' => ?_
        obtain ⟨q, hq⟩ := List.getElem?_of_mem h'
        have hq2 : q < (chn n (hs % n) es).length := (List.getElem?_eq_some_iff.mp hq).1
        simpa using h0 q (by omega) e' hq
      show bJ23_putVal_c26_134 G N (nI hs) (some k) j28 j46 (fun x h => j28 x h) _ (some e.1, nI p) h = _
      unfold bJ23_putVal_c26_134
      rw [l_Fv (x := nxt (adr (chn n (e.2.1 % n) es)) e.1) E rfl, hnx p e he, if_pos (by rw [adr_at, List.getElem?_eq_none (by omega)]; rfl), hL]
      have e1 : (adr (chn n (hs % n) es)).getLast? = some e.1 := by
        rw [List.getLast?_eq_getElem?, show (adr (chn n (hs % n) es)).length = (chn n (hs % n) es).length from List.length_map _, show (chn n (hs % n) es).length - 1 = p by omega, adr_at, he]; rfl
      have e2 : (adr (chn n (hs % n) es))[p + 1]? = none := by rw [adr_at, List.getElem?_eq_none (by omega)]; rfl
      rw [e1, e2, show (chn n (hs % n) es).length - 1 = p by omega]
    | succ d ih =>
      intro p M e hp hM he h0
      obtain ⟨M', rfl⟩ : ∃ M', M = M' + 1 := ⟨M - 1, by omega⟩
      obtain ⟨E, Ke, he2⟩ := hE e (hin p e he).1
      obtain ⟨e', he'⟩ : ∃ e, (chn n (hs % n) es)[p + 1]? = some e := ⟨_, List.getElem?_eq_getElem (by omega)⟩
      obtain ⟨E', Ke', he2'⟩ := hE e' (hin _ e' he').1
      have e2 : (adr (chn n (hs % n) es))[p + 1]? = some e'.1 := by rw [adr_at, he']; rfl
      show bJ23_putVal_c26_134 G N (nI hs) (some k) j28 j46 (fun x h => j28 x h) _ (some e.1, nI p) h = _
      unfold bJ23_putVal_c26_134
      rw [l_Fv (x := nxt (adr (chn n (e.2.1 % n) es)) e.1) E rfl, hnx p e he, e2, if_neg (by simp), l_Fi E' rfl, l_J]
      by_cases hc : e'.2.1 = hs
      · have hL : look es hs = some e' := look_some hd2 (hin _ e' he').1 hc
        rw [if_pos (by rw [hc]), l_Fr E' rfl, hL]
        by_cases hk : some e'.2.2.1 = some k
        · rw [if_pos hk]
        · rw [if_neg hk, if_neg (by simp), l_J]
          rw [hc] at Ke'
          rw [k_eq K Ke', if_neg (by decide)]
      · rw [if_neg (fun q => hc ((nI_eq (by omega) (by omega)).mp q))]
        dsimp only
        rw [n_1, nI_add]
        exact ih (p + 1) M' e' (by omega) (by omega) he' (fun q hq e9 he9 => by
          by_cases hqp : q = p + 1
          · subst hqp
            rw [he'] at he9
            cases he9
            exact hc
          · exact h0 q (by omega) e9 he9)
  have hpos := (List.getElem?_eq_some_iff.mp h0).1
  exact key ((chn n (hs % n) es).length - 1) 0 N e0 (by omega) (by omega) h0 (fun q hq e he => by
    have : q = 0 := by omega
    subst this
    rw [h0] at he
    cases he
    exact h00)
/-- how long a chain may be -/
theorem chn_len {n hs kk : Nat} {es : List En} (hn : n = 2 ^ kk) (hk : 4 ≤ kk) (hh : hs < 128) (hb : ∀ e, e ∈ es → e.2.1 < 128) (hd2 : (es.map (fun e => e.2.1)).Nodup) (hL : look es hs = none) : (chn n (hs % n) es).length ≤ 7 := by
  have hn16 : 16 ≤ n := by
    rw [hn]; exact Nat.le_trans (by decide) (Nat.pow_le_pow_right (show 0 < 2 by omega) hk)
  have hnd : ((chn n (hs % n) es).map (fun e => e.2.1)).Nodup := (List.Sublist.map _ List.filter_sublist).nodup hd2
  -- all by their hash over n, the wanted one too
  have h1 : (hs / n :: ((chn n (hs % n) es).map (fun e => e.2.1)).map (· / n)).Nodup := by
    refine List.nodup_cons.mpr ⟨fun hx => ?_, ?_⟩
    · obtain ⟨x, x1, x2⟩ := List.mem_map.mp hx
      obtain ⟨e, e1, e2⟩ := List.mem_map.mp x1
      have e3 := List.mem_filter.mp e1
      have e4 : e.2.1 % n = hs % n := by simpa using e3.2
      refine look_none hL e e3.1 ?_
      have q1 := Nat.div_add_mod e.2.1 n
      have q2 := Nat.div_add_mod hs n
      rw [← e2] at x2
      rw [e4, x2] at q1
      omega
    · refine List.pairwise_map.mpr (List.Pairwise.imp_of_mem (fun {a b} ha hb hab q => ?_) hnd)
      obtain ⟨e, e1, e2⟩ := List.mem_map.mp ha
      obtain ⟨e', e1', e2'⟩ := List.mem_map.mp hb
      have e4 : e.2.1 % n = hs % n := by simpa using (List.mem_filter.mp e1).2
      have e4' : e'.2.1 % n = hs % n := by simpa using (List.mem_filter.mp e1').2
      have q1 := Nat.div_add_mod a n
      have q2 := Nat.div_add_mod b n
      rw [← e2] at q1 hab q
      rw [← e2'] at q2 hab q
      rw [e4, q] at q1
      rw [e4'] at q2
      omega
  have h2 := nd_le 8 _ h1 (fun x hx => by
    have h8 : ∀ y, y < 128 → y / n < 8 := fun y hy => by
      refine (Nat.div_lt_iff_lt_mul (by omega)).mpr ?_
      omega
    rcases List.mem_cons.mp hx with q | q
    · rw [q]; exact h8 hs hh
    · obtain ⟨y, y1, y2⟩ := List.mem_map.mp q
      obtain ⟨e, e1, e2⟩ := List.mem_map.mp y1
      rw [← y2, ← e2]
      exact h8 _ (hb e (List.mem_filter.mp e1).1))
  simp only [List.length_cons, List.length_map] at h2
  omega
end P2
