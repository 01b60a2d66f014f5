/-! the linked hash map: an entry taken away -/
set_option maxRecDepth 100000
set_option maxHeartbeats 2000000
theorem prv_at : ∀ (l : List Nat), l.Nodup → ∀ (p a : Nat), l[p + 1]? = some a → prv l a = l[p]?
  | [], _, p, a, h => by simp at h
  | y :: l, hd, p, a, h => by
    have hn := (List.nodup_cons.mp hd).1
    have hd2 := (List.nodup_cons.mp hd).2
    have h2 : l[p]? = some a := by simpa using h
    rw [prv_cons]
    rcases p with _ | p
    · rw [if_pos (by rw [List.head?_eq_getElem?]; exact h2)]; rfl
    · rw [if_neg, prv_at l hd2 p a h2]
      · rfl
      · rw [List.head?_eq_getElem?]
        intro q
        have := (List.getElem?_inj (List.getElem?_eq_some_iff.mp q).1 hd2).mp (q.trans h2.symm)
        omega
theorem nxt_prv {l : List Nat} (hd : l.Nodup) {a x : Nat} (h : nxt l a = some x) : prv l x = some a := by
  have ha : a ∈ l := by
    cases h2 : l.contains a with
    | true => simpa using h2
    | false =>
      have h3 : a ∉ l := by simpa using h2
      have : ∀ (l : List Nat), a ∉ l → nxt l a = none := by
        intro l
        induction l with
        | nil => intro _; rfl
        | cons y l ih =>
          intro h
          rw [nxt_cons, if_neg (fun q => h (by rw [q]; exact List.mem_cons_self)), ih (fun q => h (List.mem_cons_of_mem _ q))]
      rw [this l h3] at h
      cases h
  obtain ⟨i, hi⟩ := List.getElem?_of_mem ha
  rw [nxt_at l hd i a hi] at h
  rw [prv_at l hd i x h, hi]
theorem prv_nxt {l : List Nat} (hd : l.Nodup) {a x : Nat} (h : prv l x = some a) : nxt l a = some x := by
  have hx := (prv_mem h).2
  obtain ⟨i, hi⟩ := List.getElem?_of_mem hx
  rcases i with _ | i
  · rw [prv_head hd (by rw [List.head?_eq_getElem?]; exact hi)] at h; cases h
  · rw [prv_at l hd i x hi] at h
    rw [nxt_at l hd i a h, hi]
theorem nxt_none {l : List Nat} (hd : l.Nodup) {x : Nat} (hx : x ∈ l) : nxt l x = none ↔ l.getLast? = some x := by
  obtain ⟨i, hi⟩ := List.getElem?_of_mem hx
  rw [nxt_at l hd i x hi, List.getLast?_eq_getElem?]
  have hl := (List.getElem?_eq_some_iff.mp hi).1
  constructor
  · intro h
    have := List.getElem?_eq_none_iff.mp h
    rw [show l.length - 1 = i by omega]; exact hi
  · intro h
    have := (List.getElem?_inj (by omega) hd).mp (h.trans hi.symm)
    exact List.getElem?_eq_none (by omega)
theorem prv_none {l : List Nat} (hd : l.Nodup) {x : Nat} (hx : x ∈ l) : prv l x = none ↔ l.head? = some x := by
  constructor
  · intro h
    cases h2 : decide (l.head? = some x) with
    | true => exact of_decide_eq_true h2
    | false =>
      obtain ⟨p, hp⟩ := prv_some hx (of_decide_eq_false h2)
      rw [h] at hp; cases hp
  · exact prv_head hd
theorem nxt_self {l : List Nat} (hd : l.Nodup) {x : Nat} : nxt l x ≠ some x := by
  intro h
  induction l with
  | nil => cases h
  | cons y l ih =>
    have hn := (List.nodup_cons.mp hd).1
    rw [nxt_cons] at h
    by_cases hq : x = y
    · rw [if_pos hq] at h; exact hn (by rw [← hq]; exact List.mem_of_head? h)
    · rw [if_neg hq] at h; exact ih (List.nodup_cons.mp hd).2 h
section Q1
variable {α : Type} {G : GG} {N : Nat} {h : Hp} {z : Bool} {w : Nat → Nat}
theorem m_arem {m x hs k v : Nat} {tab ve vk vv hd tl nx bf af : Option Nat} {sz mc th : Int32} {lf : UInt32} (hm : G.1 ≤ m) (hx : G.1 ≤ x) (eM : h.2.2 m = some (MC tab ve sz mc th lf vk vv hd tl)) (eX : h.2.2 x = some (ND hs k v nx bf af))
    (hB : ∀ b, bf = some b → G.1 ≤ b ∧ b ≠ x ∧ ∃ hs k v nx bf' af', h.2.2 b = some (ND hs k v nx bf' af')) (hA : ∀ a, af = some a → G.1 ≤ a ∧ a ≠ x ∧ ∃ hs k v nx bf' af', h.2.2 a = some (ND hs k v nx bf' af')) (hAB : ∀ y, bf = some y → af ≠ some y) :
    ∃ h', sJ24_afterNodeRemoval G N (some m) (some x) h = some (.inl (), h') ∧ h'.1 = h.1 ∧ h'.2.1 = h.2.1 ∧ h'.2.2 m = some (MC tab ve sz mc th lf vk vv (if bf = none then af else hd) (if af = none then bf else tl)) ∧
      (∀ b hs k v nx bf' af', bf = some b → h.2.2 b = some (ND hs k v nx bf' af') → h'.2.2 b = some (ND hs k v nx bf' af)) ∧ (∀ a hs k v nx bf' af', af = some a → h.2.2 a = some (ND hs k v nx bf' af') → h'.2.2 a = some (ND hs k v nx bf af')) ∧ (∀ q, q ≠ m → q ≠ x → some q ≠ bf → some q ≠ af → h'.2.2 q = h.2.2 q) ∧ h'.2.2 x = some (ND hs k v nx none none) := by
  have xm : x ≠ m := cl_ne eX eM (by decide)
  have ndi : ∀ {q hs k v hs2 k2 v2 : Nat} {nx b c nx2 b2 c2 : Option Nat}, h.2.2 q = some (ND hs k v nx b c) → h.2.2 q = some (ND hs2 k2 v2 nx2 b2 c2) → [Value.int (nI hs), .ref k, .ref v, va_rf nx, va_rf b, va_rf c] = [Value.int (nI hs2), .ref k2, .ref v2, va_rf nx2, va_rf b2, va_rf c2] := fun {q hs k v hs2 k2 v2 nx b c nx2 b2 c2} e1 e2 => by
    rw [e1] at e2
    injection e2 with e2
    injection e2 with e2
    exact (Prod.mk.inj e2).2
  unfold sJ24_afterNodeRemoval
  rw [l_Ck eX (show 27 ∈ [27] by decide), l_Fv (x := bf) eX rfl, l_Fv (x := af) eX rfl, l_P eX hx (by (show 5 < 6; omega)), l_P hup_at hx (by (show 4 < 6; omega)), hup_up, l_J]
  obtain ⟨g, hg0⟩ : ∃ g, g = hup h x (.inr (27, ([.int (nI hs), .ref k, .ref v, va_rf nx, va_rf bf, va_rf af].set 5 (va_rf none)).set 4 (va_rf none))) := ⟨_, rfl⟩
  rw [← hg0]
  have hg : g = hup h x (ND hs k v nx none none) := hg0
  clear hg0
  have gM : g.2.2 m = some (MC tab ve sz mc th lf vk vv hd tl) := by rw [hg, hup_ne (Ne.symm xm)]; exact eM
  have gq : ∀ q, q ≠ x → g.2.2 q = h.2.2 q := fun q hq => by rw [hg, hup_ne hq]
  have gx : g.2.2 x = some (ND hs k v nx none none) := by rw [hg]; exact hup_at
  cases bf with
  | none =>
    rw [if_pos rfl, l_P gM hm (by (show 8 < 12; omega))]
    dsimp only
    cases af with
    | none =>
      rw [if_pos rfl, l_P hup_at hm (by (show 9 < 12; omega)), hup_up]
      refine ⟨_, rfl, by rw [hg]; rfl, by rw [hg]; rfl, by rw [if_pos rfl, if_pos rfl]; exact hup_at, (fun _ _ _ _ _ _ _ q => nomatch q), (fun _ _ _ _ _ _ _ q => nomatch q), fun q q1 q2 _ _ => by rw [hup_ne q1, gq q q2], by rw [hup_ne xm]; exact gx⟩
    | some a =>
      obtain ⟨a1, a2, hs', k', v', nx', bf', af', eA⟩ := hA a rfl
      have am : a ≠ m := cl_ne eA eM (by decide)
      rw [if_neg (by simp), l_P (by rw [hup_ne am, gq a a2]; exact eA) a1 (by (show 4 < 6; omega))]
      refine ⟨_, rfl, by rw [hg]; rfl, by rw [hg]; rfl, ?_, (fun _ _ _ _ _ _ _ q => nomatch q), fun a9 hs9 k9 v9 nx9 bf9 af9 e1 e2 => ?_, fun q q1 q2 _ q4 => by rw [hup_ne (fun e => q4 (by rw [e])), hup_ne q1, gq q q2], by rw [hup_ne (Ne.symm a2), hup_ne xm]; exact gx⟩
      · rw [hup_ne (Ne.symm am), if_pos rfl, if_neg (by simp)]; exact hup_at
      · cases e1
        rw [hup_at, ndi eA e2]
        rfl
  | some b =>
    obtain ⟨b1, b2, hs', k', v', nx', bf', af', eB⟩ := hB b rfl
    have bm : b ≠ m := cl_ne eB eM (by decide)
    rw [if_neg (by simp), l_P (by rw [gq b b2]; exact eB) b1 (by (show 5 < 6; omega))]
    dsimp only
    cases af with
    | none =>
      rw [if_pos rfl, l_P (by rw [hup_ne (Ne.symm bm)]; exact gM) hm (by (show 9 < 12; omega))]
      refine ⟨_, rfl, by rw [hg]; rfl, by rw [hg]; rfl, ?_, fun a9 hs9 k9 v9 nx9 bf9 af9 e1 e2 => ?_, (fun _ _ _ _ _ _ _ q => nomatch q), fun q q1 q2 q3 _ => by rw [hup_ne q1, hup_ne (fun e => q3 (by rw [e])), gq q q2], by rw [hup_ne xm, hup_ne (Ne.symm b2)]; exact gx⟩
      · rw [if_neg (by simp), if_pos rfl]; exact hup_at
      · cases e1
        rw [hup_ne bm, hup_at, ndi eB e2]
        rfl
    | some a =>
      obtain ⟨a1, a2, hs2, k2, v2, nx2, bf2, af2, eA⟩ := hA a rfl
      have am : a ≠ m := cl_ne eA eM (by decide)
      have ab : a ≠ b := fun e => hAB b rfl (by rw [e])
      rw [if_neg (by simp), l_P (by rw [hup_ne ab, gq a a2]; exact eA) a1 (by (show 4 < 6; omega))]
      refine ⟨_, rfl, by rw [hg]; rfl, by rw [hg]; rfl, ?_, fun a9 hs9 k9 v9 nx9 bf9 af9 e1 e2 => ?_, fun a9 hs9 k9 v9 nx9 bf9 af9 e1 e2 => ?_, fun q q1 q2 q3 q4 => by rw [hup_ne (fun e => q4 (by rw [e])), hup_ne (fun e => q3 (by rw [e])), gq q q2], by rw [hup_ne (Ne.symm a2), hup_ne (Ne.symm b2)]; exact gx⟩
      · rw [hup_ne (Ne.symm am), hup_ne (Ne.symm bm), if_neg (by simp), if_neg (by simp)]; exact gM
      · cases e1
        rw [hup_ne (Ne.symm ab), hup_at, ndi eB e2]
        rfl
      · cases e1
        rw [hup_at, ndi eA e2]
        rfl
end Q1
