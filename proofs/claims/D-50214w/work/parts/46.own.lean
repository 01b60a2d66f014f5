/-! who owns a cell; what a step leaves as it was -/
set_option maxRecDepth 100000
set_option maxHeartbeats 1000000
/-- a loop, by an invariant -/
theorem lp_r {α γ : Type} {B : (γ → Hp → Out α) → γ → Hp → Out α} {N n : Nat} (I : Nat → γ → Hp → Prop) {x0 : γ} {h0 : Hp} (hN : n < N) (h1 : I 0 x0 h0) (hs : ∀ k x h, k < n → I k x h → ∀ self, ∃ x' h', I (k + 1) x' h' ∧ B self x h = self x' h') : ∃ x h, I n x h ∧ ∃ self, gLp B N x0 h0 = B self x h := by
  have key : ∀ d k m x h, k + d = n → d < m → I k x h → ∃ x' h', I n x' h' ∧ ∃ self, gLp B m x h = B self x' h' := by
    intro d
    induction d with
    | zero =>
      intro k m x h hk hm hI
      obtain ⟨m', rfl⟩ : ∃ m', m = m' + 1 := ⟨m - 1, by omega⟩
      have : k = n := by omega
      subst this
      exact ⟨x, h, hI, gLp B m', rfl⟩
    | succ d ih =>
      intro k m x h hk hm hI
      obtain ⟨m', rfl⟩ : ∃ m', m = m' + 1 := ⟨m - 1, by omega⟩
      obtain ⟨x', h', e1, e2⟩ := hs k x h (by omega) hI (gLp B m')
      obtain ⟨x2, h2, e3, self, e4⟩ := ih (k + 1) m' x' h' (by omega) (by omega) e1
      exact ⟨x2, h2, e3, self, by rw [← e4]; exact e2⟩
  exact key n 0 N x0 h0 (by omega) hN h1
/-- a view of a map: its cell never changes -/
def VwO (h : Hp) (w : Nat → Nat) (m ci : Nat) (v : Option Nat) : Prop := ∀ a, v = some a → a < h.1 ∧ w a = 0 ∧ h.2.2 a = some (.inr (ci, [.int 0, .ref m]))
/-- harmless: sums that are laid; the views that a map keeps -/
def HL (w : Nat → Nat) (h h' : Hp) (q : Nat) : Prop := (w q = 1 ∧ ∃ f g : Nat → Int32, h.2.2 q = some (.inl (0, 8, .inl f)) ∧ h'.2.2 q = some (.inl (0, 8, .inl g))) ∨
  ∃ (tab ve : Option Nat) (sz mc th : Int32) (lf : UInt32) (vk vv hd tl ve' vk' vv' : Option Nat), h.2.2 q = some (MC tab ve sz mc th lf vk vv hd tl) ∧ h'.2.2 q = some (MC tab ve' sz mc th lf vk' vv' hd tl) ∧ (VwO h w q 29 ve → VwO h w q 31 vk → VwO h w q 33 vv → VwO h' w q 29 ve' ∧ VwO h' w q 31 vk' ∧ VwO h' w q 33 vv')
/-- from h, w to h', w': cells of tags outside S are as they were, but for what is harmless; what it costs -/
def Tr (S : Nat → Prop) (c : Nat) (h : Hp) (w : Nat → Nat) (h' : Hp) (w' : Nat → Nat) : Prop := h.1 ≤ h'.1 ∧ h'.1 ≤ h.1 + c ∧ h'.2.1 ≤ h.2.1 + 4 * c ∧ (∀ q, q < h.1 → w' q = w q) ∧ ∀ q, q < h.1 → ¬ S (w q) → h'.2.2 q = h.2.2 q ∨ HL w' h h' q
/-- the new ones are of tag t -/
def nw (w : Nat → Nat) (n t : Nat) : Nat → Nat := fun q => if q < n then w q else t
theorem nw_lt {w : Nat → Nat} {n t q : Nat} (h : q < n) : nw w n t q = w q := if_pos h
theorem nw_ge {w : Nat → Nat} {n t q : Nat} (h : n ≤ q) : nw w n t q = t := if_neg (by omega)
theorem Tr.refl {S : Nat → Prop} {c : Nat} {h : Hp} {w : Nat → Nat} : Tr S c h w h w := ⟨Nat.le_refl _, by omega, by omega, fun _ _ => rfl, fun _ _ _ => Or.inl rfl⟩
theorem VwO.same {h h' : Hp} {w w' : Nat → Nat} {m ci : Nat} {v : Option Nat} (V : VwO h w m ci v) (h1 : h.1 ≤ h'.1) (h2 : ∀ q, q < h.1 → w' q = w q) (h3 : ∀ a, v = some a → h'.2.2 a = h.2.2 a) : VwO h' w' m ci v := fun a ha => by
  obtain ⟨p1, p2, p3⟩ := V a ha
  exact ⟨by omega, by rw [h2 a p1]; exact p2, by rw [h3 a ha]; exact p3⟩
/-- what is of tag 0 (or any outside S) and no map and no sums is as it was -/
theorem Tr.cell {S : Nat → Prop} {c : Nat} {h h' : Hp} {w w' : Nat → Nat} (T : Tr S c h w h' w') {q : Nat} (hq : q < h.1) (hS : ¬ S (w q)) {e : GC} (he : h.2.2 q = some e) (h1 : w q ≠ 1 ∨ ∀ f, e ≠ .inl (0, 8, .inl f)) (h2 : ∀ fs, e ≠ .inr (26, fs)) : h'.2.2 q = some e := by
  obtain ⟨t1, t2, t3, t4, t5⟩ := T
  rcases t5 q hq hS with e1 | ⟨e1, f, g, e2, e3⟩ | ⟨tab, ve, sz, mc, th, lf, vk, vv, hd, tl, ve', vk', vv', e2, e3, -⟩
  · rw [e1, he]
  · rw [t4 q hq] at e1
    rw [he] at e2
    rcases h1 with h1 | h1
    · exact absurd e1 h1
    · exact absurd (Option.some.inj e2) (h1 f)
  · rw [he] at e2
    exact absurd (Option.some.inj e2) (h2 _)
theorem VwO.keep {S : Nat → Prop} {c : Nat} {h h' : Hp} {w w' : Nat → Nat} {m ci : Nat} {v : Option Nat} (V : VwO h w m ci v) (T : Tr S c h w h' w') (h0 : ¬ S 0) (hc : ci ≠ 26) : VwO h' w' m ci v := fun a ha => by
  obtain ⟨p1, p2, p3⟩ := V a ha
  refine ⟨by have := T.1; omega, by rw [T.2.2.2.1 a p1]; exact p2, T.cell p1 (by rw [p2]; exact h0) p3 (Or.inl (by rw [p2]; decide)) (fun fs q => ?_)⟩
  injection q with q
  exact hc (Prod.mk.inj q).1
/-- a map's cell: the same but for the views -/
theorem Tr.map {S : Nat → Prop} {c : Nat} {h h' : Hp} {w w' : Nat → Nat} (T : Tr S c h w h' w') {q : Nat} (hq : q < h.1) (hS : ¬ S (w q)) (h0 : ¬ S 0) {tab ve : Option Nat} {sz mc th : Int32} {lf : UInt32} {vk vv hd tl : Option Nat} (he : h.2.2 q = some (MC tab ve sz mc th lf vk vv hd tl)) (V1 : VwO h w q 29 ve) (V2 : VwO h w q 31 vk) (V3 : VwO h w q 33 vv) : ∃ ve' vk' vv', h'.2.2 q = some (MC tab ve' sz mc th lf vk' vv' hd tl) ∧ VwO h' w' q 29 ve' ∧ VwO h' w' q 31 vk' ∧ VwO h' w' q 33 vv' := by
  have T' := T
  obtain ⟨t1, t2, t3, t4, t5⟩ := T
  rcases t5 q hq hS with e1 | ⟨e1, f, g, e2, e3⟩ | ⟨tab', ve0, sz', mc', th', lf', vk0, vv0, hd', tl', ve', vk', vv', e2, e3, V⟩
  · exact ⟨ve, vk, vv, by rw [e1, he], V1.keep T' h0 (by decide), V2.keep T' h0 (by decide), V3.keep T' h0 (by decide)⟩
  · rw [he] at e2
    exact absurd (Option.some.inj e2) (by simp)
  · rw [he] at e2
    have W : ∀ ci v, VwO h w q ci v → VwO h w' q ci v := fun ci v V a ha => by
      obtain ⟨p1, p2, p3⟩ := V a ha
      exact ⟨p1, by rw [t4 a p1]; exact p2, p3⟩
    have e4 : MC tab ve sz mc th lf vk vv hd tl = MC tab' ve0 sz' mc' th' lf' vk0 vv0 hd' tl' := Option.some.inj e2
    have inj : ∀ a b : Option Nat, va_rf a = va_rf b → a = b := fun a b hab => by
      cases a <;> cases b <;> simp_all [va_rf]
    injection e4 with e4
    have e5 := (Prod.mk.inj e4).2
    simp only [List.cons.injEq, Value.int.injEq, Value.float.injEq, and_true, true_and] at e5
    obtain ⟨a1, a2, a3, a4, a5, a6, a7, a8, a9, a10⟩ := e5
    cases inj _ _ a2
    cases inj _ _ a7
    cases inj _ _ a8
    obtain ⟨v1, v2, v3⟩ := V (W _ _ V1) (W _ _ V2) (W _ _ V3)
    refine ⟨ve', vk', vv', ?_, v1, v2, v3⟩
    rw [e3, inj _ _ a1, a3, a4, a5, a6, inj _ _ a9, inj _ _ a10]
theorem Tr.mono {S S' : Nat → Prop} {c c' : Nat} {h h' : Hp} {w w' : Nat → Nat} (T : Tr S c h w h' w') (hS : ∀ t, S t → S' t) (hc : c ≤ c') : Tr S' c' h w h' w' := ⟨T.1, by have := T.2.1; omega, by have := T.2.2.1; omega, T.2.2.2.1, fun q h1 h2 => T.2.2.2.2 q h1 (fun h3 => h2 (hS _ h3))⟩
theorem Tr.trans {S : Nat → Prop} {c c' : Nat} {h h1 h2 : Hp} {w w1 w2 : Nat → Nat} (T : Tr S c h w h1 w1) (T' : Tr S c' h1 w1 h2 w2) (h0 : ¬ S 0) : Tr S (c + c') h w h2 w2 := by
  refine ⟨Nat.le_trans T.1 T'.1, by have := T.2.1; have := T'.2.1; omega, by have := T.2.2.1; have := T'.2.2.1; omega, fun q hq => ?_, fun q hq hS => ?_⟩
  · rw [T'.2.2.2.1 q (by have := T.1; omega), T.2.2.2.1 q hq]
  have hq1 : q < h1.1 := by have := T.1; omega
  have hw1 : w1 q = w q := T.2.2.2.1 q hq
  have hw2 : w2 q = w1 q := T'.2.2.2.1 q hq1
  have hS1 : ¬ S (w1 q) := by rw [hw1]; exact hS
  rcases T.2.2.2.2 q hq hS with e1 | ⟨e1, f, g, e2, e3⟩ | ⟨tab, ve, sz, mc, th, lf, vk, vv, hd, tl, ve', vk', vv', e2, e3, V⟩
  · rcases T'.2.2.2.2 q hq1 hS1 with e4 | ⟨e4, f, g, e5, e6⟩ | ⟨tab, ve, sz, mc, th, lf, vk, vv, hd, tl, ve', vk', vv', e5, e6, V⟩
    · exact Or.inl (by rw [e4, e1])
    · exact Or.inr (Or.inl ⟨e4, f, g, by rw [← e1]; exact e5, e6⟩)
    · refine Or.inr (Or.inr ⟨tab, ve, sz, mc, th, lf, vk, vv, hd, tl, ve', vk', vv', by rw [← e1]; exact e5, e6, fun V1 V2 V3 => ?_⟩)
      have W : ∀ ci v, ci ≠ 26 → VwO h w2 q ci v → VwO h1 w2 q ci v := fun ci v hc V a ha => by
        obtain ⟨p1, p2, p3⟩ := V a ha
        have p1' : a < h1.1 := by have := T.1; omega
        have p4 : w a = 0 := by rw [← T.2.2.2.1 a p1, ← T'.2.2.2.1 a p1']; exact p2
        refine ⟨p1', p2, T.cell p1 (by rw [p4]; exact h0) p3 (Or.inl (by rw [p4]; decide)) (fun fs q => ?_)⟩
        injection q with q
        exact hc (Prod.mk.inj q).1
      exact V (W _ _ (by decide) V1) (W _ _ (by decide) V2) (W _ _ (by decide) V3)
  · rcases T'.2.2.2.2 q hq1 hS1 with e4 | ⟨e4, f', g', e5, e6⟩ | ⟨tab, ve, sz, mc, th, lf, vk, vv, hd, tl, ve', vk', vv', e5, e6, V⟩
    · exact Or.inr (Or.inl ⟨by rw [hw2]; exact e1, f, g, e2, by rw [e4]; exact e3⟩)
    · exact Or.inr (Or.inl ⟨e4, f, g', e2, e6⟩)
    · rw [e3] at e5
      exact absurd (Option.some.inj e5) (by simp)
  · have W1 : ∀ ci v, VwO h w2 q ci v → VwO h w1 q ci v := fun ci v V a ha => by
      obtain ⟨p1, p2, p3⟩ := V a ha
      exact ⟨p1, by rw [← T'.2.2.2.1 a (by have := T.1; omega)]; exact p2, p3⟩
    have cut : ∀ (V1 : VwO h w2 q 29 ve) (V2 : VwO h w2 q 31 vk) (V3 : VwO h w2 q 33 vv), ∃ ve2 vk2 vv2, h2.2.2 q = some (MC tab ve2 sz mc th lf vk2 vv2 hd tl) ∧ VwO h2 w2 q 29 ve2 ∧ VwO h2 w2 q 31 vk2 ∧ VwO h2 w2 q 33 vv2 := fun V1 V2 V3 => by
      obtain ⟨v1, v2, v3⟩ := V (W1 _ _ V1) (W1 _ _ V2) (W1 _ _ V3)
      exact T'.map hq1 hS1 h0 e3 v1 v2 v3
    rcases T'.2.2.2.2 q hq1 hS1 with e4 | ⟨e4, f', g', e5, e6⟩ | ⟨tab9, ve9, sz9, mc9, th9, lf9, vk9, vv9, hd9, tl9, ve2, vk2, vv2, e5, e6, V'⟩
    · refine Or.inr (Or.inr ⟨tab, ve, sz, mc, th, lf, vk, vv, hd, tl, ve', vk', vv', e2, by rw [e4]; exact e3, fun V1 V2 V3 => ?_⟩)
      obtain ⟨v1, v2, v3⟩ := V (W1 _ _ V1) (W1 _ _ V2) (W1 _ _ V3)
      exact ⟨v1.keep T' h0 (by decide), v2.keep T' h0 (by decide), v3.keep T' h0 (by decide)⟩
    · rw [e3] at e5
      exact absurd (Option.some.inj e5) (by simp)
    · rw [e3] at e5
      have inj : ∀ a b : Option Nat, va_rf a = va_rf b → a = b := fun a b hab => by
        cases a <;> cases b <;> simp_all [va_rf]
      have e7 : MC tab ve' sz mc th lf vk' vv' hd tl = MC tab9 ve9 sz9 mc9 th9 lf9 vk9 vv9 hd9 tl9 := Option.some.inj e5
      injection e7 with e7
      have e8 := (Prod.mk.inj e7).2
      simp only [List.cons.injEq, Value.int.injEq, Value.float.injEq, and_true, true_and] at e8
      obtain ⟨a1, a2, a3, a4, a5, a6, a7, a8, a9, a10⟩ := e8
      cases inj _ _ a1
      cases inj _ _ a2
      cases inj _ _ a7
      cases inj _ _ a8
      cases inj _ _ a9
      cases inj _ _ a10
      subst a3 a4 a5 a6
      refine Or.inr (Or.inr ⟨tab, ve, sz, mc, th, lf, vk, vv, hd, tl, ve2, vk2, vv2, e2, e6, fun V1 V2 V3 => ?_⟩)
      obtain ⟨v1, v2, v3⟩ := V (W1 _ _ V1) (W1 _ _ V2) (W1 _ _ V3)
      have W2 : ∀ ci v, VwO h1 w1 q ci v → VwO h1 w2 q ci v := fun ci v V a ha => by
        obtain ⟨p1, p2, p3⟩ := V a ha
        exact ⟨p1, by rw [T'.2.2.2.1 a p1]; exact p2, p3⟩
      exact V' (W2 _ _ v1) (W2 _ _ v2) (W2 _ _ v3)
/-- owned by t -/
def Ow (b : Nat) (h : Hp) (w : Nat → Nat) (t q : Nat) : Prop := b ≤ q ∧ q < h.1 ∧ w q = t
theorem Ow.keep {S : Nat → Prop} {b c t q : Nat} {h h' : Hp} {w w' : Nat → Nat} (O : Ow b h w t q) (T : Tr S c h w h' w') : Ow b h' w' t q := ⟨O.1, by have := T.1; have := O.2.1; omega, by rw [T.2.2.2.1 q O.2.1]; exact O.2.2⟩
/-- never changed -/
def Im (h : Hp) (w : Nat → Nat) (q : Nat) : Prop := q < h.1 ∧ w q = 0
theorem Im.keep {S : Nat → Prop} {c q : Nat} {h h' : Hp} {w w' : Nat → Nat} (O : Im h w q) (T : Tr S c h w h' w') : Im h' w' q := ⟨by have := T.1; have := O.1; omega, by rw [T.2.2.2.1 q O.1]; exact O.2⟩
/-- the map, with whose it is -/
def MX (b : Nat) (h : Hp) (w : Nat → Nat) (t : Nat) (z : Bool) (m n : Nat) (es : List En) (tab : Option Nat) (sz mc th : Int32) (lf : UInt32) (ve vk vv : Option Nat) (kk : Nat) : Prop :=
  n = 2 ^ kk ∧ 4 ≤ kk ∧ kk ≤ 8 ∧ h.2.2 m = some (MC tab ve sz mc th lf vk vv (adr es).head? (adr es).getLast?) ∧ VwO h w m 29 ve ∧ VwO h w m 31 vk ∧ VwO h w m 33 vv ∧
  ((∃ a f, tab = some a ∧ Ow b h w t a ∧ th = nI (12 * 2 ^ (kk - 4)) ∧ h.2.2 a = some (.inl (8, n, .inr (.inr (.inr (.inr f))))) ∧ ∀ i, i < n → f i = (adr (chn n i es)).head?) ∨ (tab = none ∧ es = [] ∧ kk = 4 ∧ (th = 0 ∨ (th = 16 ∧ lf = 1061158912)))) ∧
  (∀ e, e ∈ es → EnAt h n es e ∧ KeyAt h z e.2.2.1 e.2.1 ∧ e.2.1 < 128 ∧ Ow b h w t e.1 ∧ Im h w e.2.2.1 ∧ Im h w e.2.2.2) ∧ (adr es).Nodup ∧ (es.map (fun e => e.2.1)).Nodup ∧ Ow b h w t m
def MR (b : Nat) (h : Hp) (w : Nat → Nat) (t : Nat) (z : Bool) (m n : Nat) (es : List En) : Prop := ∃ tab mc th lf ve vk vv kk, MX b h w t z m n es tab (nI es.length) mc th lf ve vk vv kk
theorem MR.lhm {b t m n : Nat} {h : Hp} {w : Nat → Nat} {z : Bool} {es : List En} (A : MR b h w t z m n es) : LHM h z m n es := by
  obtain ⟨tab, mc, th, lf, ve, vk, vv, kk, h1, h2, h3, h4, h5, h6, h7, h8, h9, h10, h11, h12⟩ := A
  refine ⟨tab, th, kk, h1, h2, h3, ⟨mc, lf, ve, vk, vv, h4, fun a ha => (h5 a ha).2.2, fun a ha => (h6 a ha).2.2, fun a ha => (h7 a ha).2.2⟩, ?_, fun e he => ⟨(h9 e he).1, (h9 e he).2.1, (h9 e he).2.2.1⟩, h10, h11⟩
  rcases h8 with ⟨a, f, e1, -, -, e2, e3⟩ | ⟨e1, e2, -⟩
  · exact Or.inl ⟨a, f, e1, e2, e3⟩
  · exact Or.inr ⟨e1, e2⟩
theorem keyAt_keep {S : Nat → Prop} {c k hs : Nat} {z : Bool} {h h' : Hp} {w w' : Nat → Nat} (K : KeyAt h z k hs) (I : Im h w k) (T : Tr S c h w h' w') (h0 : ¬ S 0) : KeyAt h' z k hs := by
  unfold KeyAt at K ⊢
  cases z with
  | true =>
    simp only [if_true] at K ⊢
    exact T.cell I.1 (by rw [I.2]; exact h0) K (Or.inl (by rw [I.2]; decide)) (fun fs q => by injection q with q; exact absurd (Prod.mk.inj q).1 (by decide))
  | false =>
    simp only [Bool.false_eq_true, if_false] at K ⊢
    exact T.cell I.1 (by rw [I.2]; exact h0) K (Or.inl (by rw [I.2]; decide)) (fun fs q => by injection q with q; exact absurd (Prod.mk.inj q).1 (by decide))
theorem MX.keep {S : Nat → Prop} {b c t m n kk : Nat} {h h' : Hp} {w w' : Nat → Nat} {z : Bool} {es : List En} {tab : Option Nat} {sz mc th : Int32} {lf : UInt32} {ve vk vv : Option Nat} (A : MX b h w t z m n es tab sz mc th lf ve vk vv kk) (T : Tr S c h w h' w') (ht : ¬ S t) (h0 : ¬ S 0) : ∃ ve' vk' vv', MX b h' w' t z m n es tab sz mc th lf ve' vk' vv' kk := by
  obtain ⟨h1, h2, h3, h4, h5, h6, h7, h8, h9, h10, h11, h12⟩ := A
  obtain ⟨ve', vk', vv', e1, e2, e3, e4⟩ := T.map h12.2.1 (by rw [h12.2.2]; exact ht) h0 h4 h5 h6 h7
  refine ⟨ve', vk', vv', h1, h2, h3, e1, e2, e3, e4, ?_, fun e he => ?_, h10, h11, h12.keep T⟩
  · rcases h8 with ⟨a, f, a1, a2, a3, a4, a5⟩ | h8
    · exact Or.inl ⟨a, f, a1, a2.keep T, a3, T.cell a2.2.1 (by rw [a2.2.2]; exact ht) a4 (Or.inr (fun f q => by injection q with q; exact absurd (Prod.mk.inj q).1 (by decide))) (fun fs q => nomatch q), a5⟩
    · exact Or.inr h8
  · obtain ⟨a1, a2, a3, a4, a5, a6⟩ := h9 e he
    exact ⟨T.cell a4.2.1 (by rw [a4.2.2]; exact ht) a1 (Or.inr (fun f q => nomatch q)) (fun fs q => by injection q with q; exact absurd (Prod.mk.inj q).1 (by decide)), keyAt_keep a2 a5 T h0, a3, a4.keep T, a5.keep T, a6.keep T⟩
theorem MR.keep {S : Nat → Prop} {b c t m n : Nat} {h h' : Hp} {w w' : Nat → Nat} {z : Bool} {es : List En} (A : MR b h w t z m n es) (T : Tr S c h w h' w') (ht : ¬ S t) (h0 : ¬ S 0) : MR b h' w' t z m n es := by
  obtain ⟨tab, mc, th, lf, ve, vk, vv, kk, A⟩ := A
  obtain ⟨ve', vk', vv', A'⟩ := A.keep T ht h0
  exact ⟨tab, mc, th, lf, ve', vk', vv', kk, A'⟩
