section GS
variable {α : Type} {G : GG} {l : Launch} {X : CTX} {M : MI} {cv : α → Option Value} {r : α ⊕ Nat} {hf : Hp} {pc : Nat} {lv : List (Nat × GV)} {st : List GV} {h : Hp} {o : Out α}
/-! names, joins, loops -/
def gLet {β : Type} (x : β) (k : β → Out α) : Out α := k x
theorem g_leti {e : Int32} {k : Int32 → Out α} (hk : ∀ v, gT G l X M cv r hf pc lv (gi v :: st) h (k v)) : gT G l X M cv r hf pc lv (gi e :: st) h (gLet e k) := hk e
theorem g_letl {e : Int64} {k : Int64 → Out α} (hk : ∀ v, gT G l X M cv r hf pc lv (gl v :: st) h (k v)) : gT G l X M cv r hf pc lv (gl e :: st) h (gLet e k) := hk e
theorem g_letf {e : UInt32} {k : UInt32 → Out α} (hk : ∀ v, gT G l X M cv r hf pc lv (gf v :: st) h (k v)) : gT G l X M cv r hf pc lv (gf e :: st) h (gLet e k) := hk e
theorem g_letd {e : UInt64} {k : UInt64 → Out α} (hk : ∀ v, gT G l X M cv r hf pc lv (gd v :: st) h (k v)) : gT G l X M cv r hf pc lv (gd e :: st) h (gLet e k) := hk e
theorem g_letr {e : Option Nat} {k : Option Nat → Out α} (hk : ∀ v, gT G l X M cv r hf pc lv (gr v :: st) h (k v)) : gT G l X M cv r hf pc lv (gr e :: st) h (gLet e k) := hk e
def gJ {γ : Type} (F : γ → Hp → Out α) (k : (γ → Hp → Out α) → Out α) : Out α := k F
theorem g_join {γ : Type} {F : γ → Hp → Out α} {k : (γ → Hp → Out α) → Out α} (pcj : Nat) (lvj : γ → List (Nat × GV)) (stj : γ → List GV) (hF : ∀ x h, gT G l X M cv r hf pcj (lvj x) (stj x) h (F x h))
    (hk : ∀ j : γ → Hp → Out α, (∀ x h, gT G l X M cv r hf pcj (lvj x) (stj x) h (j x h)) → gT G l X M cv r hf pc lv st h (k j)) : gT G l X M cv r hf pc lv st h (gJ F k) := hk F hF
def gLp {γ : Type} (B : (γ → Hp → Out α) → γ → Hp → Out α) : Nat → γ → Hp → Out α
  | 0, _, _ => none
  | n + 1, x, h => B (gLp B n) x h
theorem g_loop {γ : Type} {B : (γ → Hp → Out α) → γ → Hp → Out α} (lvh : γ → List (Nat × GV)) (sth : γ → List GV)
    (hB : ∀ self : γ → Hp → Out α, (∀ x h, gT G l X M cv r hf pc (lvh x) (sth x) h (self x h)) → ∀ x h, gT G l X M cv r hf pc (lvh x) (sth x) h (B self x h)) :
    ∀ (n : Nat) (x : γ) (h : Hp), gT G l X M cv r hf pc (lvh x) (sth x) h (gLp B n x h)
  | 0, _, _ => fun ho => nomatch ho
  | n + 1, x, h => hB (gLp B n) (fun x h => g_loop lvh sth hB n x h) x h
theorem g_none : gT G l X M cv r hf pc lv st h (none : Out α) := fun ho => nomatch ho
/-! a method's end -/
theorem g_ret_of {v : α} (hW : Cx G l X M → ∀ (R : Room) (H : Heap) (locs : List Loc) (cells slots : Nat) (ls : Array Slot) (Qc : Array Value → State → Outcome → State → Prop), (∀ t : State, t.heap = H → (xS X).WarmedH t.vm → Qc (xA X) (xS X) (.returned (cv v)) t) → (∀ q ∈ locs, gOwn G q.base) →
      W X.1 l X.2.1 R (xS X) (xM X) (xA X) (xB X) (xT X) (xC X) H locs cells slots (MQ (xB X) Qc (xA X) (xS X) cells slots (gOwn G)) (F0 (xM X) pc ls (gVs st))) : gT G l X M cv r hf pc lv st h (some (.inl v, h)) := by
  intro ho
  obtain ⟨e1, e2⟩ := Prod.mk.inj (Option.some.inj ho)
  subst e1
  subst e2
  refine ⟨g_le.rf, fun K h0 H locs ls a b c => ?_⟩
  refine gW.mono ?_ (hW K _ H locs _ _ ls (fun _ st o t => HR G h t.heap ∧ va_F (gOwn G) st t ∧ o = .returned (cv v)) (fun t ht hw => ⟨by rw [ht]; exact a, b.F ht, rfl⟩) b.2.2)
  rintro t ⟨o, b1, b2, ⟨c1, c2, c3⟩, L, ⟨-, c4, c5⟩, c6⟩
  exact ⟨o, b1, b2, c1, c2, c4, ⟨L, c5, c6⟩, c3⟩
theorem g_ireturn {r : Int32 ⊕ Nat} {v : Int32} (hr : mR M = some .int) (d : decode (mC M) pc = .ok (.ireturn, 1)) : gT G l X M cvI r hf pc lv [gi v] h (some (.inl v, h)) :=
  g_ret_of (fun K _ _ _ _ _ _ _ hq hf => W.iret K.1 K.2.1 (by rw [K.2.2.2.2.2.2.2.2.1]; exact hr) hq hf d K.2.2.2.2.2.2.1)
theorem g_lreturn {r : Int64 ⊕ Nat} {v : Int64} (hr : mR M = some .long) (d : decode (mC M) pc = .ok (.lreturn, 1)) : gT G l X M cvL r hf pc lv [gl v] h (some (.inl v, h)) :=
  g_ret_of (fun K _ _ _ _ _ _ _ hq hf => W.lret K.1 K.2.1 (by rw [K.2.2.2.2.2.2.2.2.1]; exact hr) hq hf d K.2.2.2.2.2.2.1)
theorem g_freturn {r : UInt32 ⊕ Nat} {v : UInt32} (hr : mR M = some .float) (d : decode (mC M) pc = .ok (.freturn, 1)) : gT G l X M cvF r hf pc lv [gf v] h (some (.inl v, h)) :=
  g_ret_of (fun K _ _ _ _ _ _ _ hq hf => W.fret K.1 K.2.1 (by rw [K.2.2.2.2.2.2.2.2.1]; exact hr) hq hf d K.2.2.2.2.2.2.1)
theorem g_dreturn {r : UInt64 ⊕ Nat} {v : UInt64} (hr : mR M = some .double) (d : decode (mC M) pc = .ok (.dreturn, 1)) : gT G l X M cvD r hf pc lv [gd v] h (some (.inl v, h)) :=
  g_ret_of (fun K _ _ _ _ _ _ _ hq hf => W.dret K.1 K.2.1 (by rw [K.2.2.2.2.2.2.2.2.1]; exact hr) hq hf d K.2.2.2.2.2.2.1)
theorem g_return {r : Unit ⊕ Nat} (hr : mR M = none) (d : decode (mC M) pc = .ok (.return_, 1)) : gT G l X M cvU r hf pc lv [] h (some (.inl (), h)) :=
  g_ret_of (fun K _ _ _ _ _ _ _ hq hf => W.vret K.1 K.2.1 (by rw [K.2.2.2.2.2.2.2.2.1]; exact hr) hq hf d K.2.2.2.2.2.2.1)
theorem g_rf2 (x : Option Nat) : va_rf x = .null ∨ ∃ a, va_rf x = .ref a := by
  cases x with
  | none => exact Or.inl rfl
  | some a => exact Or.inr ⟨a, rfl⟩
theorem g_areturn {r : (Option Nat) ⊕ Nat} {v : Option Nat} {rt : FieldType} (hr : mR M = some rt) (hrt : (∃ n, rt = .object n) ∨ ∃ t, rt = .array t) (d : decode (mC M) pc = .ok (.areturn, 1)) : gT G l X M cvR r hf pc lv [gr v] h (some (.inl v, h)) :=
  g_ret_of (fun K _ _ _ _ _ _ _ hq hf => W.aret K.1 K.2.1 (by rw [K.2.2.2.2.2.2.2.2.1]; exact hr) hrt (g_rf2 v) hq hf d K.2.2.2.2.2.2.1)
/-- booleans, bytes and chars that are what they should be -/
def gOkZ (x : Int32) : Bool := decide (x = 0) || decide (x = 1)
def gOkB (x : Int32) : Bool := decide (x.toInt8.toInt32 = x)
def gOkC (x : Int32) : Bool := decide (x.toUInt32.toUInt16.toUInt32.toInt32 = x)
theorem gOkZ_n {x : Int32} (hx : gOkZ x = true) : narrow .boolean (.int x) = .int x ∧ fits .boolean (.int x) = true := by
  simp only [gOkZ, Bool.or_eq_true, decide_eq_true_eq] at hx
  rcases hx with rfl | rfl
  · exact ⟨by decide, by decide⟩
  · exact ⟨by decide, by decide⟩
theorem gOkB_n {x : Int32} (hx : gOkB x = true) : narrow .byte (.int x) = .int x ∧ fits .byte (.int x) = true := by
  simp only [gOkB, decide_eq_true_eq] at hx
  have h1 := pk_nb x
  have h2 := pk_fb x
  rw [hx] at h1 h2
  exact ⟨h1, h2⟩
theorem gOkC_n {x : Int32} (hx : gOkC x = true) : narrow .char (.int x) = .int x := by
  simp only [gOkC, decide_eq_true_eq] at hx
  show Value.int _ = _
  exact congrArg Value.int hx
def gRtZ (x : Int32) (h : Hp) : Out Int32 := if gOkZ x = true then some (.inl x, h) else none
def gRtB (x : Int32) (h : Hp) : Out Int32 := if gOkB x = true then some (.inl x, h) else none
def gRtC (x : Int32) (h : Hp) : Out Int32 := if gOkC x = true then some (.inl x, h) else none
theorem g_zreturn {r : Int32 ⊕ Nat} {v : Int32} (hr : mR M = some .boolean) (d : decode (mC M) pc = .ok (.ireturn, 1)) : gT G l X M cvI r hf pc lv [gi v] h (gRtZ v h) := by
  unfold gRtZ
  split
  · rename_i hx
    exact g_ret_of (fun K _ _ _ _ _ _ _ hq hf => W.zret K.1 K.2.1 (by rw [K.2.2.2.2.2.2.2.2.1]; exact hr) (gOkZ_n hx).1 hq hf d K.2.2.2.2.2.2.1)
  · exact g_none
theorem g_breturn {r : Int32 ⊕ Nat} {v : Int32} (hr : mR M = some .byte) (d : decode (mC M) pc = .ok (.ireturn, 1)) : gT G l X M cvI r hf pc lv [gi v] h (gRtB v h) := by
  unfold gRtB
  split
  · rename_i hx
    exact g_ret_of (fun K _ _ _ _ _ _ _ hq hf => W.zret K.1 K.2.1 (by rw [K.2.2.2.2.2.2.2.2.1]; exact hr) (gOkB_n hx).1 hq hf d K.2.2.2.2.2.2.1)
  · exact g_none
theorem g_creturn {r : Int32 ⊕ Nat} {v : Int32} (hr : mR M = some .char) (d : decode (mC M) pc = .ok (.ireturn, 1)) : gT G l X M cvI r hf pc lv [gi v] h (gRtC v h) := by
  unfold gRtC
  split
  · rename_i hx
    exact g_ret_of (fun K _ _ _ _ _ _ _ hq hf => W.zret K.1 K.2.1 (by rw [K.2.2.2.2.2.2.2.2.1]; exact hr) (gOkC_n hx) hq hf d K.2.2.2.2.2.2.1)
  · exact g_none
/-! what leaves the method -/
theorem g_out {q : Nat} (hout : ∀ x ∈ tableOf (mX M), covers x pc = false) : gTx G l X M cv r hf pc lv q h (some (.inr q, h)) := by
  intro ho
  obtain ⟨e1, e2⟩ := Prod.mk.inj (Option.some.inj ho)
  subst e1
  subst e2
  refine ⟨g_le.rf, fun K h0 hq H locs ls st a b c hc => ?_⟩
  intro T hT Y
  obtain ⟨st1, hrun, hend, hW, hsm⟩ := Y.leaveThrown q (g := F0 (xM X) pc ls st) rfl rfl rfl (fun x hx => hout x (by rw [← K.2.2.2.2.2.2.2.2.2.1]; exact hx)) K.2.2.2.2.2.2.1
  refine ⟨_, st1, .threw q, hrun, hend, ?_, b.F (show (T.setFrames _).heap = H from hT), hW, ⟨locs, hsm, b.2.2⟩, rfl, hq, hc⟩
  show HR G h T.heap
  rw [hT]
  exact a
def gThr (G : GG) (x : Option Nat) (h : Hp) : Out α := match x with
  | none => none
  | some q => if G.1 ≤ q then (match h.2.2 q with
    | some (.inr _) => some (.inr q, h)
    | _ => none) else none
theorem g_athrow {x : Option Nat} (hout : ∀ x ∈ tableOf (mX M), covers x pc = false) (d : decode (mC M) pc = .ok (.athrow, 1)) : gT G l X M cv r hf pc lv (gr x :: st) h (gThr G x h) := by
  cases x with
  | none => exact g_none
  | some q =>
    unfold gThr
    dsimp only
    split
    · rename_i hq
      split
      · rename_i o he
        intro ho
        obtain ⟨h1, h2⟩ := g_out (G := G) (l := l) (X := X) (M := M) (cv := cv) (r := r) (hf := hf) (lv := lv) (q := q) (h := h) hout ho
        exact ⟨h1, fun K h0 H locs ls a b c => vx_athrow K.1 K.2.1 d (h2 K h0 hq H locs ls _ a b c ⟨o.1, o.2, he⟩)⟩
      · exact g_none
    · exact g_none
end GS
