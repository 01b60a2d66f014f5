/-! CALLS -/
def gAft (G : GG) (h hc : Hp) (A B : Pt) : Prop := HR G hc B.U.heap ∧ A.U.heap.size ≤ B.U.heap.size ∧ (∀ q : Nat, q < A.U.heap.size → ¬ gOwn G q → B.U.heap[q]? = A.U.heap[q]?) ∧ ∃ L, B.locs = A.locs ++ L ∧ (∀ z ∈ L, gOwn G z.base) ∧ B.cells = A.cells + (hc.1 - h.1) ∧ B.slots = A.slots + (hc.2.1 - h.2.1)
abbrev gPre (G : GG) (vals : List GV) (h hc : Hp) (R : Room) : Pt → Array Value → Prop := fun A a => A.cells + (hc.1 - h.1) ≤ R.cells ∧ A.slots + (hc.2.1 - h.2.1) ≤ R.slots ∧ a = (gVs vals).toArray ∧ HR G h A.U.heap ∧ KK G A.U
abbrev gPo {β : Type} (G : GG) (h hc : Hp) (cvb : β → Option Value) (rc : β ⊕ Nat) : Pt → Array Value → Option Value → Pt → Prop := fun A _ v B => (∃ w, rc = .inl w ∧ v = cvb w) ∧ gAft G h hc A B
abbrev gPx {β : Type} (G : GG) (h hc : Hp) (rc : β ⊕ Nat) : Pt → Array Value → Addr → Pt → Prop := fun A _ q B => rc = .inr q ∧ gOwn G q ∧ (∃ (ci : Nat) (fs : List Value), hc.2.2 q = some (.inr (ci, fs))) ∧ gAft G h hc A B
set_option maxHeartbeats 4000000 in
/-- follows the kit's vx_back -/
theorem g_back {β : Type} {G : GG} {l : Launch} {y : MethodName} {ws : List Cond} {fr lo : Nat} {vals : List GV} {h hc : Hp} {cvb : β → Option Value} {rc : β ⊕ Nat} (hM : gMet G l y ws fr lo vals h cvb rc hc) {R : Room} {p : Program} {e : Env} {below : List Frame} {s : State} {sargs : Array Value} {len maxL : Nat}
    (hframes : fr + 1 ≤ R.frames) (hlocals : 8 + (maxL + 11) + lo ≤ R.locals) (hws : ∀ w ∈ ws, ∀ (a' : Array Value) (U : State), s.WarmedH U.vm → w.before a' U = true)
    (hcd : ∀ (a' : Array Value) (U : State) (mk : MethodId), s.WarmedH U.vm → U.methodNamed? y = some mk → ∃ (methY : Method) (cY : Code), U.vm.method? mk = some methY ∧ methY.code = some cY ∧ cY.maxLocals = maxL)
    (hinit : ∀ (a' : Array Value) (U : State), s.WarmedH U.vm → (Cond.initialized y.cls).before a' U = true) :
    vx_Back l R p e below s sargs y len 8 (gPre G vals h hc R) (gPo G h hc cvb rc) (gPx G h hc rc) := by
  intro m meth c A g ig mk a X hg hsize hdg hW hn hp
  have h1 : (headSpec ws { frames := fr, cells := hc.1 - h.1, slots := hc.2.1 - h.2.1, locals := lo }).pre.before a A.U = true := atoms_intro fun w hw => hws w hw _ _ X.warmed
  have h3 : (Cond.initialized y.cls).before a A.U = true := hinit _ _ X.warmed
  obtain ⟨h4, h5, ha, hHR0, hKK0⟩ := hp
  obtain ⟨methY, cY, hmY, hcY, hlY⟩ := hcd a A.U mk X.warmed hn
  obtain ⟨U, Ls, c0, s0⟩ := A
  dsimp only [Pt.U, Pt.locs, Pt.cells, Pt.slots] at h1 h3 h4 h5 X hn hHR0 hKK0 hmY ⊢
  obtain ⟨kY, hkY, -⟩ := className_of_methodNamed hn
  have hinitY : kY.init = .initialized := Cond.initialized_spec (findClass_of_methodNamed hn) hkY h3
  have h9 : At U g.method c below := by rw [hg]; exact X.here
  have happ : (headSpec ws { frames := fr, cells := hc.1 - h.1, slots := hc.2.1 - h.2.1, locals := lo }).appliesLoose y e.platform (U.calling g mk a) = true :=
    Spec.appliesLoose_calling (g := g) h9 hdg hn hkY hinitY
      (X.room_calling (g := g) (R' := { frames := fr, cells := hc.1 - h.1, slots := hc.2.1 - h.2.1, locals := lo }) hsize hmY hcY hframes (by rw [hlY]; show _ + _ + lo ≤ _; omega) h4 h5) h1
  obtain ⟨mid, hmid⟩ := h9.above
  have hfr : (U.setTop g).frames = (.java g :: mid) ++ below := by rw [State.frames_setTop' g h9.top, hmid]; rfl
  have hKK1 : KK G (U.calling g mk a) := KK.move (s := U) (State.WarmedH.refl U) (fun _ _ _ => rfl) hKK0
  obtain ⟨o, s₂, hsteps, -, hend, hq⟩ := Steps.callFree hM.2 p X.admits X.cas X.clock (acts := []) hfr happ (⟨ha, hHR0, hKK1⟩ : _ ∧ HR G h (U.calling g mk a).heap ∧ KK G (U.calling g mk a)) trivial
  have hq' : gQ G cvb rc hc (hc.1 - h.1) (hc.2.1 - h.2.1) (U.calling g mk a) o s₂ := hq
  rw [State.frames_setTop' g h9.top] at hend
  obtain ⟨g₀, hg0⟩ := Option.isSome_iff_exists.mp h9.top
  obtain ⟨r, hr⟩ := State.topJava?_eq_some.mp hg0
  have hr' : (({ U with heap := s₂.heap, slotsUsed := s₂.slotsUsed } : State).setVm s₂.vm).frames = .java g₀ :: r := hr
  obtain ⟨hHR, hF, hW₂, ⟨L, hsm, hL⟩, hrc⟩ := hq'
  have hF' : U.heap.size ≤ s₂.heap.size ∧ ∀ q : Nat, q < U.heap.size → ¬ gOwn G q → s₂.heap[q]? = U.heap[q]? := hF
  obtain ⟨e2, q2, q3, q4, q5, q6⟩ := id hsm
  have e3 : s₂ = ({ (U.calling g mk a).setFrames s₂.frames with heap := s₂.heap, slotsUsed := s₂.slotsUsed } : State).setVm s₂.vm := by
    have : s₂ = ({ s₂ with vm := (U.calling g mk a).vm } : State).setVm s₂.vm := rfl
    rw [e2] at this
    exact this
  have hW' : U.WarmedH s₂.vm := hW₂
  have hsame : U.sameButNew ({ U with heap := s₂.heap, slotsUsed := s₂.slotsUsed } : State) L (hc.1 - h.1) (hc.2.1 - h.2.1) := by
    refine ⟨?_, q2, q3, q4, q5, q6⟩
    obtain ⟨t, ht, -⟩ := State.frames_cons hr
    show ({ U with heap := s₂.heap, slotsUsed := s₂.slotsUsed } : State) = { U.setFrames U.frames with heap := s₂.heap, slotsUsed := s₂.slotsUsed }
    rw [State.setFrames_self ht]
  cases rc with
  | inl v =>
    have hrc : o = .returned (cvb v) := hrc
    subst hrc
    obtain ⟨c₂, i₂, len₂, hc₂, hd₂, hf₂⟩ := hend
    have hcc : c₂ = c := by
      have h1 : s₂.code? g.method = U.code? g.method := by
        rw [State.code?_eq, State.code?_eq, hW'.alike.method?]
      exact Option.some.inj (hc₂.symm.trans (h1.trans h9.code))
    subst hcc
    have hlen : len₂ = len := by rw [hdg] at hd₂; cases hd₂; rfl
    subst hlen
    have hs₂ : s₂ = (({ U with heap := s₂.heap, slotsUsed := s₂.slotsUsed } : State).setVm s₂.vm).setTop { g with pc := g.pc + len₂, stack := (cvb v).toList ++ g.stack } := by
      refine e3.trans ?_
      rw [hf₂, State.calling_eq h9.top, State.setFrames_setFrames, State.setTop_of_frames _ hr', hr]
      rfl
    subst hg
    refine Or.inl ⟨cvb v, ⟨(({ U with heap := s₂.heap, slotsUsed := s₂.slotsUsed } : State).setVm s₂.vm), Ls ++ L, c0 + (hc.1 - h.1), s0 + (hc.2.1 - h.2.1)⟩,
      ⟨X.admits, X.cas, X.clock, X.frames, X.room, X.hears, X.method, X.code, (X.here.setHeapUsed s₂.heap s₂.slotsUsed).setVm hW'.alike, X.tail, State.WarmedH.trans X.warmed hW', X.limits, X.bytes, X.same.trans (hsame.setVm s.vm)⟩,
      ⟨⟨v, rfl, rfl⟩, hHR, hF'.1, hF'.2, L, rfl, hL, rfl, rfl⟩, ?_⟩
    show Steps p.tables e below _ ((({ U with heap := s₂.heap, slotsUsed := s₂.slotsUsed } : State).setVm s₂.vm).setTop { g with pc := g.pc + len₂, stack := (cvb v).toList ++ g.stack })
    rw [← hs₂]
    exact hsteps
  | inr q =>
    obtain ⟨hrc, hq9, hcell⟩ := (hrc : o = .threw q ∧ gOwn G q ∧ ∃ (ci : Nat) (fs : List Value), hc.2.2 q = some (.inr (ci, fs)))
    subst hrc
    have hf₂ : s₂.frames = .throwing q :: .java g :: U.frames.tail := hend
    have hs₂ : s₂ = ((({ U with heap := s₂.heap, slotsUsed := s₂.slotsUsed } : State).setVm s₂.vm).setTop g).pushFrame (.throwing q) := by
      refine e3.trans ?_
      rw [hf₂, State.calling_eq h9.top, State.setFrames_setFrames, State.pushFrame, State.frames_setTop _ hr', State.setTop_of_frames _ hr', State.setFrames_setFrames, hr]
      rfl
    subst hg
    refine Or.inr ⟨q, ⟨(({ U with heap := s₂.heap, slotsUsed := s₂.slotsUsed } : State).setVm s₂.vm), Ls ++ L, c0 + (hc.1 - h.1), s0 + (hc.2.1 - h.2.1)⟩,
      ⟨X.admits, X.cas, X.clock, X.frames, X.room, X.hears, X.method, X.code, (X.here.setHeapUsed s₂.heap s₂.slotsUsed).setVm hW'.alike, X.tail, State.WarmedH.trans X.warmed hW', X.limits, X.bytes, X.same.trans (hsame.setVm s.vm)⟩,
      ⟨rfl, hq9, hcell, hHR, hF'.1, hF'.2, L, rfl, hL, rfl, rfl⟩, ?_⟩
    show Steps p.tables e below _ (((({ U with heap := s₂.heap, slotsUsed := s₂.slotsUsed } : State).setVm s₂.vm).setTop g).pushFrame (.throwing q))
    rw [← hs₂]
    exact hsteps
/-- what every word of a list that is good comes to, later on -/
theorem g_warm {s : State} {args : Array Value} (hts : ∀ w ∈ lw_all, w.before args s = true) {w : Cond} (hw : w ∈ lw_all) (a' : Array Value) (U : State) (hW : s.WarmedH U.vm) : w.before a' U = true :=
  pay_in hts lw_self w hw a' U hW
theorem g_warms {s : State} {args : Array Value} (hts : ∀ w ∈ lw_all, w.before args s = true) {c : Cond} (hc : c ∈ lw_all) {ws : List Cond} (hws : ws = c :: lw_all) : ∀ w ∈ ws, ∀ (a' : Array Value) (U : State), s.WarmedH U.vm → w.before a' U = true := by
  intro w hw a' U hW
  rw [hws] at hw
  rcases List.mem_cons.mp hw with e | e
  · rw [e]; exact g_warm hts hc a' U hW
  · exact g_warm hts e a' U hW
theorem g_hcd {s : State} {args : Array Value} {y : MethodName} {bytes : ByteArray} {maxL : Nat} {ret : Option FieldType} (hts : ∀ w ∈ lw_all, w.before args s = true) (hc : Cond.code y bytes maxL ret ∈ lw_all) (a' : Array Value) (U : State) (mk : MethodId) (hW : s.WarmedH U.vm) (hn : U.methodNamed? y = some mk) : ∃ (methY : Method) (cY : Code), U.vm.method? mk = some methY ∧ methY.code = some cY ∧ cY.maxLocals = maxL := by
  obtain ⟨methY, cY, hmY, hcY, -, hlY, -⟩ := Cond.code_spec hn (g_warm hts hc a' U hW)
  exact ⟨methY, cY, hmY, hcY, hlY⟩
theorem g_hcdX {s : State} {args : Array Value} {y : MethodName} {bytes : ByteArray} {maxL : Nat} {ret : Option FieldType} {hh : List (Nat × Nat × Nat × Nat)} (hts : ∀ w ∈ lw_all, w.before args s = true) (hc : Cond.codeWith y bytes maxL ret hh ∈ lw_all) (a' : Array Value) (U : State) (mk : MethodId) (hW : s.WarmedH U.vm) (hn : U.methodNamed? y = some mk) : ∃ (methY : Method) (cY : Code), U.vm.method? mk = some methY ∧ methY.code = some cY ∧ cY.maxLocals = maxL := by
  obtain ⟨m9, methY, cY, hn9, hmY, hcY, -, hlY, -⟩ := Cond.codeWith_spec (g_warm hts hc a' U hW)
  cases hn.symm.trans hn9
  exact ⟨methY, cY, hmY, hcY, hlY⟩
/-- what a caller wants to know of a method: code, class, how many arguments -/
def gY (y : MethodName) (bytes : ByteArray) (maxL : Nat) (ret : Option FieldType) (n : Nat) : Prop := Cond.code y bytes maxL ret ∈ lw_all ∧ Cond.initialized y.cls ∈ lw_all ∧ (y.cls ≠ "java/lang/invoke/MethodHandle" ∧ y.cls ≠ "java/lang/invoke/VarHandle") ∧ (parseMethodDescriptor y.desc).map (fun d => d.parameters.length) = some n
def gYX (y : MethodName) (bytes : ByteArray) (maxL : Nat) (ret : Option FieldType) (hh : List (Nat × Nat × Nat × Nat)) (n : Nat) : Prop := Cond.codeWith y bytes maxL ret hh ∈ lw_all ∧ Cond.initialized y.cls ∈ lw_all ∧ (y.cls ≠ "java/lang/invoke/MethodHandle" ∧ y.cls ≠ "java/lang/invoke/VarHandle") ∧ (parseMethodDescriptor y.desc).map (fun d => d.parameters.length) = some n
section GC1
variable {α β : Type} {G : GG} {l : Launch} {X : CTX} {M : MI} {cv : α → Option Value} {r : α ⊕ Nat} {hf : Hp} {pc : Nat} {lv : List (Nat × GV)} {st : List GV} {h : Hp} {o : Out α}
/-- from a result on; what is thrown goes on -/
def bnd (o : Out β) (k : β → Hp → Out α) : Out α := match o with
  | none => none
  | some (.inl v, h') => k v h'
  | some (.inr q, h') => some (.inr q, h')
def bI (x : Option Nat) (f : Nat → Out β) (k : β → Hp → Out α) : Out α := match x with
  | none => none
  | some a => bnd (f a) k
def bV (h : Hp) (x : Option Nat) (ci : Nat) (f : Nat → Out β) (k : β → Hp → Out α) : Out α := match x with
  | none => none
  | some a => match h.2.2 a with
    | some (.inr (c, _)) => if c = ci then bnd (f a) k else none
    | _ => none
/-- one call's run, over any heap that fits -/
def gRun (G : GG) (l : Launch) (X : CTX) (M : MI) (pc len : Nat) (cvb : β → Option Value) (h : Hp) (rc : β ⊕ Nat) (hc : Hp) (R : Room) (stk rest : List Value) : Prop :=
  ∀ (H : Heap) (locs : List Loc) (cells slots : Nat) (ls : Array Slot) (T : State), T.heap = H → HR G h H → va_S (gOwn G) (xS X).heap H locs → ls.size = mN M → cells + (hc.1 - h.1) ≤ R.cells → slots + (hc.2.1 - h.2.1) ≤ R.slots → Stand X.1 l X.2.1 R (xS X) (xM X) (xA X) (xB X) (xT X) (xC X) T locs cells slots →
    (∃ (v : Option Value) (vm₁ : Vm) (B : Pt), (xS X).WarmedH vm₁ ∧ Stand X.1 l X.2.1 R (xS X) (xM X) (xA X) (xB X) (xT X) (xC X) B.U B.locs B.cells B.slots ∧ ((∃ w, rc = .inl w ∧ v = cvb w) ∧ gAft G h hc ⟨T.setVm vm₁, locs, cells, slots⟩ B) ∧
      ∀ target, Steps X.1.tables X.2.1 (xB X) (B.U.setTop { F0 (xM X) pc ls stk with pc := pc + len, stack := v.toList ++ rest }) target → Steps X.1.tables X.2.1 (xB X) (T.setTop (F0 (xM X) pc ls stk)) target) ∨
    (∃ (q : Addr) (vm₁ : Vm) (B : Pt), (xS X).WarmedH vm₁ ∧ Stand X.1 l X.2.1 R (xS X) (xM X) (xA X) (xB X) (xT X) (xC X) B.U B.locs B.cells B.slots ∧ (rc = .inr q ∧ gOwn G q ∧ (∃ (ci : Nat) (fs : List Value), hc.2.2 q = some (.inr (ci, fs))) ∧ gAft G h hc ⟨T.setVm vm₁, locs, cells, slots⟩ B) ∧
      Steps X.1.tables X.2.1 (xB X) (T.setTop (F0 (xM X) pc ls stk)) ((B.U.setTop { F0 (xM X) pc ls stk with stack := rest }).pushFrame (.throwing q)))
theorem g_aft {hc : Hp} {H : Heap} {locs : List Loc} {cells slots : Nat} {vm₁ : Vm} {T : State} {B : Pt} (hT : T.heap = H) (b : va_S (gOwn G) (xS X).heap H locs) (hA : gAft G h hc ⟨T.setVm vm₁, locs, cells, slots⟩ B) : va_S (gOwn G) (xS X).heap B.U.heap B.locs := by
  obtain ⟨-, q1, q2, L, q3, q4, -, -⟩ := hA
  have e0 : (T.setVm vm₁).heap = H := hT
  dsimp only [Pt.U, Pt.locs, Pt.cells, Pt.slots] at q1 q2 q3
  rw [e0] at q1 q2
  refine ⟨Nat.le_trans b.1 q1, fun q z1 z2 => (q2 q (Nat.lt_of_lt_of_le z1 b.1) z2).trans (b.2.1 q z1 z2), fun q hq => ?_⟩
  have hq : q ∈ locs ++ L := by rw [← q3]; exact hq
  rcases List.mem_append.mp hq with z | z
  · exact b.2.2 q z
  · exact q4 q z
/-- a call and what comes behind it; what is thrown is handed to hx -/
theorem g_callX {len : Nat} {ob : Out β} {cvb : β → Option Value} {tp : β → List GV} {stk : List GV} {k : β → Hp → Out α} {kx : Nat → Hp → Out α} (htp : ∀ v, (cvb v).toList = gVs (tp v))
    (hle : ∀ rc hc, ob = some (rc, hc) → g_le h hc) (hrun : Cx G l X M → ∀ rc hc R, ob = some (rc, hc) → R.frames = mF M → R.locals = mL M → gRun G l X M pc len cvb h rc hc R (gVs stk) (gVs st))
    (hk : ∀ v h', gT G l X M cv r hf (pc + len) lv (tp v ++ st) h' (k v h')) (hx : ∀ q h', gTx G l X M cv r hf pc lv q h' (kx q h')) :
    gT G l X M cv r hf pc lv stk h (match ob with
      | none => none
      | some (.inl v, h') => k v h'
      | some (.inr q, h') => kx q h') := by
  intro ho
  split at ho
  · cases ho
  · rename_i v hc
    obtain ⟨i1, i2⟩ := hk v hc ho
    have j := hle _ _ rfl
    refine ⟨j.tr i1, fun K h0 H locs ls a b c9 => ?_⟩
    intro T hT Y
    have l1 := h0.1; have l2 := h0.2; have l3 := j.1; have l4 := j.2; have l5 := i1.1; have l6 := i1.2
    rcases hrun K _ _ (gR M X hf) rfl rfl rfl H locs _ _ ls T hT a b c9.1 (by show h.1 - (xH X).1 + (hc.1 - h.1) ≤ hf.1 - (xH X).1; omega) (by show h.2.1 - (xH X).2.1 + (hc.2.1 - h.2.1) ≤ hf.2.1 - (xH X).2.1; omega) Y with ⟨v', vm₁, B, hW, Y', ⟨⟨w, e1, e2⟩, hA⟩, stp⟩ | ⟨q, vm₁, B, hW, Y', ⟨e1, -⟩, -⟩
    · cases e1
      subst e2
      have i3 := i2 K (h0.tr j) B.U.heap B.locs ls hA.1 (g_aft hT b hA) c9
      obtain ⟨-, -, -, L, -, -, e5, e6⟩ := hA
      have e5' : B.cells = hc.1 - (xH X).1 := by rw [e5]; show h.1 - (xH X).1 + (hc.1 - h.1) = _; omega
      have e6' : B.slots = hc.2.1 - (xH X).2.1 := by rw [e6]; show h.2.1 - (xH X).2.1 + (hc.2.1 - h.2.1) = _; omega
      rw [← e5', ← e6'] at i3
      obtain ⟨t, s1, s2⟩ := i3 B.U rfl Y'
      refine ⟨t, stp t ?_, s2⟩
      have e7 : (cvb v).toList ++ gVs st = gVs (tp v ++ st) := by rw [htp]; exact (List.map_append).symm
      show Steps _ _ _ (B.U.setTop (F0 (xM X) (pc + len) ls ((cvb v).toList ++ gVs st))) t
      rw [e7]
      exact s1
    · cases e1
  · rename_i q hc
    obtain ⟨i1, i2⟩ := hx q hc ho
    have j := hle _ _ rfl
    refine ⟨j.tr i1, fun K h0 H locs ls a b c9 => ?_⟩
    intro T hT Y
    have l1 := h0.1; have l2 := h0.2; have l3 := j.1; have l4 := j.2; have l5 := i1.1; have l6 := i1.2
    rcases hrun K _ _ (gR M X hf) rfl rfl rfl H locs _ _ ls T hT a b c9.1 (by show h.1 - (xH X).1 + (hc.1 - h.1) ≤ hf.1 - (xH X).1; omega) (by show h.2.1 - (xH X).2.1 + (hc.2.1 - h.2.1) ≤ hf.2.1 - (xH X).2.1; omega) Y with ⟨v', vm₁, B, hW, Y', ⟨⟨w, e1, e2⟩, hA⟩, stp⟩ | ⟨q', vm₁, B, hW, Y', ⟨e1, hq, hcell, hA⟩, stp⟩
    · cases e1
    · cases e1
      have i3 := i2 K (h0.tr j) hq B.U.heap B.locs ls (gVs st) hA.1 (g_aft hT b hA) c9 hcell
      obtain ⟨-, -, -, L, -, -, e5, e6⟩ := hA
      have e5' : B.cells = hc.1 - (xH X).1 := by rw [e5]; show h.1 - (xH X).1 + (hc.1 - h.1) = _; omega
      have e6' : B.slots = hc.2.1 - (xH X).2.1 := by rw [e6]; show h.2.1 - (xH X).2.1 + (hc.2.1 - h.2.1) = _; omega
      rw [← e5', ← e6'] at i3
      obtain ⟨t, s1, s2⟩ := i3 B.U rfl Y'
      exact ⟨t, stp.trans s1, s2⟩
theorem g_bnd_eq {ob : Out β} {k : β → Hp → Out α} : bnd ob k = (match ob with
      | none => none
      | some (.inl v, h') => k v h'
      | some (.inr q, h') => (fun q h' => some (.inr q, h')) q h') := by
  unfold bnd
  rfl
theorem g_runV {y : MethodName} {bytes : ByteArray} {maxL : Nat} {ret : Option FieldType} {idx fr lo : Nat} {as : List GV} {rc : β ⊕ Nat} {hc : Hp} {cvb : β → Option Value} {C : String} {ci : Nat} {Tc : u_T} {Nc : Nat} {q : Nat} (hq : ∃ fs, h.2.2 q = some (.inr (ci, fs))) (hcl : CL[ci]? = some (C, Tc, Nc)) (hY : gY y bytes maxL ret as.length) (hw : g_wd st ≤ 8) (hF : fr + 1 ≤ mF M) (hL : 8 + (maxL + 11) + lo ≤ mL M) (hlk : Cond.methodLink (mO M) idx y ∈ lw_all) (hin : Cond.instanceMethod y ∈ lw_all) (hsel : Cond.selects C y y ∈ lw_all) (d : decode (mC M) pc = .ok (.invokevirtual idx, 3))
    (K : Cx G l X M) (hM : gMet G l y (ws_ y bytes maxL ret) fr lo (gr (some q) :: as) h cvb rc hc) (R : Room) (hRF : R.frames = mF M) (hRL : R.locals = mL M) :
    gRun G l X M pc 3 cvb h rc hc R (gVs (as.reverse ++ gr (some q) :: st)) (gVs st) := by
  intro H locs cells slots ls T hT a b hsz hc1 hs1 Y
  have hts := K.2.2.2.2.1
  obtain ⟨hcode, hini, hMH, hlen⟩ := hY
  have hK : vx_Back l R X.1 X.2.1 (xB X) (xS X) (xA X) y 3 8 (gPre G (gr (some q) :: as) h hc R) (gPo G h hc cvb rc) (gPx G h hc rc) :=
    g_back hM (by rw [hRF]; exact hF) (by rw [hRL]; exact hL) (g_warms hts hcode rfl) (g_hcd hts hcode) (fun a' U hW => g_warm hts hini a' U hW)
  have hlen' : ∀ sig, parseMethodDescriptor y.desc = some sig → (gVs as).length = sig.parameters.length := fun sig hsig => by
    rw [hsig] at hlen
    rw [List.length_map]
    exact (Option.some.inj hlen).symm
  have hwd : 2 * (F0 (xM X) pc ls (gVs (as.reverse ++ gr (some q) :: st))).monitorRoom + ((gVs st).map fun v => v.category).sum ≤ 8 := by
    show 2 * 0 + _ ≤ 8
    rw [g_wd_eq]
    omega
  have hstk : gVs (as.reverse ++ gr (some q) :: st) = (gVs as).reverse ++ .ref q :: gVs st := by
    show (as.reverse ++ gr (some q) :: st).map toV = (as.map toV).reverse ++ .ref q :: st.map toV
    rw [List.map_append, List.map_reverse]
    rfl
  obtain ⟨fs, hq⟩ := hq
  obtain ⟨cellB, r1, r2, r3⟩ := g_cellO K.2.2.2.2.2.1 a b hq hcl
  exact vx_callV Y K.1 (own := mO M) (C := C) (index := idx) (bytes := bytes) (maxL := maxL) (ret := ret) K.2.2.2.1 (hts _ hlk) (hts _ hin) (hts _ hsel) (hts _ hcode) hMH hK (b := q) (cellB := cellB) (by rw [hT]; exact r1) r2 r3 (g := F0 (xM X) pc ls (gVs (as.reverse ++ gr (some q) :: st))) rfl (hsz.trans K.2.2.1.symm) (argsL := gVs as) (rest := gVs st) hlen' hstk hwd (by rw [K.2.1]; exact d) (fun vm₁ hW₁ => ⟨hc1, hs1, rfl, by show HR G h T.heap; rw [hT]; exact a, KK.move hW₁ (fun q z1 z2 => by show T.heap[q]? = _; rw [hT]; exact b.2.1 q z1 z2) K.2.2.2.2.2.1⟩)
theorem g_runVX {y : MethodName} {bytes : ByteArray} {maxL : Nat} {ret : Option FieldType} {hh : List (Nat × Nat × Nat × Nat)} {idx fr lo : Nat} {as : List GV} {rc : β ⊕ Nat} {hc : Hp} {cvb : β → Option Value} {C : String} {ci : Nat} {Tc : u_T} {Nc : Nat} {q : Nat} (hq : ∃ fs, h.2.2 q = some (.inr (ci, fs))) (hcl : CL[ci]? = some (C, Tc, Nc)) (hY : gYX y bytes maxL ret hh as.length) (hw : g_wd st ≤ 8) (hF : fr + 1 ≤ mF M) (hL : 8 + (maxL + 11) + lo ≤ mL M) (hlk : Cond.methodLink (mO M) idx y ∈ lw_all) (hin : Cond.instanceMethod y ∈ lw_all) (hsel : Cond.selects C y y ∈ lw_all) (d : decode (mC M) pc = .ok (.invokevirtual idx, 3))
    (K : Cx G l X M) (hM : gMet G l y (wsW_ y bytes maxL ret hh) fr lo (gr (some q) :: as) h cvb rc hc) (R : Room) (hRF : R.frames = mF M) (hRL : R.locals = mL M) :
    gRun G l X M pc 3 cvb h rc hc R (gVs (as.reverse ++ gr (some q) :: st)) (gVs st) := by
  intro H locs cells slots ls T hT a b hsz hc1 hs1 Y
  have hts := K.2.2.2.2.1
  obtain ⟨hcode, hini, hMH, hlen⟩ := hY
  have hK : vx_Back l R X.1 X.2.1 (xB X) (xS X) (xA X) y 3 8 (gPre G (gr (some q) :: as) h hc R) (gPo G h hc cvb rc) (gPx G h hc rc) :=
    g_back hM (by rw [hRF]; exact hF) (by rw [hRL]; exact hL) (g_warms hts hcode rfl) (g_hcdX hts hcode) (fun a' U hW => g_warm hts hini a' U hW)
  have hlen' : ∀ sig, parseMethodDescriptor y.desc = some sig → (gVs as).length = sig.parameters.length := fun sig hsig => by
    rw [hsig] at hlen
    rw [List.length_map]
    exact (Option.some.inj hlen).symm
  have hwd : 2 * (F0 (xM X) pc ls (gVs (as.reverse ++ gr (some q) :: st))).monitorRoom + ((gVs st).map fun v => v.category).sum ≤ 8 := by
    show 2 * 0 + _ ≤ 8
    rw [g_wd_eq]
    omega
  have hstk : gVs (as.reverse ++ gr (some q) :: st) = (gVs as).reverse ++ .ref q :: gVs st := by
    show (as.reverse ++ gr (some q) :: st).map toV = (as.map toV).reverse ++ .ref q :: st.map toV
    rw [List.map_append, List.map_reverse]
    rfl
  obtain ⟨fs, hq⟩ := hq
  obtain ⟨cellB, r1, r2, r3⟩ := g_cellO K.2.2.2.2.2.1 a b hq hcl
  exact vx_callVX Y K.1 (own := mO M) (C := C) (index := idx) (bytes := bytes) (maxL := maxL) (ret := ret) (hh := hh) K.2.2.2.1 (hts _ hlk) (hts _ hin) (hts _ hsel) (hts _ hcode) hMH hK (b := q) (cellB := cellB) (by rw [hT]; exact r1) r2 r3 (g := F0 (xM X) pc ls (gVs (as.reverse ++ gr (some q) :: st))) rfl (hsz.trans K.2.2.1.symm) (argsL := gVs as) (rest := gVs st) hlen' hstk hwd (by rw [K.2.1]; exact d) (fun vm₁ hW₁ => ⟨hc1, hs1, rfl, by show HR G h T.heap; rw [hT]; exact a, KK.move hW₁ (fun q z1 z2 => by show T.heap[q]? = _; rw [hT]; exact b.2.1 q z1 z2) K.2.2.2.2.2.1⟩)
theorem g_runVN {y : MethodName} {bytes : ByteArray} {maxL : Nat} {ret : Option FieldType} {idx fr lo : Nat} {as : List GV} {rc : β ⊕ Nat} {hc : Hp} {cvb : β → Option Value} {C : String} {ci : Nat} {Tc : u_T} {Nc : Nat} {q : Nat} (hq : ∃ fs, h.2.2 q = some (.inr (ci, fs))) (hcl : CL[ci]? = some (C, Tc, Nc)) {host : String} (hY : gY y bytes maxL ret as.length) (hw : g_wd st ≤ 8) (hF : fr + 1 ≤ mF M) (hL : 8 + (maxL + 11) + lo ≤ mL M) (hlk : Cond.methodLinkNest (mO M) idx y host ∈ lw_tbl) (hin : Cond.instanceMethod y ∈ lw_all) (hsel : Cond.selects C y y ∈ lw_all) (d : decode (mC M) pc = .ok (.invokevirtual idx, 3))
    (K : Cx G l X M) (hM : gMet G l y (ws_ y bytes maxL ret) fr lo (gr (some q) :: as) h cvb rc hc) (R : Room) (hRF : R.frames = mF M) (hRL : R.locals = mL M) :
    gRun G l X M pc 3 cvb h rc hc R (gVs (as.reverse ++ gr (some q) :: st)) (gVs st) := by
  intro H locs cells slots ls T hT a b hsz hc1 hs1 Y
  have hts := K.2.2.2.2.1
  obtain ⟨hcode, hini, hMH, hlen⟩ := hY
  have hK : vx_Back l R X.1 X.2.1 (xB X) (xS X) (xA X) y 3 8 (gPre G (gr (some q) :: as) h hc R) (gPo G h hc cvb rc) (gPx G h hc rc) :=
    g_back hM (by rw [hRF]; exact hF) (by rw [hRL]; exact hL) (g_warms hts hcode rfl) (g_hcd hts hcode) (fun a' U hW => g_warm hts hini a' U hW)
  have hlen' : ∀ sig, parseMethodDescriptor y.desc = some sig → (gVs as).length = sig.parameters.length := fun sig hsig => by
    rw [hsig] at hlen
    rw [List.length_map]
    exact (Option.some.inj hlen).symm
  have hwd : 2 * (F0 (xM X) pc ls (gVs (as.reverse ++ gr (some q) :: st))).monitorRoom + ((gVs st).map fun v => v.category).sum ≤ 8 := by
    show 2 * 0 + _ ≤ 8
    rw [g_wd_eq]
    omega
  have hstk : gVs (as.reverse ++ gr (some q) :: st) = (gVs as).reverse ++ .ref q :: gVs st := by
    show (as.reverse ++ gr (some q) :: st).map toV = (as.map toV).reverse ++ .ref q :: st.map toV
    rw [List.map_append, List.map_reverse]
    rfl
  obtain ⟨fs, hq⟩ := hq
  obtain ⟨cellB, r1, r2, r3⟩ := g_cellO K.2.2.2.2.2.1 a b hq hcl
  exact vx_callVN Y K.1 (own := mO M) (C := C) (index := idx) (host := host) (bytes := bytes) (maxL := maxL) (ret := ret) K.2.2.2.1 (va_Nw.use rfl (K.2.2.2.2.2.1.2.2.1 _ hlk rfl)) (hts _ hin) (hts _ hsel) (hts _ hcode) hMH hK (b := q) (cellB := cellB) (by rw [hT]; exact r1) r2 r3 (g := F0 (xM X) pc ls (gVs (as.reverse ++ gr (some q) :: st))) rfl (hsz.trans K.2.2.1.symm) (argsL := gVs as) (rest := gVs st) hlen' hstk hwd (by rw [K.2.1]; exact d) (fun vm₁ hW₁ => ⟨hc1, hs1, rfl, by show HR G h T.heap; rw [hT]; exact a, KK.move hW₁ (fun q z1 z2 => by show T.heap[q]? = _; rw [hT]; exact b.2.1 q z1 z2) K.2.2.2.2.2.1⟩)
theorem g_runS {y : MethodName} {bytes : ByteArray} {maxL : Nat} {ret : Option FieldType} {idx fr lo : Nat} {as : List GV} {rc : β ⊕ Nat} {hc : Hp} {cvb : β → Option Value} (hY : gY y bytes maxL ret as.length) (hw : g_wd st ≤ 8) (hF : fr + 1 ≤ mF M) (hL : 8 + (maxL + 11) + lo ≤ mL M) (hlk : Cond.methodLink (mO M) idx y ∈ lw_all) (hstat : Cond.static y ∈ lw_all) (d : decode (mC M) pc = .ok (.invokestatic idx, 3))
    (K : Cx G l X M) (hM : gMet G l y (ws_ y bytes maxL ret) fr lo (as) h cvb rc hc) (R : Room) (hRF : R.frames = mF M) (hRL : R.locals = mL M) :
    gRun G l X M pc 3 cvb h rc hc R (gVs (as.reverse ++ st)) (gVs st) := by
  intro H locs cells slots ls T hT a b hsz hc1 hs1 Y
  have hts := K.2.2.2.2.1
  obtain ⟨hcode, hini, hMH, hlen⟩ := hY
  have hK : vx_Back l R X.1 X.2.1 (xB X) (xS X) (xA X) y 3 8 (gPre G (as) h hc R) (gPo G h hc cvb rc) (gPx G h hc rc) :=
    g_back hM (by rw [hRF]; exact hF) (by rw [hRL]; exact hL) (g_warms hts hcode rfl) (g_hcd hts hcode) (fun a' U hW => g_warm hts hini a' U hW)
  have hlen' : ∀ sig, parseMethodDescriptor y.desc = some sig → (gVs as).length = sig.parameters.length := fun sig hsig => by
    rw [hsig] at hlen
    rw [List.length_map]
    exact (Option.some.inj hlen).symm
  have hwd : 2 * (F0 (xM X) pc ls (gVs (as.reverse ++ st))).monitorRoom + ((gVs st).map fun v => v.category).sum ≤ 8 := by
    show 2 * 0 + _ ≤ 8
    rw [g_wd_eq]
    omega
  have hstk : gVs (as.reverse ++ st) = (gVs as).reverse ++ gVs st := by
    show (as.reverse ++ st).map toV = (as.map toV).reverse ++ st.map toV
    rw [List.map_append, List.map_reverse]
  exact vx_callS Y K.1 (own := mO M) (index := idx) (bytes := bytes) (maxL := maxL) (ret := ret) K.2.2.2.1 (hts _ hlk) (hts _ hstat) (hts _ hini) (hts _ hcode) hMH hK (g := F0 (xM X) pc ls (gVs (as.reverse ++ st))) rfl (hsz.trans K.2.2.1.symm) (argsL := gVs as) (rest := gVs st) hlen' hstk hwd (by rw [K.2.1]; exact d) (fun vm₁ hW₁ => ⟨hc1, hs1, rfl, by show HR G h T.heap; rw [hT]; exact a, KK.move hW₁ (fun q z1 z2 => by show T.heap[q]? = _; rw [hT]; exact b.2.1 q z1 z2) K.2.2.2.2.2.1⟩)
theorem g_runSX {y : MethodName} {bytes : ByteArray} {maxL : Nat} {ret : Option FieldType} {hh : List (Nat × Nat × Nat × Nat)} {idx fr lo : Nat} {as : List GV} {rc : β ⊕ Nat} {hc : Hp} {cvb : β → Option Value} (hY : gYX y bytes maxL ret hh as.length) (hw : g_wd st ≤ 8) (hF : fr + 1 ≤ mF M) (hL : 8 + (maxL + 11) + lo ≤ mL M) (hlk : Cond.methodLink (mO M) idx y ∈ lw_all) (hstat : Cond.static y ∈ lw_all) (d : decode (mC M) pc = .ok (.invokestatic idx, 3))
    (K : Cx G l X M) (hM : gMet G l y (wsW_ y bytes maxL ret hh) fr lo (as) h cvb rc hc) (R : Room) (hRF : R.frames = mF M) (hRL : R.locals = mL M) :
    gRun G l X M pc 3 cvb h rc hc R (gVs (as.reverse ++ st)) (gVs st) := by
  intro H locs cells slots ls T hT a b hsz hc1 hs1 Y
  have hts := K.2.2.2.2.1
  obtain ⟨hcode, hini, hMH, hlen⟩ := hY
  have hK : vx_Back l R X.1 X.2.1 (xB X) (xS X) (xA X) y 3 8 (gPre G (as) h hc R) (gPo G h hc cvb rc) (gPx G h hc rc) :=
    g_back hM (by rw [hRF]; exact hF) (by rw [hRL]; exact hL) (g_warms hts hcode rfl) (g_hcdX hts hcode) (fun a' U hW => g_warm hts hini a' U hW)
  have hlen' : ∀ sig, parseMethodDescriptor y.desc = some sig → (gVs as).length = sig.parameters.length := fun sig hsig => by
    rw [hsig] at hlen
    rw [List.length_map]
    exact (Option.some.inj hlen).symm
  have hwd : 2 * (F0 (xM X) pc ls (gVs (as.reverse ++ st))).monitorRoom + ((gVs st).map fun v => v.category).sum ≤ 8 := by
    show 2 * 0 + _ ≤ 8
    rw [g_wd_eq]
    omega
  have hstk : gVs (as.reverse ++ st) = (gVs as).reverse ++ gVs st := by
    show (as.reverse ++ st).map toV = (as.map toV).reverse ++ st.map toV
    rw [List.map_append, List.map_reverse]
  exact vx_callSX Y K.1 (own := mO M) (index := idx) (bytes := bytes) (maxL := maxL) (ret := ret) (hh := hh) K.2.2.2.1 (hts _ hlk) (hts _ hstat) (hts _ hini) (hts _ hcode) hMH hK (g := F0 (xM X) pc ls (gVs (as.reverse ++ st))) rfl (hsz.trans K.2.2.1.symm) (argsL := gVs as) (rest := gVs st) hlen' hstk hwd (by rw [K.2.1]; exact d) (fun vm₁ hW₁ => ⟨hc1, hs1, rfl, by show HR G h T.heap; rw [hT]; exact a, KK.move hW₁ (fun q z1 z2 => by show T.heap[q]? = _; rw [hT]; exact b.2.1 q z1 z2) K.2.2.2.2.2.1⟩)
theorem g_runSN {y : MethodName} {bytes : ByteArray} {maxL : Nat} {ret : Option FieldType} {idx fr lo : Nat} {as : List GV} {rc : β ⊕ Nat} {hc : Hp} {cvb : β → Option Value} {host : String} (hY : gY y bytes maxL ret as.length) (hw : g_wd st ≤ 8) (hF : fr + 1 ≤ mF M) (hL : 8 + (maxL + 11) + lo ≤ mL M) (hlk : Cond.methodLinkNest (mO M) idx y host ∈ lw_tbl) (hstat : Cond.static y ∈ lw_all) (d : decode (mC M) pc = .ok (.invokestatic idx, 3))
    (K : Cx G l X M) (hM : gMet G l y (ws_ y bytes maxL ret) fr lo (as) h cvb rc hc) (R : Room) (hRF : R.frames = mF M) (hRL : R.locals = mL M) :
    gRun G l X M pc 3 cvb h rc hc R (gVs (as.reverse ++ st)) (gVs st) := by
  intro H locs cells slots ls T hT a b hsz hc1 hs1 Y
  have hts := K.2.2.2.2.1
  obtain ⟨hcode, hini, hMH, hlen⟩ := hY
  have hK : vx_Back l R X.1 X.2.1 (xB X) (xS X) (xA X) y 3 8 (gPre G (as) h hc R) (gPo G h hc cvb rc) (gPx G h hc rc) :=
    g_back hM (by rw [hRF]; exact hF) (by rw [hRL]; exact hL) (g_warms hts hcode rfl) (g_hcd hts hcode) (fun a' U hW => g_warm hts hini a' U hW)
  have hlen' : ∀ sig, parseMethodDescriptor y.desc = some sig → (gVs as).length = sig.parameters.length := fun sig hsig => by
    rw [hsig] at hlen
    rw [List.length_map]
    exact (Option.some.inj hlen).symm
  have hwd : 2 * (F0 (xM X) pc ls (gVs (as.reverse ++ st))).monitorRoom + ((gVs st).map fun v => v.category).sum ≤ 8 := by
    show 2 * 0 + _ ≤ 8
    rw [g_wd_eq]
    omega
  have hstk : gVs (as.reverse ++ st) = (gVs as).reverse ++ gVs st := by
    show (as.reverse ++ st).map toV = (as.map toV).reverse ++ st.map toV
    rw [List.map_append, List.map_reverse]
  exact vx_callSN Y K.1 (own := mO M) (index := idx) (host := host) (bytes := bytes) (maxL := maxL) (ret := ret) K.2.2.2.1 (va_Nw.use rfl (K.2.2.2.2.2.1.2.2.1 _ hlk rfl)) (hts _ hstat) (hts _ hini) (hts _ hcode) hMH hK (g := F0 (xM X) pc ls (gVs (as.reverse ++ st))) rfl (hsz.trans K.2.2.1.symm) (argsL := gVs as) (rest := gVs st) hlen' hstk hwd (by rw [K.2.1]; exact d) (fun vm₁ hW₁ => ⟨hc1, hs1, rfl, by show HR G h T.heap; rw [hT]; exact a, KK.move hW₁ (fun q z1 z2 => by show T.heap[q]? = _; rw [hT]; exact b.2.1 q z1 z2) K.2.2.2.2.2.1⟩)
theorem g_runI {y : MethodName} {bytes : ByteArray} {maxL : Nat} {ret : Option FieldType} {idx fr lo : Nat} {as : List GV} {rc : β ⊕ Nat} {hc : Hp} {cvb : β → Option Value} {q : Nat} (hY : gY y bytes maxL ret as.length) (hw : g_wd st ≤ 8) (hF : fr + 1 ≤ mF M) (hL : 8 + (maxL + 11) + lo ≤ mL M) (hret : ret = none) (hlk : Cond.methodLink (mO M) idx y ∈ lw_all) (hin : Cond.instanceMethod y ∈ lw_all) (hnm : y.name = "<init>") (d : decode (mC M) pc = .ok (.invokespecial idx, 3))
    (K : Cx G l X M) (hM : gMet G l y (ws_ y bytes maxL ret) fr lo (gr (some q) :: as) h cvb rc hc) (R : Room) (hRF : R.frames = mF M) (hRL : R.locals = mL M) :
    gRun G l X M pc 3 cvb h rc hc R (gVs (as.reverse ++ gr (some q) :: st)) (gVs st) := by
  intro H locs cells slots ls T hT a b hsz hc1 hs1 Y
  have hts := K.2.2.2.2.1
  obtain ⟨hcode, hini, hMH, hlen⟩ := hY
  have hK : vx_Back l R X.1 X.2.1 (xB X) (xS X) (xA X) y 3 8 (gPre G (gr (some q) :: as) h hc R) (gPo G h hc cvb rc) (gPx G h hc rc) :=
    g_back hM (by rw [hRF]; exact hF) (by rw [hRL]; exact hL) (g_warms hts hcode rfl) (g_hcd hts hcode) (fun a' U hW => g_warm hts hini a' U hW)
  have hlen' : ∀ sig, parseMethodDescriptor y.desc = some sig → (gVs as).length = sig.parameters.length := fun sig hsig => by
    rw [hsig] at hlen
    rw [List.length_map]
    exact (Option.some.inj hlen).symm
  have hwd : 2 * (F0 (xM X) pc ls (gVs (as.reverse ++ gr (some q) :: st))).monitorRoom + ((gVs st).map fun v => v.category).sum ≤ 8 := by
    show 2 * 0 + _ ≤ 8
    rw [g_wd_eq]
    omega
  have hstk : gVs (as.reverse ++ gr (some q) :: st) = (gVs as).reverse ++ .ref q :: gVs st := by
    show (as.reverse ++ gr (some q) :: st).map toV = (as.map toV).reverse ++ .ref q :: st.map toV
    rw [List.map_append, List.map_reverse]
    rfl
  subst hret
  exact vx_callI Y K.1 (own := mO M) (index := idx) (bytes := bytes) (maxL := maxL) K.2.2.2.1 hnm (hts _ hlk) (hts _ hin) (hts _ hcode) hMH hK (a := q) (g := F0 (xM X) pc ls (gVs (as.reverse ++ gr (some q) :: st))) rfl (hsz.trans K.2.2.1.symm) (argsL := gVs as) (rest := gVs st) hlen' hstk hwd (by rw [K.2.1]; exact d) (fun vm₁ hW₁ => ⟨hc1, hs1, rfl, by show HR G h T.heap; rw [hT]; exact a, KK.move hW₁ (fun q z1 z2 => by show T.heap[q]? = _; rw [hT]; exact b.2.1 q z1 z2) K.2.2.2.2.2.1⟩)
theorem g_runIN {y : MethodName} {bytes : ByteArray} {maxL : Nat} {ret : Option FieldType} {idx fr lo : Nat} {as : List GV} {rc : β ⊕ Nat} {hc : Hp} {cvb : β → Option Value} {q : Nat} {host : String} (hY : gY y bytes maxL ret as.length) (hw : g_wd st ≤ 8) (hF : fr + 1 ≤ mF M) (hL : 8 + (maxL + 11) + lo ≤ mL M) (hret : ret = none) (hlk : Cond.methodLinkNest (mO M) idx y host ∈ lw_tbl) (hin : Cond.instanceMethod y ∈ lw_all) (hnm : y.name = "<init>") (d : decode (mC M) pc = .ok (.invokespecial idx, 3))
    (K : Cx G l X M) (hM : gMet G l y (ws_ y bytes maxL ret) fr lo (gr (some q) :: as) h cvb rc hc) (R : Room) (hRF : R.frames = mF M) (hRL : R.locals = mL M) :
    gRun G l X M pc 3 cvb h rc hc R (gVs (as.reverse ++ gr (some q) :: st)) (gVs st) := by
  intro H locs cells slots ls T hT a b hsz hc1 hs1 Y
  have hts := K.2.2.2.2.1
  obtain ⟨hcode, hini, hMH, hlen⟩ := hY
  have hK : vx_Back l R X.1 X.2.1 (xB X) (xS X) (xA X) y 3 8 (gPre G (gr (some q) :: as) h hc R) (gPo G h hc cvb rc) (gPx G h hc rc) :=
    g_back hM (by rw [hRF]; exact hF) (by rw [hRL]; exact hL) (g_warms hts hcode rfl) (g_hcd hts hcode) (fun a' U hW => g_warm hts hini a' U hW)
  have hlen' : ∀ sig, parseMethodDescriptor y.desc = some sig → (gVs as).length = sig.parameters.length := fun sig hsig => by
    rw [hsig] at hlen
    rw [List.length_map]
    exact (Option.some.inj hlen).symm
  have hwd : 2 * (F0 (xM X) pc ls (gVs (as.reverse ++ gr (some q) :: st))).monitorRoom + ((gVs st).map fun v => v.category).sum ≤ 8 := by
    show 2 * 0 + _ ≤ 8
    rw [g_wd_eq]
    omega
  have hstk : gVs (as.reverse ++ gr (some q) :: st) = (gVs as).reverse ++ .ref q :: gVs st := by
    show (as.reverse ++ gr (some q) :: st).map toV = (as.map toV).reverse ++ .ref q :: st.map toV
    rw [List.map_append, List.map_reverse]
    rfl
  subst hret
  exact vx_callIN Y K.1 (own := mO M) (index := idx) (host := host) (bytes := bytes) (maxL := maxL) K.2.2.2.1 hnm (va_Nw.use rfl (K.2.2.2.2.2.1.2.2.1 _ hlk rfl)) (hts _ hin) (hts _ hcode) hMH hK (a := q) (g := F0 (xM X) pc ls (gVs (as.reverse ++ gr (some q) :: st))) rfl (hsz.trans K.2.2.1.symm) (argsL := gVs as) (rest := gVs st) hlen' hstk hwd (by rw [K.2.1]; exact d) (fun vm₁ hW₁ => ⟨hc1, hs1, rfl, by show HR G h T.heap; rw [hT]; exact a, KK.move hW₁ (fun q z1 z2 => by show T.heap[q]? = _; rw [hT]; exact b.2.1 q z1 z2) K.2.2.2.2.2.1⟩)
theorem g_runU {y : MethodName} {bytes : ByteArray} {maxL : Nat} {ret : Option FieldType} {idx fr lo : Nat} {as : List GV} {rc : β ⊕ Nat} {hc : Hp} {cvb : β → Option Value} {C : String} {ci : Nat} {Tc : u_T} {Nc : Nat} {q : Nat} (hq : ∃ fs, h.2.2 q = some (.inr (ci, fs))) (hcl : CL[ci]? = some (C, Tc, Nc)) {x : MethodName} {owner : String} (hY : gY y bytes maxL ret as.length) (hxd : x.desc = y.desc) (hw : g_wd st ≤ 8) (hF : fr + 1 ≤ mF M) (hL : 8 + (maxL + 11) + lo ≤ mL M) (hlk : Cond.methodLink (mO M) idx x ∈ lw_all) (hsame : Cond.sameMethod x.cls owner x.name x.desc ∈ lw_all) (hd0 : (Cond.instanceMethod ⟨owner, x.name, x.desc⟩ ∈ lw_all ∧ ∃ b0 m0 r0, Cond.code ⟨owner, x.name, x.desc⟩ b0 m0 r0 ∈ lw_all)) (hoMH : owner ≠ "java/lang/invoke/MethodHandle" ∧ owner ≠ "java/lang/invoke/VarHandle") (hsel : Cond.selects C x y ∈ lw_all) (hin : Cond.instanceMethod y ∈ lw_all) (d : decode (mC M) pc = .ok (.invokevirtual idx, 3))
    (K : Cx G l X M) (hM : gMet G l y (ws_ y bytes maxL ret) fr lo (gr (some q) :: as) h cvb rc hc) (R : Room) (hRF : R.frames = mF M) (hRL : R.locals = mL M) :
    gRun G l X M pc 3 cvb h rc hc R (gVs (as.reverse ++ gr (some q) :: st)) (gVs st) := by
  intro H locs cells slots ls T hT a b hsz hc1 hs1 Y
  have hts := K.2.2.2.2.1
  obtain ⟨hcode, hini, hMH, hlen⟩ := hY
  have hK : vx_Back l R X.1 X.2.1 (xB X) (xS X) (xA X) y 3 8 (gPre G (gr (some q) :: as) h hc R) (gPo G h hc cvb rc) (gPx G h hc rc) :=
    g_back hM (by rw [hRF]; exact hF) (by rw [hRL]; exact hL) (g_warms hts hcode rfl) (g_hcd hts hcode) (fun a' U hW => g_warm hts hini a' U hW)
  have hlen' : ∀ sig, parseMethodDescriptor x.desc = some sig → (gVs as).length = sig.parameters.length := fun sig hsig => by
    rw [← hxd] at hlen
    rw [hsig] at hlen
    rw [List.length_map]
    exact (Option.some.inj hlen).symm
  have hwd : 2 * (F0 (xM X) pc ls (gVs (as.reverse ++ gr (some q) :: st))).monitorRoom + ((gVs st).map fun v => v.category).sum ≤ 8 := by
    show 2 * 0 + _ ≤ 8
    rw [g_wd_eq]
    omega
  have hstk : gVs (as.reverse ++ gr (some q) :: st) = (gVs as).reverse ++ .ref q :: gVs st := by
    show (as.reverse ++ gr (some q) :: st).map toV = (as.map toV).reverse ++ .ref q :: st.map toV
    rw [List.map_append, List.map_reverse]
    rfl
  obtain ⟨fs, hq⟩ := hq
  obtain ⟨cellB, r1, r2, r3⟩ := g_cellO K.2.2.2.2.2.1 a b hq hcl
  obtain ⟨hd1, b0, m0, r0, hd2⟩ := hd0
  exact vx_callVU Y K.1 (own := mO M) (C := C) (owner := owner) (index := idx) (x := x) (bytes := bytes) (maxL := maxL) (ret := ret) K.2.2.2.1 (hts _ hlk) (hts _ hsame) (va_Decl.of (hts _ hd1) (hts _ hd2)) hoMH (hts _ hsel) (hts _ hin) (hts _ hcode) hK (b := q) (cellB := cellB) (by rw [hT]; exact r1) r2 r3 (g := F0 (xM X) pc ls (gVs (as.reverse ++ gr (some q) :: st))) rfl (hsz.trans K.2.2.1.symm) (argsL := gVs as) (rest := gVs st) hlen' hstk hwd (by rw [K.2.1]; exact d) (fun vm₁ hW₁ => ⟨hc1, hs1, rfl, by show HR G h T.heap; rw [hT]; exact a, KK.move hW₁ (fun q z1 z2 => by show T.heap[q]? = _; rw [hT]; exact b.2.1 q z1 z2) K.2.2.2.2.2.1⟩)
theorem g_runSU {y : MethodName} {bytes : ByteArray} {maxL : Nat} {ret : Option FieldType} {idx fr lo : Nat} {as : List GV} {rc : β ⊕ Nat} {hc : Hp} {cvb : β → Option Value} {C : String} {ci : Nat} {Tc : u_T} {Nc : Nat} {q : Nat} (hq : ∃ fs, h.2.2 q = some (.inr (ci, fs))) (hcl : CL[ci]? = some (C, Tc, Nc)) (hY : gY y bytes maxL ret as.length) (hw : g_wd st ≤ 8) (hF : fr + 1 ≤ mF M) (hL : 8 + (maxL + 11) + lo ≤ mL M) (hlk : Cond.methodLink (mO M) idx y ∈ lw_all) (hsame : Cond.sameMethod y.cls y.cls y.name y.desc ∈ lw_all) (hsup : Cond.superclass (mO M) y.cls ∈ lw_all) (hin : Cond.instanceMethod y ∈ lw_all) (hno : y.name ≠ "<init>") (d : decode (mC M) pc = .ok (.invokespecial idx, 3))
    (K : Cx G l X M) (hM : gMet G l y (ws_ y bytes maxL ret) fr lo (gr (some q) :: as) h cvb rc hc) (R : Room) (hRF : R.frames = mF M) (hRL : R.locals = mL M) :
    gRun G l X M pc 3 cvb h rc hc R (gVs (as.reverse ++ gr (some q) :: st)) (gVs st) := by
  intro H locs cells slots ls T hT a b hsz hc1 hs1 Y
  have hts := K.2.2.2.2.1
  obtain ⟨hcode, hini, hMH, hlen⟩ := hY
  have hK : vx_Back l R X.1 X.2.1 (xB X) (xS X) (xA X) y 3 8 (gPre G (gr (some q) :: as) h hc R) (gPo G h hc cvb rc) (gPx G h hc rc) :=
    g_back hM (by rw [hRF]; exact hF) (by rw [hRL]; exact hL) (g_warms hts hcode rfl) (g_hcd hts hcode) (fun a' U hW => g_warm hts hini a' U hW)
  have hlen' : ∀ sig, parseMethodDescriptor y.desc = some sig → (gVs as).length = sig.parameters.length := fun sig hsig => by
    rw [hsig] at hlen
    rw [List.length_map]
    exact (Option.some.inj hlen).symm
  have hwd : 2 * (F0 (xM X) pc ls (gVs (as.reverse ++ gr (some q) :: st))).monitorRoom + ((gVs st).map fun v => v.category).sum ≤ 8 := by
    show 2 * 0 + _ ≤ 8
    rw [g_wd_eq]
    omega
  have hstk : gVs (as.reverse ++ gr (some q) :: st) = (gVs as).reverse ++ .ref q :: gVs st := by
    show (as.reverse ++ gr (some q) :: st).map toV = (as.map toV).reverse ++ .ref q :: st.map toV
    rw [List.map_append, List.map_reverse]
    rfl
  obtain ⟨fs, hq⟩ := hq
  obtain ⟨cellB, r1, r2, r3⟩ := g_cellO K.2.2.2.2.2.1 a b hq hcl
  obtain ⟨kB, hkB, -⟩ := Vm.findClass_spec r3
  exact vx_callSU Y K.1 (own := mO M) (index := idx) (bytes := bytes) (maxL := maxL) (ret := ret) K.2.2.2.1 (hts _ hlk) (hts _ hsame) (hts _ hsup) (hts _ hin) (hts _ hcode) hno hK (b := q) (cellB := cellB) (by rw [hT]; exact r1) r2 hkB (g := F0 (xM X) pc ls (gVs (as.reverse ++ gr (some q) :: st))) rfl (hsz.trans K.2.2.1.symm) (argsL := gVs as) (rest := gVs st) hlen' hstk hwd (by rw [K.2.1]; exact d) (fun vm₁ hW₁ => ⟨hc1, hs1, rfl, by show HR G h T.heap; rw [hT]; exact a, KK.move hW₁ (fun q z1 z2 => by show T.heap[q]? = _; rw [hT]; exact b.2.1 q z1 z2) K.2.2.2.2.2.1⟩)
theorem g_runF {y : MethodName} {bytes : ByteArray} {maxL : Nat} {ret : Option FieldType} {idx fr lo : Nat} {as : List GV} {rc : β ⊕ Nat} {hc : Hp} {cvb : β → Option Value} {C : String} {ci : Nat} {Tc : u_T} {Nc : Nat} {cnt : Nat} {q : Nat} (hq : ∃ fs, h.2.2 q = some (.inr (ci, fs))) (hcl : CL[ci]? = some (C, Tc, Nc)) {x : MethodName} (hY : gY y bytes maxL ret as.length) (hxd : x.desc = y.desc) (hw : g_wd st ≤ 8) (hF : fr + 1 ≤ mF M) (hL : 8 + (maxL + 11) + lo ≤ mL M) (hlk : Cond.methodLink (mO M) idx x ∈ lw_all) (hde : Cond.declares x ∈ lw_tbl) (hif : Cond.interfaceMethod x.cls x.cls x.name x.desc ∈ lw_tbl) (hpub : Cond.publicMethod y ∈ lw_tbl) (hunh : Cond.unhidden C x.name x.desc ∈ lw_tbl) (hcast : Cond.castable C x.cls ∈ lw_tbl) (hxMH : x.cls ≠ "java/lang/invoke/MethodHandle" ∧ x.cls ≠ "java/lang/invoke/VarHandle") (hsel : Cond.selects C x y ∈ lw_all) (hin : Cond.instanceMethod y ∈ lw_all) (d : decode (mC M) pc = .ok (.invokeinterface idx cnt, 5))
    (K : Cx G l X M) (hM : gMet G l y (ws_ y bytes maxL ret) fr lo (gr (some q) :: as) h cvb rc hc) (R : Room) (hRF : R.frames = mF M) (hRL : R.locals = mL M) :
    gRun G l X M pc 5 cvb h rc hc R (gVs (as.reverse ++ gr (some q) :: st)) (gVs st) := by
  intro H locs cells slots ls T hT a b hsz hc1 hs1 Y
  have hts := K.2.2.2.2.1
  obtain ⟨hcode, hini, hMH, hlen⟩ := hY
  have hK : vx_Back l R X.1 X.2.1 (xB X) (xS X) (xA X) y 5 8 (gPre G (gr (some q) :: as) h hc R) (gPo G h hc cvb rc) (gPx G h hc rc) :=
    g_back hM (by rw [hRF]; exact hF) (by rw [hRL]; exact hL) (g_warms hts hcode rfl) (g_hcd hts hcode) (fun a' U hW => g_warm hts hini a' U hW)
  have hlen' : ∀ sig, parseMethodDescriptor x.desc = some sig → (gVs as).length = sig.parameters.length := fun sig hsig => by
    rw [← hxd] at hlen
    rw [hsig] at hlen
    rw [List.length_map]
    exact (Option.some.inj hlen).symm
  have hwd : 2 * (F0 (xM X) pc ls (gVs (as.reverse ++ gr (some q) :: st))).monitorRoom + ((gVs st).map fun v => v.category).sum ≤ 8 := by
    show 2 * 0 + _ ≤ 8
    rw [g_wd_eq]
    omega
  have hstk : gVs (as.reverse ++ gr (some q) :: st) = (gVs as).reverse ++ .ref q :: gVs st := by
    show (as.reverse ++ gr (some q) :: st).map toV = (as.map toV).reverse ++ .ref q :: st.map toV
    rw [List.map_append, List.map_reverse]
    rfl
  obtain ⟨fs, hq⟩ := hq
  obtain ⟨cellB, r1, r2, r3⟩ := g_cellO K.2.2.2.2.2.1 a b hq hcl
  obtain ⟨kB, hkB, -⟩ := Vm.findClass_spec r3
  obtain ⟨w1, w2, w3, w4, w5⟩ := K.2.2.2.2.2.1.2.2.2.2.1 C x y hde hif hpub hunh hcast hxMH
  exact vx_callIF Y K.1 (own := mO M) (C := C) (index := idx) (count := cnt) (x := x) (bytes := bytes) (maxL := maxL) (ret := ret) K.2.2.2.1 (hts _ hlk) (va_any rfl w1) (va_any rfl w2) (hts _ hsel) (hts _ hin) (va_any rfl w3) (va_any rfl w4) (va_any rfl w5) (hts _ hcode) hxMH hK (b := q) (cellB := cellB) (kB := kB) (by rw [hT]; exact r1) r2 r3 hkB (g := F0 (xM X) pc ls (gVs (as.reverse ++ gr (some q) :: st))) rfl (hsz.trans K.2.2.1.symm) (argsL := gVs as) (rest := gVs st) hlen' hstk hwd (by rw [K.2.1]; exact d) (fun vm₁ hW₁ => ⟨hc1, hs1, rfl, by show HR G h T.heap; rw [hT]; exact a, KK.move hW₁ (fun q z1 z2 => by show T.heap[q]? = _; rw [hT]; exact b.2.1 q z1 z2) K.2.2.2.2.2.1⟩)
end GC1
section GC2
variable {α : Type} {G : GG} {l : Launch} {X : CTX} {M : MI} {cv : α → Option Value} {r : α ⊕ Nat} {hf : Hp} {pc len : Nat} {lv : List (Nat × GV)} {st : List GV} {h : Hp} {o : Out α}
/-- by the class of what a reference names (no step of the machine) -/
def gSw (h : Hp) (x : Option Nat) (ci : Nat) (o1 o2 : Out α) : Out α := match x with
  | none => none
  | some a => match h.2.2 a with
    | some (.inr (c, _)) => if c = ci then o1 else o2
    | _ => none
theorem g_sw {x : Option Nat} {ci : Nat} {stk : List GV} {o1 o2 : Out α} (k1 : gT G l X M cv r hf pc lv stk h o1) (k2 : gT G l X M cv r hf pc lv stk h o2) : gT G l X M cv r hf pc lv stk h (gSw h x ci o1 o2) := by
  cases x with
  | none => exact fun ho => nomatch ho
  | some q =>
    intro ho
    unfold gSw at ho
    dsimp only at ho
    split at ho
    · split at ho
      · exact k1 ho
      · exact k2 ho
    · cases ho

theorem g_bi {ob : Out (Int32)} {k : Int32 → Hp → Out α} {y : MethodName} {ws : List Cond} {fr lo : Nat} {as stk : List GV} (hout : ∀ x ∈ tableOf (mX M), covers x pc = false) (hstk : stk = as.reverse ++ st) (hM : ∀ rc hc, ob = some (rc, hc) → gMet G l y ws fr lo as h cvI rc hc)
    (hrun : Cx G l X M → ∀ rc hc, gMet G l y ws fr lo as h cvI rc hc → ∀ R : Room, R.frames = mF M → R.locals = mL M → gRun G l X M pc len cvI h rc hc R (gVs (as.reverse ++ st)) (gVs st))
    (hk : ∀ (v : Int32) h', gT G l X M cv r hf (pc + len) lv (gi v :: st) h' (k v h')) : gT G l X M cv r hf pc lv stk h (bnd ob k) := by
  subst hstk
  rw [g_bnd_eq]
  exact g_callX (tp := fun v => [gi v]) (fun _ => rfl) (fun rc hc e => (hM rc hc e).1 ⟨X⟩) (fun K rc hc R e e1 e2 => hrun K rc hc (hM rc hc e) R e1 e2) hk (fun q h' => g_out hout)
theorem g_bIi {x : Option Nat} {f : Nat → Out (Int32)} {k : Int32 → Hp → Out α} {y : MethodName} {ws : List Cond} {fr lo : Nat} {as stk : List GV} (hout : ∀ x ∈ tableOf (mX M), covers x pc = false) (hstk : stk = as.reverse ++ gr x :: st) (hM : ∀ q rc hc, f q = some (rc, hc) → gMet G l y ws fr lo (gr (some q) :: as) h cvI rc hc)
    (hrun : Cx G l X M → ∀ q rc hc, gMet G l y ws fr lo (gr (some q) :: as) h cvI rc hc → ∀ R : Room, R.frames = mF M → R.locals = mL M → gRun G l X M pc len cvI h rc hc R (gVs (as.reverse ++ gr (some q) :: st)) (gVs st))
    (hk : ∀ (v : Int32) h', gT G l X M cv r hf (pc + len) lv (gi v :: st) h' (k v h')) : gT G l X M cv r hf pc lv stk h (bI x f k) := by
  subst hstk
  cases x with
  | none => exact fun ho => nomatch ho
  | some q =>
    show gT G l X M cv r hf pc lv (as.reverse ++ gr (some q) :: st) h (bnd (f q) k)
    rw [g_bnd_eq]
    exact g_callX (tp := fun v => [gi v]) (fun _ => rfl) (fun rc hc e => (hM q rc hc e).1 ⟨X⟩) (fun K rc hc R e e1 e2 => hrun K q rc hc (hM q rc hc e) R e1 e2) hk (fun q h' => g_out hout)
theorem g_bVi {x : Option Nat} {ci : Nat} {f : Nat → Out (Int32)} {k : Int32 → Hp → Out α} {y : MethodName} {ws : List Cond} {fr lo : Nat} {as stk : List GV} (hout : ∀ x ∈ tableOf (mX M), covers x pc = false) (hstk : stk = as.reverse ++ gr x :: st) (hM : ∀ q rc hc, f q = some (rc, hc) → gMet G l y ws fr lo (gr (some q) :: as) h cvI rc hc)
    (hrun : Cx G l X M → ∀ q rc hc, (∃ fs, h.2.2 q = some (.inr (ci, fs))) → gMet G l y ws fr lo (gr (some q) :: as) h cvI rc hc → ∀ R : Room, R.frames = mF M → R.locals = mL M → gRun G l X M pc len cvI h rc hc R (gVs (as.reverse ++ gr (some q) :: st)) (gVs st))
    (hk : ∀ (v : Int32) h', gT G l X M cv r hf (pc + len) lv (gi v :: st) h' (k v h')) : gT G l X M cv r hf pc lv stk h (bV h x ci f k) := by
  subst hstk
  cases x with
  | none => exact fun ho => nomatch ho
  | some q =>
    intro ho
    unfold bV at ho
    dsimp only at ho
    split at ho
    · rename_i c fs he
      split at ho
      · rename_i hc
        subst hc
        refine (?_ : gT G l X M cv r hf pc lv (as.reverse ++ gr (some q) :: st) h (bnd (f q) k)) ho
        rw [g_bnd_eq]
        exact g_callX (tp := fun v => [gi v]) (fun _ => rfl) (fun rc hc e => (hM q rc hc e).1 ⟨X⟩) (fun K rc hc R e e1 e2 => hrun K q rc hc ⟨fs, he⟩ (hM q rc hc e) R e1 e2) hk (fun q h' => g_out hout)
      · cases ho
    · cases ho
theorem g_bl {ob : Out (Int64)} {k : Int64 → Hp → Out α} {y : MethodName} {ws : List Cond} {fr lo : Nat} {as stk : List GV} (hout : ∀ x ∈ tableOf (mX M), covers x pc = false) (hstk : stk = as.reverse ++ st) (hM : ∀ rc hc, ob = some (rc, hc) → gMet G l y ws fr lo as h cvL rc hc)
    (hrun : Cx G l X M → ∀ rc hc, gMet G l y ws fr lo as h cvL rc hc → ∀ R : Room, R.frames = mF M → R.locals = mL M → gRun G l X M pc len cvL h rc hc R (gVs (as.reverse ++ st)) (gVs st))
    (hk : ∀ (v : Int64) h', gT G l X M cv r hf (pc + len) lv (gl v :: st) h' (k v h')) : gT G l X M cv r hf pc lv stk h (bnd ob k) := by
  subst hstk
  rw [g_bnd_eq]
  exact g_callX (tp := fun v => [gl v]) (fun _ => rfl) (fun rc hc e => (hM rc hc e).1 ⟨X⟩) (fun K rc hc R e e1 e2 => hrun K rc hc (hM rc hc e) R e1 e2) hk (fun q h' => g_out hout)
theorem g_bIl {x : Option Nat} {f : Nat → Out (Int64)} {k : Int64 → Hp → Out α} {y : MethodName} {ws : List Cond} {fr lo : Nat} {as stk : List GV} (hout : ∀ x ∈ tableOf (mX M), covers x pc = false) (hstk : stk = as.reverse ++ gr x :: st) (hM : ∀ q rc hc, f q = some (rc, hc) → gMet G l y ws fr lo (gr (some q) :: as) h cvL rc hc)
    (hrun : Cx G l X M → ∀ q rc hc, gMet G l y ws fr lo (gr (some q) :: as) h cvL rc hc → ∀ R : Room, R.frames = mF M → R.locals = mL M → gRun G l X M pc len cvL h rc hc R (gVs (as.reverse ++ gr (some q) :: st)) (gVs st))
    (hk : ∀ (v : Int64) h', gT G l X M cv r hf (pc + len) lv (gl v :: st) h' (k v h')) : gT G l X M cv r hf pc lv stk h (bI x f k) := by
  subst hstk
  cases x with
  | none => exact fun ho => nomatch ho
  | some q =>
    show gT G l X M cv r hf pc lv (as.reverse ++ gr (some q) :: st) h (bnd (f q) k)
    rw [g_bnd_eq]
    exact g_callX (tp := fun v => [gl v]) (fun _ => rfl) (fun rc hc e => (hM q rc hc e).1 ⟨X⟩) (fun K rc hc R e e1 e2 => hrun K q rc hc (hM q rc hc e) R e1 e2) hk (fun q h' => g_out hout)
theorem g_bVl {x : Option Nat} {ci : Nat} {f : Nat → Out (Int64)} {k : Int64 → Hp → Out α} {y : MethodName} {ws : List Cond} {fr lo : Nat} {as stk : List GV} (hout : ∀ x ∈ tableOf (mX M), covers x pc = false) (hstk : stk = as.reverse ++ gr x :: st) (hM : ∀ q rc hc, f q = some (rc, hc) → gMet G l y ws fr lo (gr (some q) :: as) h cvL rc hc)
    (hrun : Cx G l X M → ∀ q rc hc, (∃ fs, h.2.2 q = some (.inr (ci, fs))) → gMet G l y ws fr lo (gr (some q) :: as) h cvL rc hc → ∀ R : Room, R.frames = mF M → R.locals = mL M → gRun G l X M pc len cvL h rc hc R (gVs (as.reverse ++ gr (some q) :: st)) (gVs st))
    (hk : ∀ (v : Int64) h', gT G l X M cv r hf (pc + len) lv (gl v :: st) h' (k v h')) : gT G l X M cv r hf pc lv stk h (bV h x ci f k) := by
  subst hstk
  cases x with
  | none => exact fun ho => nomatch ho
  | some q =>
    intro ho
    unfold bV at ho
    dsimp only at ho
    split at ho
    · rename_i c fs he
      split at ho
      · rename_i hc
        subst hc
        refine (?_ : gT G l X M cv r hf pc lv (as.reverse ++ gr (some q) :: st) h (bnd (f q) k)) ho
        rw [g_bnd_eq]
        exact g_callX (tp := fun v => [gl v]) (fun _ => rfl) (fun rc hc e => (hM q rc hc e).1 ⟨X⟩) (fun K rc hc R e e1 e2 => hrun K q rc hc ⟨fs, he⟩ (hM q rc hc e) R e1 e2) hk (fun q h' => g_out hout)
      · cases ho
    · cases ho
theorem g_bf {ob : Out (UInt32)} {k : UInt32 → Hp → Out α} {y : MethodName} {ws : List Cond} {fr lo : Nat} {as stk : List GV} (hout : ∀ x ∈ tableOf (mX M), covers x pc = false) (hstk : stk = as.reverse ++ st) (hM : ∀ rc hc, ob = some (rc, hc) → gMet G l y ws fr lo as h cvF rc hc)
    (hrun : Cx G l X M → ∀ rc hc, gMet G l y ws fr lo as h cvF rc hc → ∀ R : Room, R.frames = mF M → R.locals = mL M → gRun G l X M pc len cvF h rc hc R (gVs (as.reverse ++ st)) (gVs st))
    (hk : ∀ (v : UInt32) h', gT G l X M cv r hf (pc + len) lv (gf v :: st) h' (k v h')) : gT G l X M cv r hf pc lv stk h (bnd ob k) := by
  subst hstk
  rw [g_bnd_eq]
  exact g_callX (tp := fun v => [gf v]) (fun _ => rfl) (fun rc hc e => (hM rc hc e).1 ⟨X⟩) (fun K rc hc R e e1 e2 => hrun K rc hc (hM rc hc e) R e1 e2) hk (fun q h' => g_out hout)
theorem g_bIf {x : Option Nat} {f : Nat → Out (UInt32)} {k : UInt32 → Hp → Out α} {y : MethodName} {ws : List Cond} {fr lo : Nat} {as stk : List GV} (hout : ∀ x ∈ tableOf (mX M), covers x pc = false) (hstk : stk = as.reverse ++ gr x :: st) (hM : ∀ q rc hc, f q = some (rc, hc) → gMet G l y ws fr lo (gr (some q) :: as) h cvF rc hc)
    (hrun : Cx G l X M → ∀ q rc hc, gMet G l y ws fr lo (gr (some q) :: as) h cvF rc hc → ∀ R : Room, R.frames = mF M → R.locals = mL M → gRun G l X M pc len cvF h rc hc R (gVs (as.reverse ++ gr (some q) :: st)) (gVs st))
    (hk : ∀ (v : UInt32) h', gT G l X M cv r hf (pc + len) lv (gf v :: st) h' (k v h')) : gT G l X M cv r hf pc lv stk h (bI x f k) := by
  subst hstk
  cases x with
  | none => exact fun ho => nomatch ho
  | some q =>
    show gT G l X M cv r hf pc lv (as.reverse ++ gr (some q) :: st) h (bnd (f q) k)
    rw [g_bnd_eq]
    exact g_callX (tp := fun v => [gf v]) (fun _ => rfl) (fun rc hc e => (hM q rc hc e).1 ⟨X⟩) (fun K rc hc R e e1 e2 => hrun K q rc hc (hM q rc hc e) R e1 e2) hk (fun q h' => g_out hout)
theorem g_bVf {x : Option Nat} {ci : Nat} {f : Nat → Out (UInt32)} {k : UInt32 → Hp → Out α} {y : MethodName} {ws : List Cond} {fr lo : Nat} {as stk : List GV} (hout : ∀ x ∈ tableOf (mX M), covers x pc = false) (hstk : stk = as.reverse ++ gr x :: st) (hM : ∀ q rc hc, f q = some (rc, hc) → gMet G l y ws fr lo (gr (some q) :: as) h cvF rc hc)
    (hrun : Cx G l X M → ∀ q rc hc, (∃ fs, h.2.2 q = some (.inr (ci, fs))) → gMet G l y ws fr lo (gr (some q) :: as) h cvF rc hc → ∀ R : Room, R.frames = mF M → R.locals = mL M → gRun G l X M pc len cvF h rc hc R (gVs (as.reverse ++ gr (some q) :: st)) (gVs st))
    (hk : ∀ (v : UInt32) h', gT G l X M cv r hf (pc + len) lv (gf v :: st) h' (k v h')) : gT G l X M cv r hf pc lv stk h (bV h x ci f k) := by
  subst hstk
  cases x with
  | none => exact fun ho => nomatch ho
  | some q =>
    intro ho
    unfold bV at ho
    dsimp only at ho
    split at ho
    · rename_i c fs he
      split at ho
      · rename_i hc
        subst hc
        refine (?_ : gT G l X M cv r hf pc lv (as.reverse ++ gr (some q) :: st) h (bnd (f q) k)) ho
        rw [g_bnd_eq]
        exact g_callX (tp := fun v => [gf v]) (fun _ => rfl) (fun rc hc e => (hM q rc hc e).1 ⟨X⟩) (fun K rc hc R e e1 e2 => hrun K q rc hc ⟨fs, he⟩ (hM q rc hc e) R e1 e2) hk (fun q h' => g_out hout)
      · cases ho
    · cases ho
theorem g_bd {ob : Out (UInt64)} {k : UInt64 → Hp → Out α} {y : MethodName} {ws : List Cond} {fr lo : Nat} {as stk : List GV} (hout : ∀ x ∈ tableOf (mX M), covers x pc = false) (hstk : stk = as.reverse ++ st) (hM : ∀ rc hc, ob = some (rc, hc) → gMet G l y ws fr lo as h cvD rc hc)
    (hrun : Cx G l X M → ∀ rc hc, gMet G l y ws fr lo as h cvD rc hc → ∀ R : Room, R.frames = mF M → R.locals = mL M → gRun G l X M pc len cvD h rc hc R (gVs (as.reverse ++ st)) (gVs st))
    (hk : ∀ (v : UInt64) h', gT G l X M cv r hf (pc + len) lv (gd v :: st) h' (k v h')) : gT G l X M cv r hf pc lv stk h (bnd ob k) := by
  subst hstk
  rw [g_bnd_eq]
  exact g_callX (tp := fun v => [gd v]) (fun _ => rfl) (fun rc hc e => (hM rc hc e).1 ⟨X⟩) (fun K rc hc R e e1 e2 => hrun K rc hc (hM rc hc e) R e1 e2) hk (fun q h' => g_out hout)
theorem g_bId {x : Option Nat} {f : Nat → Out (UInt64)} {k : UInt64 → Hp → Out α} {y : MethodName} {ws : List Cond} {fr lo : Nat} {as stk : List GV} (hout : ∀ x ∈ tableOf (mX M), covers x pc = false) (hstk : stk = as.reverse ++ gr x :: st) (hM : ∀ q rc hc, f q = some (rc, hc) → gMet G l y ws fr lo (gr (some q) :: as) h cvD rc hc)
    (hrun : Cx G l X M → ∀ q rc hc, gMet G l y ws fr lo (gr (some q) :: as) h cvD rc hc → ∀ R : Room, R.frames = mF M → R.locals = mL M → gRun G l X M pc len cvD h rc hc R (gVs (as.reverse ++ gr (some q) :: st)) (gVs st))
    (hk : ∀ (v : UInt64) h', gT G l X M cv r hf (pc + len) lv (gd v :: st) h' (k v h')) : gT G l X M cv r hf pc lv stk h (bI x f k) := by
  subst hstk
  cases x with
  | none => exact fun ho => nomatch ho
  | some q =>
    show gT G l X M cv r hf pc lv (as.reverse ++ gr (some q) :: st) h (bnd (f q) k)
    rw [g_bnd_eq]
    exact g_callX (tp := fun v => [gd v]) (fun _ => rfl) (fun rc hc e => (hM q rc hc e).1 ⟨X⟩) (fun K rc hc R e e1 e2 => hrun K q rc hc (hM q rc hc e) R e1 e2) hk (fun q h' => g_out hout)
theorem g_bVd {x : Option Nat} {ci : Nat} {f : Nat → Out (UInt64)} {k : UInt64 → Hp → Out α} {y : MethodName} {ws : List Cond} {fr lo : Nat} {as stk : List GV} (hout : ∀ x ∈ tableOf (mX M), covers x pc = false) (hstk : stk = as.reverse ++ gr x :: st) (hM : ∀ q rc hc, f q = some (rc, hc) → gMet G l y ws fr lo (gr (some q) :: as) h cvD rc hc)
    (hrun : Cx G l X M → ∀ q rc hc, (∃ fs, h.2.2 q = some (.inr (ci, fs))) → gMet G l y ws fr lo (gr (some q) :: as) h cvD rc hc → ∀ R : Room, R.frames = mF M → R.locals = mL M → gRun G l X M pc len cvD h rc hc R (gVs (as.reverse ++ gr (some q) :: st)) (gVs st))
    (hk : ∀ (v : UInt64) h', gT G l X M cv r hf (pc + len) lv (gd v :: st) h' (k v h')) : gT G l X M cv r hf pc lv stk h (bV h x ci f k) := by
  subst hstk
  cases x with
  | none => exact fun ho => nomatch ho
  | some q =>
    intro ho
    unfold bV at ho
    dsimp only at ho
    split at ho
    · rename_i c fs he
      split at ho
      · rename_i hc
        subst hc
        refine (?_ : gT G l X M cv r hf pc lv (as.reverse ++ gr (some q) :: st) h (bnd (f q) k)) ho
        rw [g_bnd_eq]
        exact g_callX (tp := fun v => [gd v]) (fun _ => rfl) (fun rc hc e => (hM q rc hc e).1 ⟨X⟩) (fun K rc hc R e e1 e2 => hrun K q rc hc ⟨fs, he⟩ (hM q rc hc e) R e1 e2) hk (fun q h' => g_out hout)
      · cases ho
    · cases ho
theorem g_br {ob : Out (Option Nat)} {k : Option Nat → Hp → Out α} {y : MethodName} {ws : List Cond} {fr lo : Nat} {as stk : List GV} (hout : ∀ x ∈ tableOf (mX M), covers x pc = false) (hstk : stk = as.reverse ++ st) (hM : ∀ rc hc, ob = some (rc, hc) → gMet G l y ws fr lo as h cvR rc hc)
    (hrun : Cx G l X M → ∀ rc hc, gMet G l y ws fr lo as h cvR rc hc → ∀ R : Room, R.frames = mF M → R.locals = mL M → gRun G l X M pc len cvR h rc hc R (gVs (as.reverse ++ st)) (gVs st))
    (hk : ∀ (v : Option Nat) h', gT G l X M cv r hf (pc + len) lv (gr v :: st) h' (k v h')) : gT G l X M cv r hf pc lv stk h (bnd ob k) := by
  subst hstk
  rw [g_bnd_eq]
  exact g_callX (tp := fun v => [gr v]) (fun _ => rfl) (fun rc hc e => (hM rc hc e).1 ⟨X⟩) (fun K rc hc R e e1 e2 => hrun K rc hc (hM rc hc e) R e1 e2) hk (fun q h' => g_out hout)
theorem g_bIr {x : Option Nat} {f : Nat → Out (Option Nat)} {k : Option Nat → Hp → Out α} {y : MethodName} {ws : List Cond} {fr lo : Nat} {as stk : List GV} (hout : ∀ x ∈ tableOf (mX M), covers x pc = false) (hstk : stk = as.reverse ++ gr x :: st) (hM : ∀ q rc hc, f q = some (rc, hc) → gMet G l y ws fr lo (gr (some q) :: as) h cvR rc hc)
    (hrun : Cx G l X M → ∀ q rc hc, gMet G l y ws fr lo (gr (some q) :: as) h cvR rc hc → ∀ R : Room, R.frames = mF M → R.locals = mL M → gRun G l X M pc len cvR h rc hc R (gVs (as.reverse ++ gr (some q) :: st)) (gVs st))
    (hk : ∀ (v : Option Nat) h', gT G l X M cv r hf (pc + len) lv (gr v :: st) h' (k v h')) : gT G l X M cv r hf pc lv stk h (bI x f k) := by
  subst hstk
  cases x with
  | none => exact fun ho => nomatch ho
  | some q =>
    show gT G l X M cv r hf pc lv (as.reverse ++ gr (some q) :: st) h (bnd (f q) k)
    rw [g_bnd_eq]
    exact g_callX (tp := fun v => [gr v]) (fun _ => rfl) (fun rc hc e => (hM q rc hc e).1 ⟨X⟩) (fun K rc hc R e e1 e2 => hrun K q rc hc (hM q rc hc e) R e1 e2) hk (fun q h' => g_out hout)
theorem g_bVr {x : Option Nat} {ci : Nat} {f : Nat → Out (Option Nat)} {k : Option Nat → Hp → Out α} {y : MethodName} {ws : List Cond} {fr lo : Nat} {as stk : List GV} (hout : ∀ x ∈ tableOf (mX M), covers x pc = false) (hstk : stk = as.reverse ++ gr x :: st) (hM : ∀ q rc hc, f q = some (rc, hc) → gMet G l y ws fr lo (gr (some q) :: as) h cvR rc hc)
    (hrun : Cx G l X M → ∀ q rc hc, (∃ fs, h.2.2 q = some (.inr (ci, fs))) → gMet G l y ws fr lo (gr (some q) :: as) h cvR rc hc → ∀ R : Room, R.frames = mF M → R.locals = mL M → gRun G l X M pc len cvR h rc hc R (gVs (as.reverse ++ gr (some q) :: st)) (gVs st))
    (hk : ∀ (v : Option Nat) h', gT G l X M cv r hf (pc + len) lv (gr v :: st) h' (k v h')) : gT G l X M cv r hf pc lv stk h (bV h x ci f k) := by
  subst hstk
  cases x with
  | none => exact fun ho => nomatch ho
  | some q =>
    intro ho
    unfold bV at ho
    dsimp only at ho
    split at ho
    · rename_i c fs he
      split at ho
      · rename_i hc
        subst hc
        refine (?_ : gT G l X M cv r hf pc lv (as.reverse ++ gr (some q) :: st) h (bnd (f q) k)) ho
        rw [g_bnd_eq]
        exact g_callX (tp := fun v => [gr v]) (fun _ => rfl) (fun rc hc e => (hM q rc hc e).1 ⟨X⟩) (fun K rc hc R e e1 e2 => hrun K q rc hc ⟨fs, he⟩ (hM q rc hc e) R e1 e2) hk (fun q h' => g_out hout)
      · cases ho
    · cases ho
theorem g_bu {ob : Out (Unit)} {k : Unit → Hp → Out α} {y : MethodName} {ws : List Cond} {fr lo : Nat} {as stk : List GV} (hout : ∀ x ∈ tableOf (mX M), covers x pc = false) (hstk : stk = as.reverse ++ st) (hM : ∀ rc hc, ob = some (rc, hc) → gMet G l y ws fr lo as h cvU rc hc)
    (hrun : Cx G l X M → ∀ rc hc, gMet G l y ws fr lo as h cvU rc hc → ∀ R : Room, R.frames = mF M → R.locals = mL M → gRun G l X M pc len cvU h rc hc R (gVs (as.reverse ++ st)) (gVs st))
    (hk : ∀ (v : Unit) h', gT G l X M cv r hf (pc + len) lv (st) h' (k v h')) : gT G l X M cv r hf pc lv stk h (bnd ob k) := by
  subst hstk
  rw [g_bnd_eq]
  exact g_callX (tp := fun v => []) (fun _ => rfl) (fun rc hc e => (hM rc hc e).1 ⟨X⟩) (fun K rc hc R e e1 e2 => hrun K rc hc (hM rc hc e) R e1 e2) hk (fun q h' => g_out hout)
theorem g_bIu {x : Option Nat} {f : Nat → Out (Unit)} {k : Unit → Hp → Out α} {y : MethodName} {ws : List Cond} {fr lo : Nat} {as stk : List GV} (hout : ∀ x ∈ tableOf (mX M), covers x pc = false) (hstk : stk = as.reverse ++ gr x :: st) (hM : ∀ q rc hc, f q = some (rc, hc) → gMet G l y ws fr lo (gr (some q) :: as) h cvU rc hc)
    (hrun : Cx G l X M → ∀ q rc hc, gMet G l y ws fr lo (gr (some q) :: as) h cvU rc hc → ∀ R : Room, R.frames = mF M → R.locals = mL M → gRun G l X M pc len cvU h rc hc R (gVs (as.reverse ++ gr (some q) :: st)) (gVs st))
    (hk : ∀ (v : Unit) h', gT G l X M cv r hf (pc + len) lv (st) h' (k v h')) : gT G l X M cv r hf pc lv stk h (bI x f k) := by
  subst hstk
  cases x with
  | none => exact fun ho => nomatch ho
  | some q =>
    show gT G l X M cv r hf pc lv (as.reverse ++ gr (some q) :: st) h (bnd (f q) k)
    rw [g_bnd_eq]
    exact g_callX (tp := fun v => []) (fun _ => rfl) (fun rc hc e => (hM q rc hc e).1 ⟨X⟩) (fun K rc hc R e e1 e2 => hrun K q rc hc (hM q rc hc e) R e1 e2) hk (fun q h' => g_out hout)
theorem g_bVu {x : Option Nat} {ci : Nat} {f : Nat → Out (Unit)} {k : Unit → Hp → Out α} {y : MethodName} {ws : List Cond} {fr lo : Nat} {as stk : List GV} (hout : ∀ x ∈ tableOf (mX M), covers x pc = false) (hstk : stk = as.reverse ++ gr x :: st) (hM : ∀ q rc hc, f q = some (rc, hc) → gMet G l y ws fr lo (gr (some q) :: as) h cvU rc hc)
    (hrun : Cx G l X M → ∀ q rc hc, (∃ fs, h.2.2 q = some (.inr (ci, fs))) → gMet G l y ws fr lo (gr (some q) :: as) h cvU rc hc → ∀ R : Room, R.frames = mF M → R.locals = mL M → gRun G l X M pc len cvU h rc hc R (gVs (as.reverse ++ gr (some q) :: st)) (gVs st))
    (hk : ∀ (v : Unit) h', gT G l X M cv r hf (pc + len) lv (st) h' (k v h')) : gT G l X M cv r hf pc lv stk h (bV h x ci f k) := by
  subst hstk
  cases x with
  | none => exact fun ho => nomatch ho
  | some q =>
    intro ho
    unfold bV at ho
    dsimp only at ho
    split at ho
    · rename_i c fs he
      split at ho
      · rename_i hc
        subst hc
        refine (?_ : gT G l X M cv r hf pc lv (as.reverse ++ gr (some q) :: st) h (bnd (f q) k)) ho
        rw [g_bnd_eq]
        exact g_callX (tp := fun v => []) (fun _ => rfl) (fun rc hc e => (hM q rc hc e).1 ⟨X⟩) (fun K rc hc R e e1 e2 => hrun K q rc hc ⟨fs, he⟩ (hM q rc hc e) R e1 e2) hk (fun q h' => g_out hout)
      · cases ho
    · cases ho
theorem g_no {pc : Nat} : ∀ x ∈ tableOf [], covers x pc = false := fun _ h => nomatch h
end GC2
