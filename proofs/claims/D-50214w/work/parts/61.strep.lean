/-! a state of the component: what its cells say, and whose they are -/
set_option maxRecDepth 100000
set_option maxHeartbeats 2000000
/-- a cell that never changes -/
def ImC (h : Hp) (w : Nat → Nat) (q : Nat) (e : GC) : Prop := q < h.1 ∧ w q = 0 ∧ h.2.2 q = some e
theorem ImC.im {h : Hp} {w : Nat → Nat} {q : Nat} {e : GC} (I : ImC h w q e) : Im h w q := ⟨I.1, I.2.1⟩
theorem ImC.keep {S : Nat → Prop} {c q : Nat} {h h' : Hp} {w w' : Nat → Nat} {e : GC} (I : ImC h w q e) (T : Tr S c h w h' w') (h0 : ¬ S 0) (hc : ∀ fs, e ≠ .inr (26, fs)) : ImC h' w' q e := by
  obtain ⟨p1, p2, p3⟩ := I
  exact ⟨by have := T.1; omega, by rw [T.2.2.2.1 q p1]; exact p2, T.cell p1 (by rw [p2]; exact h0) p3 (Or.inl (by rw [p2]; decide)) hc⟩
theorem ncl {c : Nat} {fs : List Value} (hc : c ≠ 26) : ∀ fs', (Sum.inr (c, fs) : GC) ≠ .inr (26, fs') := fun fs' q => by
  injection q with q
  exact hc (Prod.mk.inj q).1
theorem nar {x : Nat × vp_A} : ∀ fs', (Sum.inl x : GC) ≠ .inr (26, fs') := fun fs' q => nomatch q
def AW (h : Hp) (w : Nat → Nat) (a n : Nat) (x : Nat → Nat) : Prop := ∃ (e m : Nat) (mc : Int32) (f : Nat → Option Nat), ImC h w a (.inr (24, [.int mc, .ref e, .int (nI n)])) ∧ ImC h w e (.inl (5, m, .inr (.inr (.inr (.inr f))))) ∧ n ≤ m ∧ m < 1000 ∧ ∀ i, i < n → f i = some (x i)
theorem AW.al {h : Hp} {w : Nat → Nat} {a n : Nat} {x : Nat → Nat} (A : AW h w a n x) : AL h a n x := by
  obtain ⟨e, m, mc, f, h1, h2, h3⟩ := A
  exact ⟨e, m, mc, f, h1.2.2, h2.2.2, h3⟩
theorem AW.keep {S : Nat → Prop} {c : Nat} {h h' : Hp} {w w' : Nat → Nat} {a n : Nat} {x : Nat → Nat} (A : AW h w a n x) (T : Tr S c h w h' w') (h0 : ¬ S 0) : AW h' w' a n x := by
  obtain ⟨e, m, mc, f, h1, h2, h3⟩ := A
  exact ⟨e, m, mc, f, h1.keep T h0 (ncl (by decide)), h2.keep T h0 nar, h3⟩
/-- a text that never changes -/
def StrC (h : Hp) (w : Nat → Nat) (s : Nat) (L : List Nat) : Prop := ∃ (a : Nat) (hh hz : Int32) (f : Nat → Int32), ImC h w s (.inr (20, [.ref a, .int 0, .int hh, .int hz])) ∧ ImC h w a (.inl (1, L.length, .inl f)) ∧ ∀ i x, L[i]? = some x → f i = nI x
theorem StrC.keep {S : Nat → Prop} {c : Nat} {h h' : Hp} {w w' : Nat → Nat} {s : Nat} {L : List Nat} (A : StrC h w s L) (T : Tr S c h w h' w') (h0 : ¬ S 0) : StrC h' w' s L := by
  obtain ⟨a, hh, hz, f, h1, h2, h3⟩ := A
  exact ⟨a, hh, hz, f, h1.keep T h0 (ncl (by decide)), h2.keep T h0 nar, h3⟩
/-- the mountain; nl: the names, of cabins from 0, of slopes from 10 -/
def MtW (h : Hp) (w : Nat → Nat) (mt : Nat) (R : Row) (sp : Nat → Nat) (nl : Nat → List Nat) : Prop := ∃ (cr sr rl fl ms ka ca sa : Nat) (csp rg fg kf : Nat → Nat) (f : Nat → Option Nat), ImC h w mt (.inr (11, [.ref cr, .ref sr, .ref rl, .ref fl, .ref ms, .ref ka])) ∧
  ImC h w cr (.inr (13, [.ref ca, .int 10])) ∧ AW h w ca (cN R) csp ∧ (∀ k, k < cN R → ∃ (nm : Nat) (x y z f : Int32), ImC h w (csp k) (.inr (15, [.ref nm, .int x, .int y, .int z, .int f])) ∧ StrC h w nm (nl k)) ∧
  ImC h w sr (.inr (13, [.ref sa, .int 8])) ∧ AW h w sa (sN R) sp ∧ (∀ s, s < sN R → ∃ (nm : Nat) (f : Int32), ImC h w (sp s) (.inr (15, [.ref nm, .int (R (40 + 3 * s)), .int (R (40 + 3 * s + 1)), .int (R (40 + 3 * s + 2)), .int f])) ∧ StrC h w nm (nl (10 + s))) ∧
  AW h w rl (rN R) rg ∧ (∀ k, k < rN R → ImC h w (rg k) (.inr (14, [.int (R (64 + 2 * k)), .int (R (64 + 2 * k + 1))]))) ∧
  AW h w fl (fN R) fg ∧ (∀ k, k < fN R → ImC h w (fg k) (.inr (9, [.int (R (72 + 3 * k)), .int (R (72 + 3 * k + 1)), .int (R (72 + 3 * k + 2))]))) ∧
  ImC h w ka (.inl (6, 80, .inr (.inr (.inr (.inr f))))) ∧ ∀ p, p < 80 → f p = some (kf p) ∧ ImC h w (kf p) (.inr (10, [.int (nI (p / 8)), .int (nI (p % 8))]))
section B1
variable {S : Nat → Prop} {c mt : Nat} {h h' : Hp} {w w' : Nat → Nat} {R R' : Row} {sp : Nat → Nat} {nl : Nat → List Nat}
theorem MtW.keep (A : MtW h w mt R sp nl) (T : Tr S c h w h' w') (h0 : ¬ S 0) : MtW h' w' mt R sp nl := by
  obtain ⟨cr, sr, rl, fl, ms, ka, ca, sa, csp, rg, fg, kf, f, h1, h2, h3, h4, h5, h6, h7, h8, h9, h10, h11, h12, h13⟩ := A
  refine ⟨cr, sr, rl, fl, ms, ka, ca, sa, csp, rg, fg, kf, f, h1.keep T h0 (ncl (by decide)), h2.keep T h0 (ncl (by decide)), h3.keep T h0, fun k hk => ?_, h5.keep T h0 (ncl (by decide)), h6.keep T h0, fun s hs => ?_, h8.keep T h0, fun k hk => (h9 k hk).keep T h0 (ncl (by decide)), h10.keep T h0, fun k hk => (h11 k hk).keep T h0 (ncl (by decide)), h12.keep T h0 nar, fun p hp => ⟨(h13 p hp).1, (h13 p hp).2.keep T h0 (ncl (by decide))⟩⟩
  · obtain ⟨nm, x, y, z, f, a1, a2⟩ := h4 k hk
    exact ⟨nm, x, y, z, f, a1.keep T h0 (ncl (by decide)), a2.keep T h0⟩
  · obtain ⟨nm, f, a1, a2⟩ := h7 s hs
    exact ⟨nm, f, a1.keep T h0 (ncl (by decide)), a2.keep T h0⟩
theorem MtW.row (A : MtW h w mt R sp nl) (H : ROK R) (e : ∀ j, (6 ≤ j ∧ j ≤ 9) ∨ (40 ≤ j ∧ j < 90) → R' j = R j) : MtW h w mt R' sp nl := by
  obtain ⟨h6, h7, h8, h9, l6, l7, l8, l9, hv⟩ := H
  obtain ⟨cr, sr, rl, fl, ms, ka, ca, sa, csp, rg, fg, kf, f, h1, h2, h3, h4, h5, h6, h7, h8, h9, h10, h11, h12, h13⟩ := A
  have c1 : cN R' = cN R := by unfold cN; rw [e 6 (by omega)]
  have c2 : sN R' = sN R := by unfold sN; rw [e 7 (by omega)]
  have c3 : rN R' = rN R := by unfold rN; rw [e 8 (by omega)]
  have c4 : fN R' = fN R := by unfold fN; rw [e 9 (by omega)]
  refine ⟨cr, sr, rl, fl, ms, ka, ca, sa, csp, rg, fg, kf, f, h1, h2, by rw [c1]; exact h3, fun k hk => h4 k (by rw [← c1]; exact hk), h5, by rw [c2]; exact h6, fun s hs => ?_, by rw [c3]; exact h8, fun k hk => ?_, by rw [c4]; exact h10, fun k hk => ?_, h12, h13⟩
  · rw [c2] at hs
    rw [e (40 + 3 * s) (by omega), e (40 + 3 * s + 1) (by omega), e (40 + 3 * s + 2) (by omega)]
    exact h7 s hs
  · rw [c3] at hk
    rw [e (64 + 2 * k) (by omega), e (64 + 2 * k + 1) (by omega)]
    exact h9 k hk
  · rw [c4] at hk
    rw [e (72 + 3 * k) (by omega), e (72 + 3 * k + 1) (by omega), e (72 + 3 * k + 2) (by omega)]
    exact h11 k hk
theorem MtW.fog (A : MtW h w mt R sp nl) : FogR h mt R := by
  obtain ⟨cr, sr, rl, fl, ms, ka, ca, sa, csp, rg, fg, kf, f, h1, h2, h3, h4, h5, h6, h7, h8, h9, h10, h11, h12, h13⟩ := A
  exact ⟨_, fl, fg, h1.2.2, rfl, h10.al, fun k hk => (h11 k hk).2.2⟩
theorem MtW.rid (A : MtW h w mt R sp nl) : RidR h mt R := by
  obtain ⟨cr, sr, rl, fl, ms, ka, ca, sa, csp, rg, fg, kf, f, h1, h2, h3, h4, h5, h6, h7, h8, h9, h10, h11, h12, h13⟩ := A
  exact ⟨_, rl, rg, h1.2.2, rfl, h8.al, fun k hk => (h9 k hk).2.2⟩
theorem MtW.slo (A : MtW h w mt R sp nl) : SloR h mt R sp := by
  obtain ⟨cr, sr, rl, fl, ms, ka, ca, sa, csp, rg, fg, kf, f, h1, h2, h3, h4, h5, h6, h7, h8, h9, h10, h11, h12, h13⟩ := A
  refine ⟨_, sr, sa, h1.2.2, rfl, h5.2.2, h6.al, fun s hs => ?_⟩
  obtain ⟨nm, f, a1, a2⟩ := h7 s hs
  exact ⟨nm, f, a1.2.2⟩
/-- one of the mountain's keys -/
theorem MtW.key {G : GG} {N c s : Nat} (A : MtW h w mt R sp nl) (hc : c < 10) (hs : s < 8) : ∃ k, Im h w k ∧ KeyAt h true k (8 * c + s) ∧ sX5_key G N (some mt) (nI c) (nI s) h = some (.inl (some k), h) ∧ ∀ {β γ : Type} (g : Nat → Out β) (kk : β → Hp → Out γ), bV h (some mt) 11 g kk = bnd (g mt) kk := by
  obtain ⟨cr, sr, rl, fl, ms, ka, ca, sa, csp, rg, fg, kf, f, h1, h2, h3, h4, h5, h6, h7, h8, h9, h10, h11, h12, h13⟩ := A
  obtain ⟨a1, a2⟩ := h13 (8 * c + s) (by omega)
  refine ⟨kf (8 * c + s), a2.im, ?_, ?_, fun g kk => l_bV h1.2.2⟩
  · unfold KeyAt
    rw [if_pos rfl]
    exact a2.2.2
  · unfold sX5_key
    rw [l_Fr h1.2.2 rfl, n_8, pk_mul, nI_add, l_Ar h12.2.2 (by omega) (by omega) a1]
end B1
/-- bulletins: the latest first -/
def BuR (b : Nat) (h : Hp) (w : Nat → Nat) (t bu : Nat) (R : Row) : Prop := ∃ (el hd i : Nat) (f : Nat → Option Nat), Ow b h w t bu ∧ h.2.2 bu = some (.inr (22, [.ref el, .int (nI hd), .int (nI ((hd + min 10 i) % 17))])) ∧ Ow b h w t el ∧ h.2.2 el = some (.inl (5, 17, .inr (.inr (.inr (.inr f))))) ∧ hd < 17 ∧ R 95 = nI i ∧ i < 100000 ∧
  ∀ k, k < min 10 i → ∃ bl, f ((hd + k) % 17) = some bl ∧ ImC h w bl (.inr (6, [.int (R (98 + 4 * ((i - 1 - k) % 10))), .int (R (98 + 4 * ((i - 1 - k) % 10) + 1)), .int (R (98 + 4 * ((i - 1 - k) % 10) + 2)), .int (R (98 + 4 * ((i - 1 - k) % 10) + 3))]))
/-- the votes that a cabin remembers -/
def VoR (h : Hp) (w : Nat → Nat) (R : Row) (o : Nat) (es : List En) : Prop := (∀ p, p < 80 → (look es p = none ∧ R (258 + 80 * o + p) = nI 0) ∨ ∃ (e : En) (rd : Prop) (tm : Nat), look es p = some e ∧ ImC h w e.2.2.2 (.inr (17, [.int (bZ rd), .int (nI tm)])) ∧ tm ≤ 9000 ∧ R (258 + 80 * o + p) = nI (mv tm rd)) ∧
  ∀ e, e ∈ es → e.2.1 < 80 ∧ e.2.1 / 8 < cN R ∧ e.2.1 % 8 < sN R
/-- a cabin -/
def CabO (b : Nat) (h : Hp) (w : Nat → Nat) (t t2 o : Nat) (R : Row) (cb ru mp nn : Nat) (es : List En) : Prop := Ow b h w t cb ∧ CabAt h cb (R (10 + 3 * o)) (R (10 + 3 * o + 1)) (R (148 + o)) (R (158 + o)) (R (168 + o)) (R (138 + o)) (R (10 + 3 * o + 2)) ru mp ∧
  (Ow b h w t ru ∧ ∃ f : Nat → Int32, h.2.2 ru = some (.inl (0, 8, .inl f)) ∧ ∀ s, s < 8 → f s = R (178 + 8 * o + s)) ∧ MR b h w t2 true mp nn es ∧ VoR h w R o es
/-- sums that were laid, whatever they are -/
def SumO (b : Nat) (h : Hp) (w : Nat → Nat) (rd gr : Nat) : Prop := Ow b h w 1 rd ∧ Ow b h w 1 gr ∧ rd ≠ gr ∧ (∃ f : Nat → Int32, h.2.2 rd = some (.inl (0, 8, .inl f))) ∧ ∃ f : Nat → Int32, h.2.2 gr = some (.inl (0, 8, .inl f))
/-- a state; y: the tags of its own cells, and of each cabin's -/
def StX (b : Nat) (h : Hp) (w : Nat → Nat) (y : Nat → Nat) (st : Nat) (R : Row) (nl : Nat → List Nat) (mt cl se bu rd gr : Nat) (cb ru mp sp nn : Nat → Nat) (es : Nat → List En) : Prop :=
  StC h st R mt cl se bu rd gr ∧ Ow b h w (y 0) st ∧ (Ow b h w (y 0) se ∧ SetR h se R) ∧ BuR b h w (y 0) bu R ∧ SumO b h w rd gr ∧ MtW h w mt R sp nl ∧ AW h w cl (cN R) cb ∧ (∀ k, k < cN R → CabO b h w (y (2 * k + 1)) (y (2 * k + 2)) k R (cb k) (ru k) (mp k) (nn k) (es k)) ∧ ROK R ∧ ∀ j, 258 + 80 * cN R ≤ j → j < 1058 → R j = nI 0
section B2
variable {S : Nat → Prop} {b c t o : Nat} {h h' : Hp} {w w' y : Nat → Nat} {R R' : Row} {nl : Nat → List Nat} {mt cl se bu rd gr : Nat} {cb ru mp sp nn : Nat → Nat} {es : Nat → List En}
theorem Tr.own {q : Nat} (T : Tr S c h w h' w') (O : Ow b h w t q) (ht : ¬ S t) (t1 : t ≠ 1) {e : GC} (he : h.2.2 q = some e) (hc : ∀ fs, e ≠ .inr (26, fs)) : h'.2.2 q = some e := T.cell O.2.1 (by rw [O.2.2]; exact ht) he (Or.inl (by rw [O.2.2]; exact t1)) hc
theorem BuR.keep {bu : Nat} (A : BuR b h w t bu R) (T : Tr S c h w h' w') (h0 : ¬ S 0) (ht : ¬ S t) (t1 : t ≠ 1) : BuR b h' w' t bu R := by
  obtain ⟨el, hd, i, f, a1, a2, a3, a4, a5, a6, a7, a8⟩ := A
  refine ⟨el, hd, i, f, a1.keep T, T.own a1 ht t1 a2 (ncl (by decide)), a3.keep T, T.own a3 ht t1 a4 nar, a5, a6, a7, fun k hk => ?_⟩
  obtain ⟨bl, b1, b2⟩ := a8 k hk
  exact ⟨bl, b1, b2.keep T h0 (ncl (by decide))⟩
theorem BuR.row {bu : Nat} (A : BuR b h w t bu R) (e : ∀ j, 95 ≤ j → j < 138 → j ≠ 96 → j ≠ 97 → R' j = R j) : BuR b h w t bu R' := by
  obtain ⟨el, hd, i, f, a1, a2, a3, a4, a5, a6, a7, a8⟩ := A
  refine ⟨el, hd, i, f, a1, a2, a3, a4, a5, by rw [e 95 (by omega) (by omega) (by omega) (by omega)]; exact a6, a7, fun k hk => ?_⟩
  have hm : (i - 1 - k) % 10 < 10 := Nat.mod_lt _ (by omega)
  rw [e (98 + 4 * ((i - 1 - k) % 10)) (by omega) (by omega) (by omega) (by omega), e (98 + 4 * ((i - 1 - k) % 10) + 1) (by omega) (by omega) (by omega) (by omega), e (98 + 4 * ((i - 1 - k) % 10) + 2) (by omega) (by omega) (by omega) (by omega), e (98 + 4 * ((i - 1 - k) % 10) + 3) (by omega) (by omega) (by omega) (by omega)]
  exact a8 k hk
theorem VoR.keep {es : List En} (A : VoR h w R o es) (T : Tr S c h w h' w') (h0 : ¬ S 0) : VoR h' w' R o es := by
  refine ⟨fun p hp => ?_, A.2⟩
  rcases A.1 p hp with q | ⟨e, rd, tm, a1, a2, a3⟩
  · exact Or.inl q
  · exact Or.inr ⟨e, rd, tm, a1, a2.keep T h0 (ncl (by decide)), a3⟩
theorem VoR.row {es : List En} (A : VoR h w R o es) (c1 : cN R' = cN R) (c2 : sN R' = sN R) (e : ∀ p, p < 80 → R' (258 + 80 * o + p) = R (258 + 80 * o + p)) : VoR h w R' o es := by
  refine ⟨fun p hp => ?_, fun x hx => by rw [c1, c2]; exact A.2 x hx⟩
  rw [e p hp]
  exact A.1 p hp
theorem CabO.keep {t2 cb ru mp nn : Nat} {es : List En} (A : CabO b h w t t2 o R cb ru mp nn es) (T : Tr S c h w h' w') (h0 : ¬ S 0) (ht : ¬ S t) (t1 : t ≠ 1) (h2 : ¬ S t2) : CabO b h' w' t t2 o R cb ru mp nn es := by
  obtain ⟨a1, a2, ⟨a3, f, a4, a5⟩, a6, a7⟩ := A
  exact ⟨a1.keep T, T.own a1 ht t1 a2 (ncl (by decide)), ⟨a3.keep T, f, T.own a3 ht t1 a4 nar, a5⟩, a6.keep T h2 h0, a7.keep T h0⟩
theorem SumO.keep {rd gr : Nat} (A : SumO b h w rd gr) (T : Tr S c h w h' w') (h1 : ¬ S 1) : SumO b h' w' rd gr := by
  obtain ⟨a1, a2, a3, ⟨f, a4⟩, ⟨g, a5⟩⟩ := A
  have key : ∀ q, Ow b h w 1 q → ∀ f : Nat → Int32, h.2.2 q = some (.inl (0, 8, .inl f)) → ∃ f : Nat → Int32, h'.2.2 q = some (.inl (0, 8, .inl f)) := fun q O f e => by
    rcases T.2.2.2.2 q O.2.1 (by rw [O.2.2]; exact h1) with e1 | ⟨e1, f1, g1, e2, e3⟩ | ⟨tab, ve, sz, mc, th, lf, vk, vv, hd, tl, ve', vk', vv', e2, e3, -⟩
    · exact ⟨f, by rw [e1, e]⟩
    · exact ⟨g1, e3⟩
    · rw [e] at e2
      exact absurd (Option.some.inj e2) (by simp)
  exact ⟨a1.keep T, a2.keep T, a3, key _ a1 _ a4, key _ a2 _ a5⟩
theorem StX.keep {st : Nat} (A : StX b h w y st R nl mt cl se bu rd gr cb ru mp sp nn es) (T : Tr S c h w h' w') (h0 : ¬ S 0) (h1 : ¬ S 1) (hy : ∀ i, ¬ S (y i) ∧ y i ≠ 1) : StX b h' w' y st R nl mt cl se bu rd gr cb ru mp sp nn es := by
  obtain ⟨a1, a2, ⟨a3, f, a4, a5⟩, a6, a7, a8, a9, a10, a11, a12⟩ := A
  exact ⟨T.own a2 (hy 0).1 (hy 0).2 a1 (ncl (by decide)), a2.keep T, ⟨a3.keep T, f, T.own a3 (hy 0).1 (hy 0).2 a4 nar, a5⟩, a6.keep T h0 (hy 0).1 (hy 0).2, a7.keep T h1, a8.keep T h0, a9.keep T h0, fun k hk => (a10 k hk).keep T h0 (hy _).1 (hy _).2 (hy _).1, a11, a12⟩
theorem StX.cabs {st : Nat} (A : StX b h w y st R nl mt cl se bu rd gr cb ru mp sp nn es) : CabsR h cl R cb ru mp := ⟨A.2.2.2.2.2.2.1.al, fun k hk => (A.2.2.2.2.2.2.2.1 k hk).2.1⟩
theorem StX.q {st : Nat} (A : StX b h w y st R nl mt cl se bu rd gr cb ru mp sp nn es) : StQ h st R mt cl se bu rd gr cb ru mp sp := by
  have C := A.cabs
  obtain ⟨a1, a2, a3, a6, a7, a8, a9, a10, a11, a12⟩ := A
  exact ⟨a1, C, a3.2, a8.fog, a8.rid, a8.slo, a11⟩
end B2
