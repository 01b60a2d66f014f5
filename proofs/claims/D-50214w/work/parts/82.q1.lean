/-! the component's calls that only ask: answers -/
set_option maxRecDepth 100000
set_option maxHeartbeats 2000000
section Q1
variable {G : GG} {N : Nat} {nl : Nat → List Nat} {h : Hp} {w : Nat → Nat} {x : Nat} {now : Option Nat} {R : Row} {mt cl se bu rd gr : Nat} {cb ru mp sp nn : Nat → Nat} {es : Nat → List En}
/-- what x's state is, if there is one -/
def Now (G : GG) (h : Hp) (w : Nat → Nat) (x : Nat) (now : Option Nat) (nl : Nat → List Nat) (R : Row) : Prop := XN h x now ∧ G.1 ≤ h.1 ∧ ∀ st, now = some st → StS G.1 h w nl st R
theorem now_none (hp : ¬ now ≠ none) : now = none := Classical.byContradiction hp
theorem Now.both {a1 a2 v : Int32} {c : Nat} {K : Option Nat → Hp → Out Int32} (H : Now G h w x now nl R) (hval : ∀ (st k s : Nat) (mt cl se bu rd gr : Nat) (cb ru mp sp nn : Nat → Nat) (es : Nat → List En), a1 = nI k → a2 = nI s → k < cN R → s < sN R → now = some st → StX G.1 h w (fun _ => 0) st R nl mt cl se bu rd gr cb ru mp sp nn es → ∃ h1 w1, K (some (cb k)) h = some (.inl v, h1) ∧ Tr (fun _ => False) c h w h1 w1) : Q4 c h w (now ≠ none) (inR a1 (cN R) ∧ inR a2 (sN R)) True v (bV h (some x) 3 (fun q => sX1_withBoth G N (some q) a1 a2 h) K) := by
  obtain ⟨X, hb, HS⟩ := H
  refine ⟨fun hp => ?_, fun hp hq => ?_, fun _ _ hr => absurd trivial hr, fun hp hq _ => ?_⟩
  · rw [now_none hp] at X
    rw [X.bV, wb_0 hb X, l_bndx]
  · obtain ⟨st, e⟩ := Option.ne_none_iff_exists'.mp hp
    rw [e] at X
    obtain ⟨mt, cl, se, bu, rd, gr, cb, ru, mp, sp, nn, es, A⟩ := HS st e
    rw [X.bV, wb_no hb X A.q hq, l_bndx]
  · obtain ⟨st, e⟩ := Option.ne_none_iff_exists'.mp hp
    obtain ⟨mt, cl, se, bu, rd, gr, cb, ru, mp, sp, nn, es, A⟩ := HS st e
    have H := A.2.2.2.2.2.2.2.2.1
    obtain ⟨h6, h7, h8, h9, l6, l7, l8, l9, hv⟩ := H
    obtain ⟨k, k1, k2⟩ := inR_of (by omega) hq.1
    obtain ⟨s, s1, s2⟩ := inR_of (by omega) hq.2
    have := hval st k s mt cl se bu rd gr cb ru mp sp nn es k2 s2 k1 s1 e A
    rw [e] at X
    rw [X.bV, k2, s2, wb_ok X A.q k1 s1, l_bnd]
    exact this
theorem Now.two {a1 a2 v : Int32} {c : Nat} {K : Option Nat → Hp → Out Int32} (H : Now G h w x now nl R) (hval : ∀ (st k s : Nat) (mt cl se bu rd gr : Nat) (cb ru mp sp nn : Nat → Nat) (es : Nat → List En), a1 = nI k → a2 = nI s → k < cN R → s < cN R → now = some st → StX G.1 h w (fun _ => 0) st R nl mt cl se bu rd gr cb ru mp sp nn es → ∃ h1 w1, K (some (cb k)) h = some (.inl v, h1) ∧ Tr (fun _ => False) c h w h1 w1) : Q4 c h w (now ≠ none) (inR a1 (cN R) ∧ inR a2 (cN R)) True v (bV h (some x) 3 (fun q => sX1_withTwo G N (some q) a1 a2 h) K) := by
  obtain ⟨X, hb, HS⟩ := H
  refine ⟨fun hp => ?_, fun hp hq => ?_, fun _ _ hr => absurd trivial hr, fun hp hq _ => ?_⟩
  · rw [now_none hp] at X
    rw [X.bV, wt_0 hb X, l_bndx]
  · obtain ⟨st, e⟩ := Option.ne_none_iff_exists'.mp hp
    rw [e] at X
    obtain ⟨mt, cl, se, bu, rd, gr, cb, ru, mp, sp, nn, es, A⟩ := HS st e
    rw [X.bV, wt_no hb X A.q hq, l_bndx]
  · obtain ⟨st, e⟩ := Option.ne_none_iff_exists'.mp hp
    obtain ⟨mt, cl, se, bu, rd, gr, cb, ru, mp, sp, nn, es, A⟩ := HS st e
    have H := A.2.2.2.2.2.2.2.2.1
    obtain ⟨h6, h7, h8, h9, l6, l7, l8, l9, hv⟩ := H
    obtain ⟨k, k1, k2⟩ := inR_of (by omega) hq.1
    obtain ⟨s, s1, s2⟩ := inR_of (by omega) hq.2
    have := hval st k s mt cl se bu rd gr cb ru mp sp nn es k2 s2 k1 s1 e A
    rw [e] at X
    rw [X.bV, k2, s2, wt_ok X A.q k1 s1, l_bnd]
    exact this
theorem Now.cabin {a1 v : Int32} {c : Nat} {K : Option Nat → Hp → Out Int32} (H : Now G h w x now nl R) (hval : ∀ (st k : Nat) (mt cl se bu rd gr : Nat) (cb ru mp sp nn : Nat → Nat) (es : Nat → List En), a1 = nI k → k < cN R → now = some st → StX G.1 h w (fun _ => 0) st R nl mt cl se bu rd gr cb ru mp sp nn es → ∃ h1 w1, K (some (cb k)) h = some (.inl v, h1) ∧ Tr (fun _ => False) c h w h1 w1) : Q4 c h w (now ≠ none) (inR a1 (cN R)) True v (bV h (some x) 3 (fun q => sX1_withCabin G N (some q) a1 h) K) := by
  obtain ⟨X, hb, HS⟩ := H
  refine ⟨fun hp => ?_, fun hp hq => ?_, fun _ _ hr => absurd trivial hr, fun hp hq _ => ?_⟩
  · rw [now_none hp] at X
    rw [X.bV, wc_0 hb X, l_bndx]
  · obtain ⟨st, e⟩ := Option.ne_none_iff_exists'.mp hp
    rw [e] at X
    obtain ⟨mt, cl, se, bu, rd, gr, cb, ru, mp, sp, nn, es, A⟩ := HS st e
    rw [X.bV, wc_no hb X A.q hq, l_bndx]
  · obtain ⟨st, e⟩ := Option.ne_none_iff_exists'.mp hp
    obtain ⟨mt, cl, se, bu, rd, gr, cb, ru, mp, sp, nn, es, A⟩ := HS st e
    have H := A.2.2.2.2.2.2.2.2.1
    obtain ⟨h6, h7, h8, h9, l6, l7, l8, l9, hv⟩ := H
    obtain ⟨k, k1, k2⟩ := inR_of (by omega) hq
    have := hval st k mt cl se bu rd gr cb ru mp sp nn es k2 k1 e A
    rw [e] at X
    rw [X.bV, k2, wc_ok X A.q k1 l6, l_bnd]
    exact this
theorem Now.slope {a1 v : Int32} {c : Nat} {K : Option Nat → Hp → Out Int32} (H : Now G h w x now nl R) (hval : ∀ (st s : Nat) (mt cl se bu rd gr : Nat) (cb ru mp sp nn : Nat → Nat) (es : Nat → List En), a1 = nI s → s < sN R → now = some st → StX G.1 h w (fun _ => 0) st R nl mt cl se bu rd gr cb ru mp sp nn es → ∃ h1 w1, K (some (sp s)) h = some (.inl v, h1) ∧ Tr (fun _ => False) c h w h1 w1) : Q4 c h w (now ≠ none) (inR a1 (sN R)) True v (bV h (some x) 3 (fun q => sX1_withSlope G N (some q) a1 h) K) := by
  obtain ⟨X, hb, HS⟩ := H
  refine ⟨fun hp => ?_, fun hp hq => ?_, fun _ _ hr => absurd trivial hr, fun hp hq _ => ?_⟩
  · rw [now_none hp] at X
    rw [X.bV, ws_0 hb X, l_bndx]
  · obtain ⟨st, e⟩ := Option.ne_none_iff_exists'.mp hp
    rw [e] at X
    obtain ⟨mt, cl, se, bu, rd, gr, cb, ru, mp, sp, nn, es, A⟩ := HS st e
    rw [X.bV, ws_no hb X A.q hq, l_bndx]
  · obtain ⟨st, e⟩ := Option.ne_none_iff_exists'.mp hp
    obtain ⟨mt, cl, se, bu, rd, gr, cb, ru, mp, sp, nn, es, A⟩ := HS st e
    have H := A.2.2.2.2.2.2.2.2.1
    obtain ⟨h6, h7, h8, h9, l6, l7, l8, l9, hv⟩ := H
    obtain ⟨s, k1, k2⟩ := inR_of (by omega) hq
    have := hval st s mt cl se bu rd gr cb ru mp sp nn es k2 k1 e A
    rw [e] at X
    rw [X.bV, k2, ws_ok X A.q k1, l_bnd]
    exact this
theorem Now.any {v : Int32} {c : Nat} {K : Option Nat → Hp → Out Int32} (H : Now G h w x now nl R) (hval : ∀ (st : Nat) (mt cl se bu rd gr : Nat) (cb ru mp sp nn : Nat → Nat) (es : Nat → List En), now = some st → StX G.1 h w (fun _ => 0) st R nl mt cl se bu rd gr cb ru mp sp nn es → ∃ h1 w1, K (some st) h = some (.inl v, h1) ∧ Tr (fun _ => False) c h w h1 w1) : Q4 c h w (now ≠ none) True True v (bV h (some x) 3 (fun q => sX1_loaded G N (some q) h) K) := by
  obtain ⟨X, hb, HS⟩ := H
  refine ⟨fun hp => ?_, fun _ hq => absurd trivial hq, fun _ _ hr => absurd trivial hr, fun hp _ _ => ?_⟩
  · rw [now_none hp] at X
    rw [X.bV, ld_no hb X, l_bndx]
  · obtain ⟨st, e⟩ := Option.ne_none_iff_exists'.mp hp
    obtain ⟨mt, cl, se, bu, rd, gr, cb, ru, mp, sp, nn, es, A⟩ := HS st e
    have := hval st mt cl se bu rd gr cb ru mp sp nn es e A
    rw [e] at X
    rw [X.bV, ld_ok X, l_bnd]
    exact this
theorem y0_1 : ∀ i, (fun _ : Nat => 0) i ≠ 1 := fun _ => Nat.zero_ne_one
/-- sums laid, and x as it was -/
theorem Now.lay {st o : Nat} (H : Now G h w x (some st) nl R) (A : StX G.1 h w (fun _ => 0) st R nl mt cl se bu rd gr cb ru mp sp nn es) (ho : o < cN R) (hN : 400 < N) : ∃ hh f g, sX3_laySums G N (some st) (nI o) h = some (.inl (), hh) ∧ Tr (fun _ => False) 0 h w hh w ∧ XN hh x (some st) ∧ StX G.1 hh w (fun _ => 0) st R nl mt cl se bu rd gr cb ru mp sp nn es ∧ hh.2.2 rd = some (.inl (0, 8, .inl f)) ∧ hh.2.2 gr = some (.inl (0, 8, .inl g)) ∧ ∀ s, s < sN R → f s = qSum R o s True ∧ g s = qSum R o s False := by
  obtain ⟨hh, f, g, l1, l2, l3⟩ := c_laySums (N := N) A y0_1 ho hN
  have T := l2.tr A.2.2.2.2.1
  obtain ⟨fs, x1, x2⟩ := H.1
  have xr : x ≠ rd := fun q => by
    obtain ⟨f0, e0⟩ := A.2.2.2.2.1.2.2.2.1
    rw [q, e0] at x1; cases x1
  have xg : x ≠ gr := fun q => by
    obtain ⟨f0, e0⟩ := A.2.2.2.2.1.2.2.2.2
    rw [q, e0] at x1; cases x1
  exact ⟨hh, f, g, l1, T, ⟨fs, by rw [l2.2.2.2.2 x xr xg]; exact x1, x2⟩, A.keep T id id (fun _ => ⟨id, by decide⟩), l2.2.2.1, l2.2.2.2.1, l3⟩
end Q1
