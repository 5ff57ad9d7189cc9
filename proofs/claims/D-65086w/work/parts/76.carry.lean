/-! a block for a number -/
theorem BI.out {tv : Nat → Int} {cf : Cf} {σ : St} {o : Int} {lp : Int → Int → Int} {vw : Int → Int} {vp : Int → Int → Int → Int} {Sp : Int → Int → (Int → Int → Int) → Prop} {T : Int} {b : Int} (h : BI tv cf σ o lp vw vp Sp T (OneE b)) (hb : b < 0) : BI tv cf σ o lp vw vp Sp T NoE := by
  obtain ⟨h1, h2, h3, h4, h5, h6, h7, h8, h9, h10⟩ := h
  have ne : ∀ x, 0 ≤ x → ¬ OneE b x := fun x x0 e => by unfold OneE at e; omega
  exact ⟨h1, fun x x0 x1 _ => h2 x x0 x1 (ne x x0), fun x x0 x1 _ => h3 x x0 x1 (ne x x0), h4, h5, fun x y x0 x1 y0 y1 xy _ _ => h6 x y x0 x1 y0 y1 xy (ne x x0) (ne y y0), fun x x0 x1 _ => h7 x x0 x1 (ne x x0), h8, h9, h10⟩
/-- a block that is being filled for number n from outside: head and pages up to k -/
def FB (tv : Nat → Int) (cf : Cf) (σ : St) (o : Int) (lp : Int → Int → Int) (b n cp pgs ck : Int) (pg : Int → Int → Int) (k : Int) : Prop := gA σ 133 0 b = 2 + k ∧ hdV tv (lp (b * cf.2.1 + 1)) ∧ hNum (lp (b * cf.2.1 + 1)) = n ∧ hSer (lp (b * cf.2.1 + 1)) = gI σ 261 o ∧ hCop (lp (b * cf.2.1 + 1)) = cp ∧ hPgs (lp (b * cf.2.1 + 1)) = pgs ∧ hChk (lp (b * cf.2.1 + 1)) = ck ∧ ∀ j, 0 ≤ j → j < k → ∀ i, 0 ≤ i → i < 128 → lp (b * cf.2.1 + (2 + j)) i = pg j i
/-- what holds while free block b is filled -/
def FI (tv : Nat → Int) (cf : Cf) (σ : St) (o : Int) (lp : Int → Int → Int) (vw : Int → Int) (vp : Int → Int → Int → Int) (Sp : Int → Int → (Int → Int → Int) → Prop) (T b S : Int) : Prop := BI tv cf σ o lp vw vp Sp T (OneE b) ∧ gA σ 259 o b = -1 ∧ gA σ 134 0 b = 0 ∧ (1 ≤ gA σ 133 0 b ∧ erH tv (lp (b * cf.2.1 + 0)) (gA σ 260 o b) ∧ 1 ≤ gA σ 260 o b ∧ gA σ 260 o b ≤ T) ∧ (∀ b', 0 ≤ b' → b' < cf.1 → b' ≠ b → gA σ 134 0 b' = 0 → 2 ≤ gA σ 133 0 b' → hSer (lp (b' * cf.2.1 + 1)) ≤ S) ∧ S ≤ gI σ 261 o
/-- a page, or the head, is written into the free block: done, or a failure -/
theorem FI.w {tv : Nat → Int} {cf : Cf} {σ : St} {o : Int} {lp : Int → Int → Int} {vw : Int → Int} {vp : Int → Int → Int → Int} {Sp : Int → Int → (Int → Int → Int) → Prop} {T : Int} (hc : CfOK cf) {τ : St} {b S p : Int} {x : Int → Int} {r T' : Int} (h : FI tv cf σ o lp vw vp Sp T b S) (hb : 0 ≤ b ∧ b < cf.1) (hp : 1 ≤ p ∧ p < cf.2.1) (hw : gA σ 133 0 b = p) (rz : rZ r) (hF : FlI cf τ (upP lp (b * cf.2.1 + p) x)) (ew : gA τ 133 0 = upF (gA σ 133 0) b (p + 1)) (h0 : r = 0 → 0 ≤ gI σ 136 0 ∧ gI τ 136 0 < 0) (h1 : r = 1 → (0 ≤ gI τ 136 0 ↔ 0 ≤ gI σ 136 0)) (eb : gA τ 134 0 = gA σ 134 0) (ec : gA τ 259 o = gA σ 259 o) (ee : gA τ 260 o = gA σ 260 o) (fr : Fr (mSt o) σ τ) (hs : gI σ 261 o ≤ gI τ 261 o ∧ gI τ 261 o ≤ T') (hT : T ≤ T' ∧ T' < 1073741824) :
    FI tv cf τ o (upP lp (b * cf.2.1 + p) x) vw vp Sp T' b S ∧ UT cf o σ lp τ (upP lp (b * cf.2.1 + p) x) ∧ (r = 0 → brk τ cf.1.toNat + 1 ≤ fl τ) ∧ FK σ τ := by
  obtain ⟨a1, a2, a3, a4, a5, a6⟩ := h
  have hP : 8 ≤ cf.2.1 ∧ cf.2.1 ≤ 32 := hc.2.1
  have ln := upP_ne hc (lp := lp) (b := b) (x := x) (p0 := p) ⟨by omega, by omega⟩
  have hbk : brk τ cf.1.toNat = brk σ cf.1.toNat := by unfold brk; rw [eb]
  have el := fl_fr fr (fun q => by unfold mSt at q; omega)
  have bf := a1.2.2.2.2.2.2.2.2.1
  have wn : ∀ b', b' ≠ b → gA τ 133 0 b' = gA σ 133 0 b' := fun b' q => by rw [ew]; unfold upF; rw [if_neg q]
  have wb : gA τ 133 0 b = p + 1 := by rw [ew]; unfold upF; rw [if_pos rfl]
  have l0 : upP lp (b * cf.2.1 + p) x (b * cf.2.1 + 0) = lp (b * cf.2.1 + 0) := by
    unfold upP; rw [if_neg (by omega)]
  obtain ⟨n1, n2⟩ := a1.nb hb.1 (Or.inl a2)
  refine ⟨⟨?_, by rw [ec]; exact a2, by rw [eb]; exact a3, ?_, ?_, by omega⟩, ?_, ?_, ?_⟩
  · refine a1.step hc rfl n1 n2 fr hF ln wn (fun b' _ => by rw [eb]) (fun b' _ => by rw [ec]) (fun b' _ => by rw [ee]) hs hT ?_
    unfold BF at bf ⊢
    rw [hbk, el]
    by_cases q : 0 ≤ gI τ 136 0
    · have : r = 1 := by unfold rZ at rz; omega
      rw [if_pos ((h1 this).mp q)] at bf; rw [if_pos q]; exact bf
    · rw [if_neg q]; omega
  · rw [wb, l0, ee]; exact ⟨by omega, a4.2.1, by omega, by omega⟩
  · intro b' b0 b1 bn
    rw [eb, wn b' bn, ln b' 1 bn (by omega) (by omega)]
    exact a5 b' b0 b1 bn
  · intro y y0 y1 z1 z2
    have ne : y ≠ b := fun e => by rw [e, ec] at z1; exact z1 a2
    exact ⟨by rw [ec], wn y ne, fun p p0 p1 => ln y p ne p0 p1⟩
  · intro q
    have := h0 q
    unfold BF at bf
    rw [if_pos this.1] at bf
    rw [hbk, el]; exact bf
  · intro q
    refine ⟨?_, eb⟩
    unfold rZ at rz
    have : r = 1 := by
      by_cases z : r = 0
      · have := h0 z; omega
      · omega
    have := h1 this
    omega
def upV (vp : Int → Int → Int → Int) (n : Int) (pg : Int → Int → Int) : Int → Int → Int → Int := fun n' => if n' = n then pg else vp n'
theorem upV_id (vp : Int → Int → Int → Int) (n : Int) : upV vp n (vp n) = vp := by
  funext n'; unfold upV
  by_cases h : n' = n
  · rw [if_pos h, h]
  · rw [if_neg h]
/-- what waits and says n is stale, or a beginning of pg of at most k pages -/
def WS (tv : Nat → Int) (cf : Cf) (σ : St) (o : Int) (lp : Int → Int → Int) (Sp : Int → Int → (Int → Int → Int) → Prop) (n : Int) (pg : Int → Int → Int) (k : Int) : Prop := ∀ y, 0 ≤ y → y < cf.1 → gA σ 259 o y = -2 → 2 ≤ gA σ 133 0 y → whB tv cf σ lp y → hNum (lp (y * cf.2.1 + 1)) = n → (∃ pg : Int → Int → Int, (∀ w, 0 ≤ w → w ≤ gA σ 133 0 y - 2 → Sp (hNum (lp (y * cf.2.1 + 1))) w pg) ∧ ∀ k, 0 ≤ k → k < gA σ 133 0 y - 2 → ∀ i, 0 ≤ i → i < 128 → lp (y * cf.2.1 + (2 + k)) i = pg k i) ∨ (gA σ 133 0 y - 2 ≤ k ∧ ∀ j, 0 ≤ j → j < gA σ 133 0 y - 2 → ∀ i, 0 ≤ i → i < 128 → lp (y * cf.2.1 + (2 + j)) i = pg j i)
theorem WS.ut {tv : Nat → Int} {cf : Cf} (hc : CfOK cf) {σ τ : St} {o : Int} {lp lp' : Int → Int → Int} {Sp : Int → Int → (Int → Int → Int) → Prop} {n k : Int} {pg : Int → Int → Int} (h : WS tv cf σ o lp Sp n pg k) (u : UT cf o σ lp τ lp') (hF : FlI cf τ lp') : WS tv cf τ o lp' Sp n pg k := by
  have hP : 8 ≤ cf.2.1 ∧ cf.2.1 ≤ 32 := hc.2.1
  intro y y0 y1 x1 x2 x3 x4
  obtain ⟨u1, u2, u3⟩ := u y y0 y1 (by omega) (by omega)
  have w := (hF y y0 y1).1
  have e1 := u3 1 (by omega) (by omega)
  have ek : ∀ j, 0 ≤ j → j < gA σ 133 0 y - 2 → lp' (y * cf.2.1 + (2 + j)) = lp (y * cf.2.1 + (2 + j)) := fun j j0 j1 => u3 (2 + j) (by omega) (by omega)
  have wh : whB tv cf σ lp y := by
    unfold whB at x3 ⊢
    rw [e1, u2] at x3
    rcases x3 with q | ⟨q1, q2⟩
    · exact Or.inl q
    · refine Or.inr ⟨q1, ?_⟩
      rw [← q2]
      exact cko_ext _ (fun j hj i _ _ => by rw [ek j (by omega) (by omega)])
  rw [u2, e1]
  rcases h y y0 y1 (by omega) (by omega) wh (by rw [← e1]; exact x4) with ⟨g, g1, g2⟩ | ⟨g1, g2⟩
  · exact Or.inl ⟨g, g1, fun j j0 j1 => by rw [ek j j0 j1]; exact g2 j j0 j1⟩
  · exact Or.inr ⟨g1, fun j j0 j1 => by rw [ek j j0 j1]; exact g2 j j0 j1⟩
theorem FI.done {tv : Nat → Int} {cf : Cf} {σ : St} {o : Int} {lp : Int → Int → Int} {vw : Int → Int} {vp : Int → Int → Int → Int} {Sp : Int → Int → (Int → Int → Int) → Prop} {T : Int} (hc : CfOK cf) {b S n cp pgs ck k : Int} {pg : Int → Int → Int} (h : FI tv cf σ o lp vw vp Sp T b S) (hb : 0 ≤ b ∧ b < cf.1) (hn : 0 ≤ n ∧ n < cf.1 - 6) (hfb : FB tv cf σ o lp b n cp pgs ck pg k) (hk : 0 ≤ k) (hS0 : 0 ≤ S) (hSl : S < gI σ 261 o) (hpg : 0 ≤ pgs) (hwh : whB tv cf σ lp b) (hm : gI σ 265 o ≠ n) (hS : WS tv cf σ o lp Sp n pg k) : BI tv cf (sA (sA σ 259 o b n) 258 o n b) o lp (upF vw n k) (upV vp n pg) Sp T (OneE (gA σ 258 o n)) := by
  obtain ⟨a1, a2, a3, a4, a5, a6⟩ := h
  obtain ⟨f1, f2, f3, f4, f5, f6, f7, f8⟩ := hfb
  obtain ⟨n1, n2⟩ := a1.nb hb.1 (Or.inl a2)
  refine a1.switch hc (t := b) (n := n) hb hn ?_ hm n2 n1 ?_ a3 (by omega) f3 hwh ?_ ?_ ?_ ?_ ?_ ⟨?_, ?_⟩ ?_
  · intro y y0 yE yb
    exact ⟨yb, yE⟩
  · intro y y0 y1 yb yr
    have e : y = b := Classical.byContradiction (fun q => yb q)
    rw [e]
    refine ⟨a4, fun _ => ⟨f2, by rw [f3]; exact hn, by rw [f6]; exact hpg, by rw [f4]; omega, by rw [f4]; exact Int.le_refl _⟩⟩
  · intro y y0 y1 yb yE x1 x2 x3 x4
    have := a5 y y0 y1 yb x1 x2
    omega
  · intro y y0 y1 yb yE x1 x2 x3 x4
    rcases hS y y0 y1 x1 x2 x3 x4 with q | ⟨q1, q2⟩
    · exact Or.inl q
    · refine Or.inr ⟨by omega, fun j j0 j1 i i0 i1 => ?_⟩
      rw [q2 j j0 j1 i i0 i1, f8 j j0 (by omega) i i0 i1]
  · intro x x0 xs
    rw [sA_of (by decide), sA_if]
  · intro x
    rw [sA_if, sA_of (by decide)]
  · exact ((Fr.rf _ _).sA ⟨Or.inl rfl, rfl⟩).sA ⟨Or.inr rfl, rfl⟩
  · unfold upF; rw [if_pos rfl]; omega
  · intro j j0 j1 i i0 i1
    unfold upF at j1; rw [if_pos rfl] at j1
    unfold upV; rw [if_pos rfl]
    exact (f8 j j0 j1 i i0 i1).symm
  · intro n' ne
    unfold upF upV; rw [if_neg ne, if_neg ne]; exact ⟨rfl, rfl⟩
