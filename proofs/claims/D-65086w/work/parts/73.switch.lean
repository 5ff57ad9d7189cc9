/-! a number goes over to another block -/
def mCb (o : Int) (f : Nat) (o' : Int) : Prop := (f = 259 ∨ f = 258) ∧ o' = o
theorem BI.switch {tv : Nat → Int} {cf : Cf} {σ : St} {o : Int} {lp : Int → Int → Int} {vw : Int → Int} {vp : Int → Int → Int → Int} {Sp : Int → Int → (Int → Int → Int) → Prop} {T : Int} (hc : CfOK cf) {τ : St} {vw' : Int → Int} {vp' : Int → Int → Int → Int} {E E' : Int → Prop} {t n : Int} (h : BI tv cf σ o lp vw vp Sp T E) (ht : 0 ≤ t ∧ t < cf.1) (hn : 0 ≤ n ∧ n < cf.1 - 6) (hE' : ∀ b, 0 ≤ b → ¬ E' b → b ≠ t → ¬ E b ∧ b ≠ gA σ 258 o n)
    (hm : gI σ 265 o ≠ n) (hm2 : gI σ 265 o = -1 ∨ gI σ 266 o ≠ t) (hnb : ∀ n', 0 ≤ n' → n' < cf.1 - 6 → gA σ 258 o n' ≠ t) (hA : BA tv cf σ o lp T (fun b => b ≠ t)) (hbr : gA σ 134 0 t = 0) (hw : 2 ≤ gA σ 133 0 t) (hN : hNum (lp (t * cf.2.1 + 1)) = n) (hW : whB tv cf σ lp t)
    (hser : ∀ b, 0 ≤ b → b < cf.1 → b ≠ t → ¬ E' b → gA σ 134 0 b = 0 → 2 ≤ gA σ 133 0 b → hNum (lp (b * cf.2.1 + 1)) = n → whB tv cf σ lp b → hSer (lp (b * cf.2.1 + 1)) < hSer (lp (t * cf.2.1 + 1)))
    (hS : ∀ b, 0 ≤ b → b < cf.1 → b ≠ t → ¬ E' b → gA σ 259 o b = -2 → 2 ≤ gA σ 133 0 b → whB tv cf σ lp b → hNum (lp (b * cf.2.1 + 1)) = n → (∃ pg : Int → Int → Int, (∀ w, 0 ≤ w → w ≤ gA σ 133 0 b - 2 → Sp (hNum (lp (b * cf.2.1 + 1))) w pg) ∧ ∀ k, 0 ≤ k → k < gA σ 133 0 b - 2 → ∀ i, 0 ≤ i → i < 128 → lp (b * cf.2.1 + (2 + k)) i = pg k i) ∨ (gA σ 133 0 b ≤ gA σ 133 0 t ∧ ∀ k, 0 ≤ k → k < gA σ 133 0 b - 2 → ∀ i, 0 ≤ i → i < 128 → lp (b * cf.2.1 + (2 + k)) i = lp (t * cf.2.1 + (2 + k)) i))
    (c : ∀ x, 0 ≤ x → x ≠ gA σ 258 o n → gA τ 259 o x = if x = t then n else gA σ 259 o x) (bo : ∀ x, gA τ 258 o x = if x = n then t else gA σ 258 o x) (fr : Fr (mCb o) σ τ)
    (hv : vw' n = gA σ 133 0 t - 2 ∧ ∀ k, 0 ≤ k → k < vw' n → ∀ i, 0 ≤ i → i < 128 → vp' n k i = lp (t * cf.2.1 + (2 + k)) i) (hv' : ∀ n', n' ≠ n → vw' n' = vw n' ∧ vp' n' = vp n') : BI tv cf τ o lp vw' vp' Sp T E' := by
  obtain ⟨h1, h2, h3, h4, h5, h6, h7, h8, h9, h10⟩ := h
  have nm : ∀ f : Nat, ∀ o' : Int, f ≠ 259 → f ≠ 258 → ¬ mCb o f o' := fun f o' x y q => by unfold mCb at q; omega
  have ew := fr.a 133 0 (nm _ _ (by decide) (by decide))
  have eb := fr.a 134 0 (nm _ _ (by decide) (by decide))
  have ee := fr.a 260 o (nm _ _ (by decide) (by decide))
  have es := fr.i 261 o (nm _ _ (by decide) (by decide))
  have em := fr.i 265 o (nm _ _ (by decide) (by decide))
  have et := fr.i 266 o (nm _ _ (by decide) (by decide))
  have ed := fr.i 267 o (nm _ _ (by decide) (by decide))
  have eo := fr.i 268 o (nm _ _ (by decide) (by decide))
  have ef := fr.i 136 0 (nm _ _ (by decide) (by decide))
  have el := fl_fr fr (nm _ _ (by decide) (by decide))
  have wh : ∀ b, whB tv cf τ lp b ↔ whB tv cf σ lp b := fun b => by unfold whB; rw [ew]
  have hto : t ≠ gA σ 258 o n := fun q => hnb n hn.1 hn.2 q.symm
  have old : ∀ b, 0 ≤ b → b < cf.1 → ¬ E' b → b ≠ t → gA σ 259 o b ≠ n := by
    intro b b0 b1 bE bt q
    have x := hE' b b0 bE bt
    have y := ((h3 b b0 b1 x.1).2.2.2.2 (by omega)).2.1
    rw [q] at y
    exact x.2 y.symm
  have cb : ∀ b, 0 ≤ b → ¬ E' b → b ≠ t → gA τ 259 o b = gA σ 259 o b := fun b b0 bE bt => by rw [c b b0 (hE' b b0 bE bt).2, if_neg bt]
  have ct : gA τ 259 o t = n := by rw [c t ht.1 hto, if_pos rfl]
  refine ⟨h1.fr fr (fun f a q => nm f 0 (by omega) (by omega)), ?_, ?_, ?_, ?_, ?_, ?_, ?_, ?_, ?_⟩
  · intro b b0 b1 bE
    rw [eb, ew, ee, es]
    by_cases q : b = t
    · exact hA b b0 b1 (fun z => z q)
    · exact h2 b b0 b1 (hE' b b0 bE q).1
  · intro b b0 b1 bE
    rw [eb, ew, em, et, wh]
    by_cases q : b = t
    · subst q
      rw [ct]
      exact ⟨by omega, fun q => by omega, fun q => by omega, fun q => absurd hbr q, fun _ => ⟨hn.2, by rw [bo, if_pos rfl], hw, hN, hW⟩⟩
    · have x := h3 b b0 b1 (hE' b b0 bE q).1
      have y := old b b0 b1 bE q
      rw [cb b b0 bE q, bo, if_neg y]
      exact x
  · intro n' n0 n1
    rw [bo]
    by_cases q : n' = n
    · rw [if_pos q]
      exact Or.inr ⟨ht, by rw [ct, q]⟩
    · rw [if_neg q]
      rcases h4 n' n0 n1 with z | ⟨z1, z2⟩
      · exact Or.inl z
      · refine Or.inr ⟨z1, ?_⟩
        rw [c _ z1.1 (fun e => ?_), if_neg (hnb n' n0 n1)]
        · exact z2
        · rcases h4 n hn.1 hn.2 with y | ⟨y1, y2⟩
          · omega
          · rw [e] at z2; exact q (z2.symm.trans y2)
  · rcases h5 with q | ⟨m, u, s, a1, a2, a3, a4, a5, a6, a7, a8⟩
    · exact Or.inl (by rw [em]; exact q)
    · have mn : m ≠ n := fun e => hm (a1.trans e)
      have ut : u ≠ t := fun e => by rcases hm2 with z | z <;> omega
      refine Or.inr ⟨m, u, s, by rw [em]; exact a1, by rw [et]; exact a2, by rw [bo, if_neg mn]; exact a3, a4, a5, a6, ?_, ?_⟩
      · rw [c u a6.1 (fun e => ?_), if_neg ut]
        · exact a7
        · rcases h4 n hn.1 hn.2 with y | ⟨y1, y2⟩
          · omega
          · rw [← e] at y2; omega
      · rw [eb, ew, eo, ed]; exact a8
  · intro b b' b0 b1 b0' b1' bb bE bE'
    rw [eb, ew, em, et, wh]
    by_cases q : b = t
    · subst q
      rw [ct]
      intro _ x1 x2 x3 x4
      exact Or.inl (Or.inl (hser b' b0' b1' (Ne.symm bb) bE' x1 x2 x3 x4))
    · rw [cb b b0 bE q]
      by_cases q' : b' = t
      · subst q'
        intro _ _ _ x3
        exact absurd (x3.symm.trans hN) (old b b0 b1 bE q)
      · exact h6 b b' b0 b1 b0' b1' bb (hE' b b0 bE q).1 (hE' b' b0' bE' q').1
  · intro b b0 b1 bE
    by_cases q : b = t
    · subst q
      rw [ct]; intro z; omega
    · rw [cb b b0 bE q, ew, wh]
      intro x1 x2 x3
      by_cases e : hNum (lp (b * cf.2.1 + 1)) = n
      · rcases hS b b0 b1 q bE x1 x2 x3 e with y | ⟨y1, y2⟩
        · exact Or.inl y
        · exact Or.inr ⟨t, by rw [bo, if_pos e], by omega, y1, y2⟩
      · rcases h7 b b0 b1 (hE' b b0 bE q).1 x1 x2 x3 with y | ⟨s, y1, y2⟩
        · exact Or.inl y
        · exact Or.inr ⟨s, by rw [bo, if_neg e]; exact y1, y2⟩
  · intro n' n0 n1
    rw [bo, ew]
    by_cases q : n' = n
    · rw [if_pos q, q]
      exact ⟨fun z => by omega, fun _ => hv⟩
    · rw [if_neg q, (hv' n' q).1, (hv' n' q).2]
      exact h8 n' n0 n1
  · unfold BF brk at h9 ⊢; rw [eb, ef, el]; exact h9
  · unfold BT at h10 ⊢; rw [es]; exact h10
/-- what is moved is forgotten: its target is exempt -/
theorem BI.mvoff {tv : Nat → Int} {cf : Cf} {σ : St} {o : Int} {lp : Int → Int → Int} {vw : Int → Int} {vp : Int → Int → Int → Int} {Sp : Int → Int → (Int → Int → Int) → Prop} {T : Int} {E E' : Int → Prop} (h : BI tv cf σ o lp vw vp Sp T E) (hE : ∀ b, ¬ E' b → ¬ E b ∧ b ≠ gI σ 266 o) : BI tv cf (sI σ 265 o (-1)) o lp vw vp Sp T E' := by
  obtain ⟨h1, h2, h3, h4, h5, h6, h7, h8, h9, h10⟩ := h
  have gm : gI (sI σ 265 o (-1)) 265 o = -1 := by rw [gI_sI, if_pos ⟨rfl, rfl⟩]
  refine ⟨h1, fun b b0 b1 bE => h2 b b0 b1 (hE b bE).1, ?_, h4, Or.inl gm, ?_, fun b b0 b1 bE => h7 b b0 b1 (hE b bE).1, h8, h9, h10⟩
  · intro b b0 b1 bE
    obtain ⟨y1, y2, y3, y4, y5⟩ := h3 b b0 b1 (hE b bE).1
    refine ⟨y1, y2, fun q => ?_, y4, y5⟩
    rcases y3 q with z | z
    · exact Or.inl z
    · exact absurd z.2 (hE b bE).2
  · intro b b' b0 b1 b0' b1' bb bE bE' x1 x2 x3 x4 x5
    rcases h6 b b' b0 b1 b0' b1' bb (hE b bE).1 (hE b' bE').1 x1 x2 x3 x4 x5 with z | z
    · exact Or.inl z
    · exact absurd z.2 (hE b' bE').2
theorem BI.sp {tv : Nat → Int} {cf : Cf} {σ : St} {o : Int} {lp : Int → Int → Int} {vw : Int → Int} {vp : Int → Int → Int → Int} {Sp : Int → Int → (Int → Int → Int) → Prop} {T : Int} {Sp' : Int → Int → (Int → Int → Int) → Prop} {E : Int → Prop} (h : BI tv cf σ o lp vw vp Sp T E) (hS : ∀ n w pg, 0 ≤ n → n < cf.1 - 6 → 0 ≤ w → w ≤ cf.2.1 - 2 → Sp n w pg → Sp' n w pg) : BI tv cf σ o lp vw vp Sp' T E := by
  obtain ⟨h1, h2, h3, h4, h5, h6, h7, h8, h9, h10⟩ := h
  refine ⟨h1, h2, h3, h4, h5, h6, ?_, h8, h9, h10⟩
  intro b b0 b1 bE x1 x2 x3
  rcases h7 b b0 b1 bE x1 x2 x3 with ⟨pg, y1, y2⟩ | y
  · refine Or.inl ⟨pg, fun w w0 w1 => ?_, y2⟩
    have hbr : gA σ 134 0 b = 0 := by
      apply Classical.byContradiction
      intro z
      have := (h3 b b0 b1 bE).2.2.2.1 z
      omega
    have hw := (h1 b b0 b1).1
    obtain ⟨-, z2, -⟩ := (h2 b b0 b1 bE hbr).2 x2
    exact hS _ w pg z2.1 z2.2 w0 (by omega) (y1 w w0 w1)
  · exact Or.inr y
