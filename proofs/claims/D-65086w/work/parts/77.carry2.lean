theorem FI.beg {tv : Nat → Int} {cf : Cf} {σ : St} {o : Int} {lp : Int → Int → Int} {vw : Int → Int} {vp : Int → Int → Int → Int} {Sp : Int → Int → (Int → Int → Int) → Prop} {T : Int} {b : Int} (h : BI tv cf σ o lp vw vp Sp T NoE) (hb : 0 ≤ b ∧ b < cf.1) (hcb : gA σ 259 o b = -1) : FI tv cf σ o lp vw vp Sp T b (gI σ 261 o) ∧ gA σ 133 0 b = 1 := by
  have c := (h.2.2.1 b hb.1 hb.2 (fun z => z)).2.1 hcb
  refine ⟨⟨h.ex (fun _ q => q.elim) (Int.le_refl _) h.2.2.2.2.2.2.2.2.2.2, hcb, c.1, (h.2.1 b hb.1 hb.2 (fun z => z) c.1).1, ?_, Int.le_refl _⟩, c.2⟩
  intro b' b0 b1 _ x1 x2
  exact ((h.2.1 b' b0 b1 (fun z => z) x1).2 x2).2.2.2.2
theorem FI.fr {tv : Nat → Int} {cf : Cf} {σ : St} {o : Int} {lp : Int → Int → Int} {vw : Int → Int} {vp : Int → Int → Int → Int} {Sp : Int → Int → (Int → Int → Int) → Prop} {T : Int} {τ : St} {b S : Int} {M : Nat → Int → Prop} (h : FI tv cf σ o lp vw vp Sp T b S) (f : Fr M σ τ) (n : ∀ f o', rBI o f o' → ¬ M f o') : FI tv cf τ o lp vw vp Sp T b S := by
  obtain ⟨a1, a2, a3, a4, a5, a6⟩ := h
  unfold FI
  rw [f.a 133 0 (n _ _ (Or.inl ⟨Or.inl (by decide), rfl⟩)), f.a 134 0 (n _ _ (Or.inl ⟨Or.inl (by decide), rfl⟩)), f.a 259 o (n _ _ (Or.inr ⟨Or.inl (by decide), rfl⟩)), f.a 260 o (n _ _ (Or.inr ⟨Or.inl (by decide), rfl⟩)), f.i 261 o (n _ _ (Or.inr ⟨Or.inl (by decide), rfl⟩))]
  exact ⟨a1.fr f n, a2, a3, a4, a5, a6⟩
theorem UT.fr {cf : Cf} {o : Int} {σ τ : St} {lp : Int → Int → Int} {M : Nat → Int → Prop} (f : Fr M σ τ) (n : ∀ f o', rBI o f o' → ¬ M f o') : UT cf o σ lp τ lp := by
  intro b _ _ _ _
  rw [f.a 133 0 (n _ _ (Or.inl ⟨Or.inl (by decide), rfl⟩)), f.a 259 o (n _ _ (Or.inr ⟨Or.inl (by decide), rfl⟩))]
  exact ⟨rfl, rfl, fun _ _ _ => rfl⟩
theorem FB.fr {tv : Nat → Int} {cf : Cf} {σ τ : St} {o : Int} {lp : Int → Int → Int} {b n cp pgs ck k : Int} {pg : Int → Int → Int} {M : Nat → Int → Prop} (h : FB tv cf σ o lp b n cp pgs ck pg k) (f : Fr M σ τ) (n' : ∀ f o', rBI o f o' → ¬ M f o') : FB tv cf τ o lp b n cp pgs ck pg k := by
  unfold FB at h ⊢
  rw [f.a 133 0 (n' _ _ (Or.inl ⟨Or.inl (by decide), rfl⟩)), f.i 261 o (n' _ _ (Or.inr ⟨Or.inl (by decide), rfl⟩))]
  exact h
theorem FB.nx {tv : Nat → Int} {cf : Cf} (hc : CfOK cf) {σ τ : St} {o : Int} {lp : Int → Int → Int} {b n cp pgs ck k : Int} {pg : Int → Int → Int} {x : Int → Int} (h : FB tv cf σ o lp b n cp pgs ck pg k) (hk : 0 ≤ k ∧ 2 + k < cf.2.1) (ew : gA τ 133 0 = upF (gA σ 133 0) b (2 + k + 1)) (es : gI τ 261 o = gI σ 261 o) (hx : ∀ i, 0 ≤ i → i < 128 → x i = pg k i) : FB tv cf τ o (upP lp (b * cf.2.1 + (2 + k)) x) b n cp pgs ck pg (k + 1) := by
  obtain ⟨f1, f2, f3, f4, f5, f6, f7, f8⟩ := h
  have l1 : upP lp (b * cf.2.1 + (2 + k)) x (b * cf.2.1 + 1) = lp (b * cf.2.1 + 1) := by unfold upP; rw [if_neg (by omega)]
  unfold FB
  rw [l1, es]
  refine ⟨by rw [ew]; unfold upF; rw [if_pos rfl]; omega, f2, f3, f4, f5, f6, f7, fun j j0 j1 i i0 i1 => ?_⟩
  unfold upP
  by_cases e : j = k
  · rw [if_pos (by omega), hx i i0 i1, e]
  · rw [if_neg (by omega)]; exact f8 j j0 (by omega) i i0 i1
def mCa (o : Int) (f : Nat) (o' : Int) : Prop := mSt o f o' ∨ (f = 258 ∧ o' = o)
theorem mSt_no (o : Int) : ∀ f o', ((f = 258 ∨ (265 ≤ f ∧ f ≤ 268)) ∨ (f < 130) ∨ (136 < f ∧ f < 259) ∨ 273 < f) → ¬ mSt o f o' := fun f o' a q => by unfold mSt at q; omega
