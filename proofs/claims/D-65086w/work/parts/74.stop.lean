/-! a move ends, or is stopped -/
def mMv (o : Int) (f : Nat) (o' : Int) : Prop := (f = 259 ∨ f = 258 ∨ f = 265) ∧ o' = o
theorem sA_ne {σ : St} {f : Nat} {o i v x : Int} (h : x ≠ i) : gA (sA σ f o i v) f o x = gA σ f o x := by rw [gA_sA, if_neg (fun q => h q.2.2)]
theorem sA_eq {σ : St} {f : Nat} {o i v : Int} : gA (sA σ f o i v) f o i = v := by rw [gA_sA, if_pos ⟨rfl, rfl, rfl⟩]
theorem sA_if {σ : St} {f : Nat} {o i v x : Int} : gA (sA σ f o i v) f o x = if x = i then v else gA σ f o x := by
  by_cases h : x = i
  · rw [h, sA_eq, if_pos rfl]
  · rw [sA_ne h, if_neg h]
theorem sA_of {σ : St} {f f' : Nat} {o o' i v x : Int} (h : f' ≠ f) : gA (sA σ f o i v) f' o' x = gA σ f' o' x := by rw [gA_sA, if_neg (fun q => h q.1)]
theorem sp_endMove {tv : Nat → Int} {cf : Cf} {σ : St} {o : Int} {lp : Int → Int → Int} {vw : Int → Int} {vp : Int → Int → Int → Int} {Sp : Int → Int → (Int → Int → Int) → Prop} {T : Int} (hc : CfOK cf) {Q : St → Prop} (h : BI tv cf σ o lp vw vp Sp T NoE) (hm : gI σ 265 o ≠ -1) (hd : gI σ 267 o = gI σ 268 o)
    (hQ : ∀ τ, BI tv cf τ o lp vw vp Sp T NoE → gI τ 265 o = -1 → Fr (mMv o) σ τ → Q τ) : wp_Blocks_endMove cf tv o Q σ := by
  obtain ⟨h1, h2, h3, h4, h5, h6, h7, h8, h9, h10⟩ := id h
  rcases h5 with q | ⟨n, t, s, a1, a2, a3, a4, a5, a6, a7, a8, a9, a10, a11, a12, a13, a14, a15, a16, a17⟩
  · exact absurd q hm
  have cs : gA σ 259 o s = n := by
    rcases h4 n a4.1 a4.2 with q | ⟨-, q⟩
    · omega
    · rw [a3] at q; exact q
  have st : s ≠ t := fun e => by rw [e] at cs; omega
  have hw : gA σ 133 0 t = gA σ 133 0 s := by omega
  unfold wp_Blocks_endMove
  rw [a1, a3]
  refine ⟨a4, a5, fun σ5 e5 => ?_⟩
  have m5 : gI σ5 265 o = n := by rw [e5]; exact a1
  have t5 : gI σ5 266 o = t := by rw [e5]; exact a2
  rw [m5, t5]
  refine ⟨a6, fun σ6 e6 => ?_⟩
  have m6 : gI σ6 265 o = n := by rw [e6]; exact m5
  have t6 : gI σ6 266 o = t := by rw [e6]; exact t5
  rw [m6, t6]
  refine ⟨a4, fun σ7 e7 σ8 e8 => ?_⟩
  have H0 : BI tv cf (sI σ 265 o (-1)) o lp vw vp Sp T (OneE t) := h.mvoff (fun b q => ⟨fun z => z, fun e => q (by rw [e]; exact a2)⟩)
  have cx : ∀ x, gA σ8 259 o x = if x = t then n else if x = s then -2 else gA σ 259 o x := by
    intro x
    have : gA σ8 259 o x = gA σ6 259 o x := by rw [e8, e7, gA_sI, sA_of (by decide)]
    rw [this, e6, sA_if, e5, sA_if]
  have bx : ∀ x, gA σ8 258 o x = if x = n then t else gA σ 258 o x := by
    intro x
    have : gA σ8 258 o x = gA σ7 258 o x := by rw [e8]; rfl
    rw [this, e7, sA_if, e6, e5, sA_of (by decide), sA_of (by decide)]
  have fr0 : Fr (mCb o) (sI σ 265 o (-1)) σ8 := by
    have : σ8 = sA (sA (sA (sI σ 265 o (-1)) 259 o s (-2)) 259 o t n) 258 o n t := by rw [e8, e7, e6, e5]; rfl
    rw [this]
    exact (((Fr.rf _ _).sA ⟨Or.inl rfl, rfl⟩).sA ⟨Or.inl rfl, rfl⟩).sA ⟨Or.inr rfl, rfl⟩
  have fr : Fr (mMv o) σ σ8 := ((Fr.rf _ σ).sI (f := 265) (v := -1) ⟨Or.inr (Or.inr rfl), rfl⟩).tr (fr0.mono (fun f o' q => by unfold mCb at q; unfold mMv; omega))
  have m8 : gI σ8 265 o = -1 := by rw [e8, gI_sI, if_pos ⟨rfl, rfl⟩]
  have ct : ∀ k, 0 ≤ k → k < gA σ 133 0 s - 2 → ∀ i, 0 ≤ i → i < 128 → lp (t * cf.2.1 + (2 + k)) i = lp (s * cf.2.1 + (2 + k)) i := fun k k0 k1 => a16 k k0 (by omega)
  have wt : whB tv cf σ lp t := by
    refine Or.inr ⟨by rw [a11]; omega, ?_⟩
    rw [a15, a11]
    refine cko_ext _ (fun k hk i i0 i1 => ?_)
    exact a16 k (by omega) (by omega) i i0 i1
  clear e5 e6 e7 e8
  have v8 := (h8 n a4.1 a4.2).2 (by omega)
  rw [a3] at v8
  have H1 : BI tv cf σ8 o lp vw vp Sp T (OneE s) := by
    refine H0.switch hc (t := t) (n := n) a6 a4 ?_ ?_ (Or.inl ?_) ?_ ?_ a8 ?_ a9 wt ?_ ?_ ?_ bx fr0 ⟨?_, ?_⟩ (fun n' _ => ⟨rfl, rfl⟩)
    · intro b b0 bE bt
      exact ⟨bt, fun e => bE (e.trans a3)⟩
    · rw [gI_sI, if_pos ⟨rfl, rfl⟩]; omega
    · rw [gI_sI, if_pos ⟨rfl, rfl⟩]
    · intro n' n0 n1 e
      have e' : gA σ 258 o n' = t := e
      rcases h4 n' n0 n1 with q | ⟨-, q⟩
      · omega
      · rw [e'] at q; omega
    · intro b b0 b1 bt
      exact h2 b b0 b1 (fun z => z)
    · show 2 ≤ gA σ 133 0 t
      omega
    · intro b b0 b1 bt bs x1 x2 x3 x4
      have q := h6 s b a5.1 a5.2 b0 b1 (fun e => bs e.symm) (fun z => z) (fun z => z) (by omega) x1 x2 (by rw [cs]; exact x3) x4
      rcases q with q | q
      · omega
      · exact absurd (q.2.trans a2) bt
    · intro b b0 b1 bt bs x1 x2 x3 x4
      rcases h7 b b0 b1 (fun z => z) x1 x2 x3 with q | ⟨s', y1, y2, y3, y4⟩
      · exact Or.inl q
      · rw [x4, a3] at y1
        subst y1
        refine Or.inr ⟨?_, fun k k0 k1 i i0 i1 => ?_⟩
        · show gA σ 133 0 b ≤ gA σ 133 0 t
          omega
        · have k1' : k < gA σ 133 0 b - 2 := k1
          rw [y4 k k0 k1' i i0 i1]
          exact (ct k k0 (by omega) i i0 i1).symm
    · intro x x0 xs
      have xs' : x ≠ s := fun e => xs (e.trans a3.symm)
      rw [cx]
      by_cases e : x = t
      · rw [if_pos e, if_pos e]
      · rw [if_neg e, if_neg e, if_neg xs']; rfl
    · show vw n = gA σ 133 0 t - 2
      omega
    · intro k k0 k1 i i0 i1
      rw [v8.2 k k0 k1 i i0 i1, ct k k0 (by omega) i i0 i1]
  refine hQ σ8 (H1.adm (b := s) (fun b' _ ne q => ne q) ?_ ?_ ?_ ?_ ?_) m8 fr
  all_goals
    have ew := fr.a 133 0 (fun q => by unfold mMv at q; omega)
    have eb := fr.a 134 0 (fun q => by unfold mMv at q; omega)
    have cs8 : gA σ8 259 o s = -2 := by rw [cx, if_neg st, if_pos rfl]
    have ct8 : gA σ8 259 o t = n := by rw [cx, if_pos rfl]
    have sb : gA σ 134 0 s = 0 := by
      apply Classical.byContradiction
      intro z
      have := (h3 s a5.1 a5.2 (fun z => z)).2.2.2.1 z
      omega
  · intro b b0 b1 bE
    rw [ew, eb, fr.a 260 o (fun q => by unfold mMv at q; omega), fr.i 261 o (fun q => by unfold mMv at q; omega)]
    exact h2 b b0 b1 (fun z => z)
  · intro b b0 b1 bE
    have e : b = s := Classical.byContradiction (fun q => bE q)
    rw [e, cs8, eb, sb]
    exact ⟨by omega, fun q => by omega, fun q => by omega, fun q => absurd rfl q, fun q => by omega⟩
  · intro b' b0 b1 bs bE x1 x2 x3 x4 x5
    have wh : whB tv cf σ lp s := by unfold whB at x5 ⊢; rw [ew] at x5; exact x5
    rw [ew] at x3
    by_cases e : b' = t
    · rw [e]; exact Or.inl (Or.inl a17)
    · rw [cx, if_neg e, if_neg bs] at x4 x1
      have hs := ((h3 s a5.1 a5.2 (fun z => z)).2.2.2.2 (by omega)).2.2.2.1
      have hb' := ((h3 b' b0 b1 (fun z => z)).2.2.2.2 x1).2.1
      rw [← x4, hs, cs, a3] at hb'
      exact absurd hb'.symm bs
  · intro b' _ _ _ _ q; rw [cs8] at q; omega
  · intro b b0 b1 bE x1 x2 x3
    have e : b = s := Classical.byContradiction (fun q => bE q)
    rw [e]
    have hs := ((h3 s a5.1 a5.2 (fun z => z)).2.2.2.2 (by omega)).2.2.2.1
    refine Or.inr ⟨t, by rw [hs, cs, bx, if_pos rfl], by omega, by rw [ew]; omega, ?_⟩
    intro k k0 k1 i i0 i1
    rw [ew] at k1
    exact (ct k k0 k1 i i0 i1).symm
theorem sp_stopMove {tv : Nat → Int} {cf : Cf} {σ : St} {o : Int} {lp : Int → Int → Int} {vw : Int → Int} {vp : Int → Int → Int → Int} {Sp : Int → Int → (Int → Int → Int) → Prop} {T : Int} (hc : CfOK cf) (hrk : RK σ) {n : Int} {Q : St → Prop} (h : BI tv cf σ o lp vw vp Sp T NoE) (hn : 0 ≤ n)
    (hQ : ∀ τ, BI tv cf τ o lp vw vp Sp T NoE → gI τ 265 o ≠ n → Fr (mMv o) σ τ → RK τ → Q τ) : wp_Blocks_stopMove cf tv o n Q σ := by
  unfold wp_Blocks_stopMove
  refine ⟨fun q => hQ σ h q (Fr.rf _ _) hrk, fun q => ⟨fun q1 => ⟨fun q2 => ?_, fun q2 => ?_⟩, fun q1 => by omega⟩⟩
  · obtain ⟨h1, h2, h3, h4, h5, h6, h7, h8, h9, h10⟩ := id h
    rcases h5 with q3 | ⟨n', t, s, a1, a2, a3, a4, a5, a6, a7, a8, a9, a10, a11, a12, a13, a14, a15, a16, a17⟩
    · exact absurd q3 q1
    rw [a2]
    refine ⟨a6, fun σ5 e5 σ6 e6 => ?_⟩
    have H0 : BI tv cf (sI σ 265 o (-1)) o lp vw vp Sp T (OneE t) := h.mvoff (fun b q => ⟨fun z => z, fun e => q (by rw [e]; exact a2)⟩)
    have e7 : σ6 = sA (sI σ 265 o (-1)) 259 o t (-2) := by rw [e6, e5]; rfl
    have fr0 : Fr (mSt o) (sI σ 265 o (-1)) σ6 := by rw [e7]; exact (Fr.rf _ _).sA (Or.inr ⟨Or.inl (by decide), rfl⟩)
    have fr1 : Fr (fun f o' => f = 259 ∧ o' = o) (sI σ 265 o (-1)) σ6 := by rw [e7]; exact (Fr.rf _ _).sA ⟨rfl, rfl⟩
    have fr : Fr (mMv o) σ σ6 := ((Fr.rf _ σ).sI (f := 265) (v := -1) ⟨Or.inr (Or.inr rfl), rfl⟩).tr (fr1.mono (fun f o' q => ⟨Or.inl q.1, q.2⟩))
    have m6 : gI σ6 265 o = -1 := by rw [e6, gI_sI, if_pos ⟨rfl, rfl⟩]
    have cx : ∀ x, gA σ6 259 o x = if x = t then -2 else gA σ 259 o x := by
      intro x; rw [e7, sA_if]; rfl
    have k6 : RK σ6 := by rw [e7]; exact (hrk.sI (by show rI (-1); unfold rI; omega)).sA (by show rI (-2); unfold rI; omega)
    clear e5 e6 e7
    have nc : ∀ f o', f ≠ 259 → ¬ (f = 259 ∧ o' = o) := fun f o' a q => a q.1
    have ew : gA σ6 133 0 = gA σ 133 0 := fr1.a 133 0 (nc _ _ (by decide))
    have eb : gA σ6 134 0 = gA σ 134 0 := fr1.a 134 0 (nc _ _ (by decide))
    have ee : gA σ6 260 o = gA σ 260 o := fr1.a 260 o (nc _ _ (by decide))
    have es : gI σ6 261 o = gI σ 261 o := fr1.i 261 o (nc _ _ (by decide))
    have ef : gI σ6 136 0 = gI σ 136 0 := fr1.i 136 0 (nc _ _ (by decide))
    have el : fl σ6 = fl σ := fl_fr fr (fun q => by unfold mMv at q; omega)
    have nw : ¬ whB tv cf σ6 lp t := by
      intro z
      unfold whB at z
      rw [ew] at z
      omega
    have H1 : BI tv cf σ6 o lp vw vp Sp T (OneE t) := by
      refine H0.step hc rfl ?_ (Or.inl ?_) fr0 (H0.1.fr fr1 (fun f a c => nc f 0 (by omega))) (fun _ _ _ _ _ => rfl) (fun b' _ => by rw [ew]; rfl) (fun b' _ => by rw [eb]; rfl) (fun b' q => by rw [cx, if_neg q]; rfl) (fun b' _ => by rw [ee]; rfl) ⟨?_, ?_⟩ ⟨Int.le_refl _, h10.2⟩ ?_
      · intro n'' n0 n1 e
        have e' : gA σ 258 o n'' = t := e
        rcases h4 n'' n0 n1 with z | ⟨-, z⟩
        · omega
        · rw [e'] at z; omega
      · rw [gI_sI, if_pos ⟨rfl, rfl⟩]
      · rw [es]; exact Int.le_refl _
      · rw [es]; exact h10.1.2
      · unfold BF brk at h9 ⊢; rw [eb, ef, el]; exact h9
    refine hQ σ6 (H1.adm (b := t) (fun b' _ ne q => ne q) ?_ ?_ ?_ ?_ ?_) (by omega) fr k6
    · intro b b0 b1 bE
      rw [ew, eb, ee, es]
      exact h2 b b0 b1 (fun z => z)
    · intro b b0 b1 bE
      have e : b = t := Classical.byContradiction (fun q => bE q)
      rw [e, cx, if_pos rfl, eb, a8]
      exact ⟨by omega, fun q => by omega, fun q => by omega, fun q => absurd rfl q, fun q => by omega⟩
    · intro b' _ _ _ _ _ _ _ _ z; exact absurd z nw
    · intro b' _ _ _ _ z; rw [cx, if_pos rfl] at z; omega
    · intro b b0 b1 bE x1 x2 x3
      have e : b = t := Classical.byContradiction (fun q => bE q)
      rw [e] at x3; exact absurd x3 nw
  · refine sp_endMove hc h q1 q2 (fun τ H m f k => hQ τ H (by omega) f k)
