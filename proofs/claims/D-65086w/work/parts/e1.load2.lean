/-- the tree below z in τ is that below x in σc, in knots that were free in σ -/
def LDo (tv : Nat → Int) (cf : Cf) (dk : Int → Int) (db : Int → Int → Int) (σc σ τ : St) (o : Int) (l : Nat) (x z mn lo hi : Int) : Prop :=
  (RK τ ∧ (0 ≤ z ∧ z < 640) ∧ gI τ 577 z = gI σc 577 x ∧ ∀ k, 0 ≤ k → k < gI σc 577 x → ky τ z k = ky σc x k) ∧ WT τ l mn 8 z lo hi ∧ ls τ l z = ls σc l x ∧ (∀ y, y ∈ kl τ l z → gI τ 584 y = 0 ∧ FP σ o y ∧ ¬ FP τ o y ∧ ∃ y', y' ∈ kl σc l x ∧ gI τ 585 y = gI σc 585 y' ∧ gI τ 586 y = gI σc 586 y') ∧ (PO τ o ∧ (∀ y, FP τ o y → FP σ o y) ∧ gI τ 386 o = gI σ 386 o + (kl σc l x).length ∧ (kl τ l z).length = (kl σc l x).length) ∧ (∀ n, kS τ (kl τ l z) n = kS σc (kl σc l x) n) ∧ (gI τ 585 z = gI σc 585 x ∧ gI τ 586 z = gI σc 586 x ∧ gI τ 587 z = gI σc 587 x) ∧ (gI σ 202 o ≤ gI τ 202 o ∧ ∀ b, gI σ 202 o ≤ b → (∀ y, y ∈ kl σc l x → srl (db (gI σc 585 y)) (gI σc 586 y) ≤ b) → gI τ 202 o ≤ b) ∧ ((∀ y, y ∈ kl σc l x → gA τ 325 o (gI σc 585 y) = 1) ∧ ∀ n, (∀ y, y ∈ kl σc l x → gI σc 585 y ≠ n) → gA τ 325 o n = gA σ 325 o n) ∧ Fr (mLd σ o) σ τ ∧ ∀ y, y ∈ kl τ l z → knE tv cf db (lmF dk) τ y
theorem mLd_b {σ : St} {o : Int} : ∀ f o', rBI o f o' → ¬ mLd σ o f o' := fun f o' a q => by
  unfold rBI at a
  unfold mLd mRd2 mPg mRow at q
  rcases q with q | q | q
  · omega
  · omega
  · have := q.1; omega
theorem mLd_w {σ : St} {o : Int} : ∀ f w, 450 ≤ f → f ≤ 452 → ¬ mLd σ o f w := fun f w a b q => by
  unfold mLd mRd2 mPg mRow at q
  rcases q with q | q | q
  · omega
  · omega
  · have := q.1; omega
theorem mLd_k {σ : St} {o y : Int} (h : ¬ FP σ o y) : ∀ f, 576 ≤ f → f ≤ 587 → ¬ mLd σ o f y := fun f a b q => by
  unfold mLd mRd2 mPg mRow at q
  rcases q with q | q | q
  · omega
  · omega
  · exact h q.2
theorem knG.of {tv : Nat → Int} {σc τ : St} {x z p : Int} {g : Int → Int} (h : knG tv σc x g p) (h1 : gI τ 577 z = gI σc 577 x) (h2 : gI τ 576 z = gI σc 576 x) (h3 : ∀ k, 0 ≤ k → k < gI σc 577 x → gA τ 578 z k = gA σc 578 x k ∧ gA τ 579 z k = gA σc 579 x k ∧ oN τ z k = oN σc x k ∧ oP τ z k = oP σc x k ∧ oZ τ z k = oZ σc x k) : knG tv τ z g p := by
  obtain ⟨g1, g2, g3, g4, g5⟩ := h
  refine ⟨by rw [h1]; exact g1, g2, by rw [h2]; exact g3, by rw [h1]; exact g4, fun k k0 k1 => ?_⟩
  rw [h1] at k1
  obtain ⟨a1, a2, a3, a4, a5⟩ := h3 k k0 k1
  rw [a1, a2, a3, a4, a5]
  exact g5 k k0 k1
theorem knE.of {tv : Nat → Int} {cf : Cf} {db : Int → Int → Int} {lim : Int → Int} {σc τ : St} {x z : Int} (h : knE tv cf db lim σc x) (h0 : gI τ 584 z = 0) (h1 : gI τ 577 z = gI σc 577 x) (h2 : gI τ 576 z = gI σc 576 x) (ho : gI τ 585 z = gI σc 585 x ∧ gI τ 586 z = gI σc 586 x ∧ gI τ 587 z = gI σc 587 x) (h3 : ∀ k, 0 ≤ k → k < gI σc 577 x → gA τ 578 z k = gA σc 578 x k ∧ gA τ 579 z k = gA σc 579 x k ∧ oN τ z k = oN σc x k ∧ oP τ z k = oP σc x k ∧ oZ τ z k = oZ σc x k) : knE tv cf db lim τ z := by
  obtain ⟨x1, x2, x3, x4, x5, x6⟩ := h
  unfold knE
  rw [ho.1, ho.2.1, ho.2.2, h1]
  exact ⟨h0, x2, x3, x4, x5, x6.of h1 h2 h3⟩
/-- knots below a knot of a tree are of it -/
theorem WT.chd {σ : St} : ∀ {l : Nat} {mn mx z lo hi : Int}, WT σ l mn mx z lo hi → ∀ {y k : Int}, y ∈ kl σ l z → 0 ≤ k → k < gI σ 577 y → be σ y k < 0 ∨ be σ y k ∈ kl σ l z
  | 0, mn, mx, z, lo, hi, h, y, k, hy, k0, k1 => by
    rw [List.mem_singleton.mp hy] at k1 ⊢
    left
    have := (h.2.2.2 k k0 k1).2
    omega
  | l + 1, mn, mx, z, lo, hi, h, y, k, hy, k0, k1 => by
    rcases List.mem_cons.mp hy with e | e
    · rw [e] at k1 ⊢
      exact Or.inr (kl_below k0 k1 (kl_self _ _ _))
    · obtain ⟨i, i1, i2⟩ := cat_mem e
      have ic : i < gI σ 577 z := by have := h.2.2.1; omega
      rcases (h.2.2.2 i i1.1 ic).2.2.chd i2 k0 k1 with w | w
      · exact Or.inl w
      · exact Or.inr (kl_below i1.1 ic w)
theorem knE.fr {tv : Nat → Int} {cf : Cf} {db : Int → Int → Int} {lim : Int → Int} {σ τ : St} {y : Int} (h : knE tv cf db lim σ y) (hy : KE σ τ y ∧ OE σ τ y) (hc : ∀ k, 0 ≤ k → k < gI σ 577 y → be σ y k < 0 ∨ OE σ τ (be σ y k)) : knE tv cf db lim τ y := by
  refine h.of (by rw [hy.2.1]; exact h.1) hy.1.2.1 hy.1.1 ⟨hy.2.2.1, hy.2.2.2.1, hy.2.2.2.2⟩ (fun k k0 k1 => ?_)
  have e := hy.1.2.2 k
  have b := hy.1.b k
  refine ⟨congrArg (fun t : Int × Int × Int × Int × Int × Int => t.1) e, congrArg (fun t : Int × Int × Int × Int × Int × Int => t.2.1) e, ?_, ?_, ?_⟩
  · unfold oN
    rw [b]
    rcases hc k k0 k1 with w | w
    · rw [if_pos w, if_pos w]; exact congrArg (fun t : Int × Int × Int × Int × Int × Int => t.2.2.1) e
    · by_cases q : be σ y k < 0
      · rw [if_pos q, if_pos q]; exact congrArg (fun t : Int × Int × Int × Int × Int × Int => t.2.2.1) e
      · rw [if_neg q, if_neg q]; exact w.2.1
  · unfold oP
    rw [b]
    rcases hc k k0 k1 with w | w
    · rw [if_pos w, if_pos w]; exact congrArg (fun t : Int × Int × Int × Int × Int × Int => t.2.2.2.1) e
    · by_cases q : be σ y k < 0
      · rw [if_pos q, if_pos q]; exact congrArg (fun t : Int × Int × Int × Int × Int × Int => t.2.2.2.1) e
      · rw [if_neg q, if_neg q]; exact w.2.2.1
  · unfold oZ
    rw [b]
    rcases hc k k0 k1 with w | w
    · rw [if_pos w, if_pos w]; exact congrArg (fun t : Int × Int × Int × Int × Int × Int => t.2.2.2.2.1) e
    · by_cases q : be σ y k < 0
      · rw [if_pos q, if_pos q]; exact congrArg (fun t : Int × Int × Int × Int × Int × Int => t.2.2.2.2.1) e
      · rw [if_neg q, if_neg q]; exact w.2.2.2
/-- all knots of a tree stay as they are -/
theorem knE.tree {tv : Nat → Int} {cf : Cf} {db : Int → Int → Int} {lim : Int → Int} {σ τ : St} {l : Nat} {mn mx z lo hi : Int} (hT : WT σ l mn mx z lo hi) (hk : ∀ w, w ∈ kl σ l z → KE σ τ w ∧ OE σ τ w) (h : ∀ w, w ∈ kl σ l z → knE tv cf db lim σ w) : ∀ w, w ∈ kl σ l z → knE tv cf db lim τ w := by
  intro w hw
  refine (h w hw).fr (hk w hw) (fun k k0 k1 => ?_)
  rcases hT.chd hw k0 k1 with q | q
  · exact Or.inl q
  · exact Or.inr (hk _ q).2
theorem sp_load {tv : Nat → Int} {cf : Cf} {o : Int} {dk : Int → Int} {db : Int → Int → Int} {Sp : Int → Int → (Int → Int → Int) → Prop} {B : Int} {σc : St} (hc : CfOK cf) (ho : o = 0 ∨ o = 1) : ∀ (l d : Nat) (σ : St) (x mn lo hi : Int) (Q : Int → St → Prop), l < d → RK σ → DJ tv cf σ o dk db Sp B → noW σ o → WT σc l mn 8 x lo hi → (∀ y, y ∈ kl σc l x → knE tv cf db (lmF dk) σc y) → PO σ o → gI σ 386 o + (kl σc l x).length ≤ 320 → (∀ τ z, LDo tv cf dk db σc σ τ o l x z mn lo hi → Q z τ) → wp_Store_load cf tv d o (gI σc 585 x) (gI σc 586 x) (gI σc 587 x) Q σ := by
  intro l
  induction l with
  | zero =>
    intro d σ x mn lo hi Q hd hrk hD hW hT hk hp hf hQ
    obtain ⟨d', rfl⟩ : ∃ d', d = d' + 1 := ⟨d - 1, by omega⟩
    have c := hT.cnt
    have hf' : gI σ 386 o + 1 ≤ 320 := hf
    refine sp_ldhead hc ho hrk hD hW (hk x (List.mem_singleton.mpr rfl)) ⟨c.2.2.2.1, c.2.2.2.2⟩ hp (by omega) (fun τ z r1 r2 r3 r4 r5 r6 r7 r8 r9 r10 r11 r12 r13 r14 r15 r16 => ?_)
    have pz : 0 ≤ z ∧ z < 640 := by
      obtain ⟨i, i1, i2⟩ := r2
      have := (hp.2 i i1.1 i1.2).1
      omega
    have lv : gI τ 576 z = 0 := by rw [r7, c.2.1]; rfl
    have en' : ∀ k, 0 ≤ k → k < gI σc 577 x → en τ z k = en σc x k := by
      intro k k0 k1
      have b := (hT.2.2.2 k k0 k1).2
      rw [r9 k k0 k1]
      unfold oN oP oZ
      rw [b, if_pos (by omega), if_pos (by omega), if_pos (by omega), ← b]
      rfl
    have ky' : ∀ k, 0 ≤ k → k < gI σc 577 x → ky τ z k = ky σc x k := fun k k0 k1 => by unfold ky; rw [en' k k0 k1]
    have fin : LDo tv cf dk db σc σ τ o 0 x z mn lo hi := by
      refine ⟨⟨r1, pz, r8, ky'⟩, ⟨pz, lv, by rw [r8]; exact c.2.2, fun k k0 k1 => ?_⟩, ?_, ?_, ⟨r4, r5, r6, rfl⟩, ?_, ⟨r11, r12, r13⟩, ⟨by rw [r14]; omega, fun b b1 b2 => ?_⟩, ⟨?_, ?_⟩, r16, ?_⟩
      · rw [r8] at k1
        have q := hT.2.2.2 k k0 k1
        have e : nx τ z k hi = nx σc x k hi := by
          unfold nx
          rw [r8]
          by_cases w : k + 1 < gI σc 577 x
          · rw [if_pos w, if_pos w, ky' _ (by omega) w]
          · rw [if_neg w, if_neg w]
        rw [ky' k k0 k1, e]
        refine ⟨q.1, ?_⟩
        show (en τ z k).2.2.2.2.2 = -1
        rw [en' k k0 k1]; exact q.2
      · show cat (fun k => [en τ z k]) (gI τ 577 z).toNat = cat (fun k => [en σc x k]) (gI σc 577 x).toNat
        rw [r8]
        exact cat_ext _ (fun i i0 i1 => by rw [en' i i0 (by omega)])
      · intro y hy
        rw [List.mem_singleton.mp hy]
        exact ⟨r10, r2, r3, x, List.mem_singleton.mpr rfl, r11, r12⟩
      · intro n
        show kS τ [z] n = kS σc [x] n
        rw [kS_cons, kS_cons]
        have : fz τ z n = fz σc x n := by unfold fz; rw [r10, r11, r13, (hk x (List.mem_singleton.mpr rfl)).1]
        rw [this]; rfl
      · rw [r14]
        have := b2 x (List.mem_singleton.mpr rfl)
        omega
      · intro y hy
        rw [List.mem_singleton.mp hy, r15]; unfold upF; rw [if_pos rfl]
      · intro n hn
        rw [r15]; unfold upF; rw [if_neg (fun e => hn x (List.mem_singleton.mpr rfl) e.symm)]
      · intro y hy
        rw [List.mem_singleton.mp hy]
        refine (hk x (List.mem_singleton.mpr rfl)).of r10 r8 r7 ⟨r11, r12, r13⟩ (fun k k0 k1 => ?_)
        have e := en' k k0 k1
        have b : be τ z k = be σc x k := by unfold be; rw [e]
        have bn := (hT.2.2.2 k k0 k1).2
        unfold oN oP oZ
        rw [b, bn, if_pos (by omega), if_pos (by omega), if_pos (by omega), if_pos (by omega), if_pos (by omega), if_pos (by omega)]
        exact ⟨congrArg (fun t : Int × Int × Int × Int × Int × Int => t.1) e, congrArg (fun t : Int × Int × Int × Int × Int × Int => t.2.1) e, congrArg (fun t : Int × Int × Int × Int × Int × Int => t.2.2.1) e, congrArg (fun t : Int × Int × Int × Int × Int × Int => t.2.2.2.1) e, congrArg (fun t : Int × Int × Int × Int × Int × Int => t.2.2.2.2.1) e⟩
    refine lQ2_rule (fun y4 y5 υ => y4 = z ∧ υ = τ) (fun _ _ _ => 0) ?_ z 0 τ ⟨rfl, rfl⟩
    intro K y4 y5 υ hI hK
    rw [hI.1, hI.2]
    unfold wp_Store_load_L222
    exact ⟨pz.1, fun _ => hQ τ z fin, fun _ => ⟨fun _ => hQ τ z fin, fun w => absurd (by omega) w⟩⟩
  | succ l ih =>
    intro d σ x mn lo hi Q hd hrk hD hW hT hk hp hf hQ
    obtain ⟨d', rfl⟩ : ∃ d', d = d' + 1 := ⟨d - 1, by omega⟩
    have c := hT.cnt
    generalize hcc : gI σc 577 x = cn at c
    have kle : kl σc (l + 1) x = x :: cat (fun k => kl σc l (be σc x k)) cn.toNat := by show x :: cat _ (gI σc 577 x).toNat = _; rw [hcc]
    have hf' : gI σ 386 o + (1 + (cat (fun k => kl σc l (be σc x k)) cn.toNat).length) ≤ 320 := by
      rw [kle, List.length_cons] at hf; omega
    refine sp_ldhead hc ho hrk hD hW (hk x (kl_self _ _ _)) (by rw [hcc]; exact ⟨c.2.2.2.1, c.2.2.2.2⟩) hp (by omega) (fun τ0 z r1 r2 r3 r4 r5 r6 r7 r8 r9 r10 r11 r12 r13 r14 r15 r16 => ?_)
    rw [hcc] at r8 r9
    have pz : 0 ≤ z ∧ z < 640 := by
      obtain ⟨i, i1, i2⟩ := r2
      have := (hp.2 i i1.1 i1.2).1
      omega
    have hT2 := hT.2.2.2
    rw [hcc] at hT2
    have bpos : ∀ k, 0 ≤ k → k < cn → 0 ≤ be σc x k := fun k k0 k1 => (hT2 k k0 k1).2.2.cnt.1.1
    refine lQ2_rule (fun y4 y5 τ => y4 = z ∧ (0 ≤ y5 ∧ y5 ≤ cn) ∧ RK τ ∧ (gI τ 576 z = ((l + 1 : Nat) : Int) ∧ gI τ 577 z = cn ∧ gI τ 584 z = 0 ∧ (gI τ 585 z = gI σc 585 x ∧ gI τ 586 z = gI σc 586 x ∧ gI τ 587 z = gI σc 587 x) ∧ ∀ k, 0 ≤ k → k < cn → gA τ 578 z k = gA σc 578 x k ∧ gA τ 579 z k = gA σc 579 x k ∧ gA τ 580 z k = oN σc x k ∧ gA τ 581 z k = oP σc x k ∧ gA τ 582 z k = oZ σc x k) ∧ (∀ k, 0 ≤ k → k < y5 → WT τ l 4 8 (be τ z k) (ky σc x k) (nx σc x k hi) ∧ ky τ (be τ z k) 0 = ky σc (be σc x k) 0 ∧ ls τ l (be τ z k) = ls σc l (be σc x k) ∧ (∀ y, y ∈ kl τ l (be τ z k) → gI τ 584 y = 0 ∧ FP τ0 o y ∧ ¬ FP τ o y ∧ ∃ y', y' ∈ kl σc l (be σc x k) ∧ gI τ 585 y = gI σc 585 y' ∧ gI τ 586 y = gI σc 586 y') ∧ (gI τ 585 (be τ z k) = gI σc 585 (be σc x k) ∧ gI τ 586 (be τ z k) = gI σc 586 (be σc x k) ∧ gI τ 587 (be τ z k) = gI σc 587 (be σc x k)) ∧ ∀ y, y ∈ kl τ l (be τ z k) → knE tv cf db (lmF dk) τ y) ∧ (PO τ o ∧ (∀ y, FP τ o y → FP τ0 o y) ∧ gI τ 386 o = gI τ0 386 o + (cat (fun k => kl σc l (be σc x k)) y5.toNat).length ∧ (cat (fun k => kl τ l (be τ z k)) y5.toNat).length = (cat (fun k => kl σc l (be σc x k)) y5.toNat).length) ∧ (∀ n, kS τ (cat (fun k => kl τ l (be τ z k)) y5.toNat) n = kS σc (cat (fun k => kl σc l (be σc x k)) y5.toNat) n) ∧ (gI τ0 202 o ≤ gI τ 202 o ∧ ∀ b, gI τ0 202 o ≤ b → (∀ y, y ∈ cat (fun k => kl σc l (be σc x k)) cn.toNat → srl (db (gI σc 585 y)) (gI σc 586 y) ≤ b) → gI τ 202 o ≤ b) ∧ ((∀ y, (y = x ∨ y ∈ cat (fun k => kl σc l (be σc x k)) y5.toNat) → gA τ 325 o (gI σc 585 y) = 1) ∧ ∀ n, (∀ y, y ∈ cat (fun k => kl σc l (be σc x k)) cn.toNat → gI σc 585 y ≠ n) → gA τ 325 o n = gA τ0 325 o n) ∧ Fr (mLd σ o) σ τ) (fun _ y5 _ => (cn - y5).toNat) ?_ z 0 τ0 ⟨rfl, by omega, r1, ⟨by rw [r7, c.2.1], r8, r10, ⟨r11, r12, r13⟩, ?_⟩, fun k a b => by omega, ⟨r4, fun y h => h, ?_, rfl⟩, fun n => rfl, ⟨by omega, fun b b1 _ => b1⟩, ⟨?_, fun n _ => rfl⟩, r16⟩
    rotate_left
    · intro k k0 k1
      have e := r9 k k0 k1
      exact ⟨congrArg (fun t : Int × Int × Int × Int × Int × Int => t.1) e, congrArg (fun t : Int × Int × Int × Int × Int × Int => t.2.1) e, congrArg (fun t : Int × Int × Int × Int × Int × Int => t.2.2.1) e, congrArg (fun t : Int × Int × Int × Int × Int × Int => t.2.2.2.1) e, congrArg (fun t : Int × Int × Int × Int × Int × Int => t.2.2.2.2.1) e⟩
    · show _ = _ + ((([] : List Int).length : Nat) : Int)
      rw [List.length_nil]; omega
    · intro y hy
      rcases hy with hy | hy
      · rw [hy, r15]; unfold upF; rw [if_pos rfl]
      · exact absurd hy List.not_mem_nil
    intro K y4 y5 τ hI hK
    obtain ⟨e4, h5, rk, ⟨z1, z2, z3, z4, z5⟩, ch, ⟨p1, p2, p3, p4⟩, ks, ⟨s1, s2⟩, ⟨o1, o2⟩, fr⟩ := hI
    rw [e4]
    have kyz : ∀ k, 0 ≤ k → k < cn → ky τ z k = ky σc x k := fun k k0 k1 => by
      obtain ⟨a1, a2, -⟩ := z5 k k0 k1
      show kap (gA τ 578 z k) (gA τ 579 z k) = kap (gA σc 578 x k) (gA σc 579 x k)
      rw [a1, a2]
    unfold wp_Store_load_L222
    rw [z2]
    refine ⟨pz.1, fun q => ?_, fun q => ⟨fun w => absurd w (by omega), fun _ => ⟨by omega, by omega, by omega, ?_⟩⟩⟩
    · -- all children are there
      have ey : y5 = cn := by omega
      rw [ey] at ch p3 p4 ks o1
      have nxe : ∀ k, 0 ≤ k → k < cn → nx τ z k hi = nx σc x k hi := fun k k0 k1 => by
        unfold nx
        rw [z2, hcc]
        by_cases w : k + 1 < cn
        · rw [if_pos w, if_pos w, kyz _ (by omega) w]
        · rw [if_neg w, if_neg w]
      have klz : kl τ (l + 1) z = z :: cat (fun k => kl τ l (be τ z k)) cn.toNat := by show z :: cat _ (gI τ 577 z).toNat = _; rw [z2]
      refine hQ τ z ⟨⟨rk, pz, by rw [hcc]; exact z2, fun k k0 k1 => kyz k k0 (by rw [hcc] at k1; exact k1)⟩, ⟨pz, z1, by rw [z2]; exact ⟨c.2.2.1, by have := hT.2.2.1; rw [hcc] at this; exact this.2.1, c.2.2.2.2⟩, fun k k0 k1 => ?_⟩, ?_, ?_, ⟨p1, fun y hy => r5 y (p2 y hy), ?_, ?_⟩, fun n => ?_, z4, ⟨by rw [r14] at s1; omega, fun b b1 b2 => ?_⟩, ⟨fun y hy => ?_, fun n hn => ?_⟩, fr, fun y hy => ?_⟩
      · rw [z2] at k1
        have a := hT2 k k0 k1
        have b := ch k k0 k1
        rw [kyz k k0 k1, nxe k k0 k1]
        exact ⟨a.1, b.2.1.trans a.2.1, b.1⟩
      · show cat (fun k => ls τ l (be τ z k)) (gI τ 577 z).toNat = cat (fun k => ls σc l (be σc x k)) (gI σc 577 x).toNat
        rw [z2, hcc]
        exact cat_ext _ (fun i i0 i1 => (ch i i0 (by omega)).2.2.1)
      · intro y hy
        rw [klz] at hy
        rcases List.mem_cons.mp hy with w | w
        · rw [w]; exact ⟨z3, r2, fun y => r3 (p2 z y), x, kl_self _ _ _, z4.1, z4.2.1⟩
        · obtain ⟨i, i1, i2⟩ := cat_mem w
          obtain ⟨a1, a2, a3, y', a4, a5, a6⟩ := (ch i i1.1 (by omega)).2.2.2.1 y i2
          exact ⟨a1, r5 y a2, a3, y', by rw [kle]; exact List.mem_cons_of_mem _ (mem_cat i1.1 (by omega) a4), a5, a6⟩
      · rw [p3, r6, kle, List.length_cons]; omega
      · rw [klz, kle, List.length_cons, List.length_cons, p4]
      · rw [klz, kle, kS_cons, kS_cons, ks n]
        have : fz τ z n = fz σc x n := by unfold fz; rw [z3, z4.1, z4.2.2, (hk x (kl_self _ _ _)).1]
        rw [this]
      · refine s2 b ?_ (fun y hy => b2 y (by rw [kle]; exact List.mem_cons_of_mem _ hy))
        rw [r14]
        have := b2 x (kl_self _ _ _)
        omega
      · rw [kle] at hy
        exact o1 y (List.mem_cons.mp hy)
      · rw [o2 n (fun y hy => hn y (by rw [kle]; exact List.mem_cons_of_mem _ hy)), r15]
        unfold upF
        rw [if_neg (fun e => hn x (kl_self _ _ _) e.symm)]
      · rw [klz] at hy
        rcases List.mem_cons.mp hy with w | w
        · rw [w]
          refine (hk x (kl_self _ _ _)).of z3 (z2.trans hcc.symm) (z1.trans hT.cnt.2.1.symm) z4 (fun k k0 k1 => ?_)
          rw [hcc] at k1
          obtain ⟨a1, a2, a3, a4, a5⟩ := z5 k k0 k1
          have own := (ch k k0 k1).2.2.2.2.1
          have bt := (ch k k0 k1).1.cnt.1.1
          have bs := bpos k k0 k1
          unfold oN oP oZ
          rw [if_neg (by omega), if_neg (by omega), if_neg (by omega), if_neg (by omega), if_neg (by omega), if_neg (by omega)]
          exact ⟨a1, a2, own⟩
        · obtain ⟨i, i1, i2⟩ := cat_mem w
          exact (ch i i1.1 (by omega)).2.2.2.2.2 y i2
    · -- one child more
      have ylt : y5 < cn := by omega
      have bw := bpos y5 h5.1 ylt
      obtain ⟨-, -, a3, a4, a5⟩ := z5 y5 h5.1 ylt
      have a3' : gA τ 580 z y5 = gI σc 585 (be σc x y5) := by rw [a3]; unfold oN; rw [if_neg (by omega)]
      have a4' : gA τ 581 z y5 = gI σc 586 (be σc x y5) := by rw [a4]; unfold oP; rw [if_neg (by omega)]
      have a5' : gA τ 582 z y5 = gI σc 587 (be σc x y5) := by rw [a5]; unfold oZ; rw [if_neg (by omega)]
      rw [a3', a4', a5']
      have hTk := (hT2 y5 h5.1 ylt).2.2
      have sub : ∀ y, y ∈ kl σc l (be σc x y5) → y ∈ cat (fun k => kl σc l (be σc x k)) cn.toNat := fun y hy => mem_cat h5.1 (by omega) hy
      have split := cat_at (fun k => kl σc l (be σc x k)) (n := cn.toNat) h5.1 (by omega)
      have catS : cat (fun k => kl σc l (be σc x k)) (y5 + 1).toNat = cat (fun k => kl σc l (be σc x k)) y5.toNat ++ kl σc l (be σc x y5) := by
        rw [show (y5 + 1).toNat = y5.toNat + 1 by omega]
        show cat _ y5.toNat ++ kl σc l (be σc x (y5.toNat : Int)) = _
        rw [show (y5.toNat : Int) = y5 by omega]
      have room : gI τ 386 o + (kl σc l (be σc x y5)).length ≤ 320 := by
        have := congrArg List.length split
        rw [List.length_append, List.length_append] at this
        omega
      refine ih d' τ (be σc x y5) 4 (ky σc x y5) (nx σc x y5 hi) _ (by omega) rk (hD.fr fr mLd_b) (hW.fr fr (fun w _ => mLd_w _ w (by decide) (by decide))) hTk (fun y hy => hk y (by rw [kle]; exact List.mem_cons_of_mem _ (sub y hy))) p1 room (fun τ1 u ld _ k1 => ⟨by omega, fun σ84 e84 y ey => ?_⟩)
      obtain ⟨⟨-, u1, u2, u3⟩, u4, u5, u6, ⟨v1, v2, v3, v4⟩, v5, v6, ⟨w1, w2⟩, ⟨w3, w4⟩, w5, w6⟩ := ld
      rw [w32_id (by unfold rI; omega)] at ey
      rw [ey]
      have zf : ¬ FP τ o z := fun y => r3 (p2 z y)
      have f84 : Fr (fun f o' => f = 583 ∧ o' = z) τ1 σ84 := by rw [e84]; exact (Fr.rf _ _).sA ⟨rfl, rfl⟩
      -- knots that are not free in τ, and are not z
      have old : ∀ y, ¬ FP τ o y → y ≠ z → KE τ σ84 y ∧ OE τ σ84 y := by
        intro y hy ne
        have k1 : KE τ τ1 y := KE.fr w5 (fun f a b => mLd_k hy f a (Nat.le_trans b (by decide)))
        have k2 : OE τ τ1 y := OE.fr w5 (fun f a b => mLd_k hy f (Nat.le_trans (by decide) a) b)
        have k3 : KE τ1 σ84 y := KE.fr f84 (fun f a b q => ne q.2)
        have k4 : OE τ1 σ84 y := OE.fr f84 (fun f a b q => ne q.2)
        exact ⟨k1.tr k3, k2.tr k4⟩
      have new : ∀ y, y ≠ z → KE τ1 σ84 y ∧ OE τ1 σ84 y := fun y ne => ⟨KE.fr f84 (fun f a b q => ne q.2), OE.fr f84 (fun f a b q => ne q.2)⟩
      have fp84 := FP_fr (o := o) f84 ⟨fun q => by omega, fun q => by omega⟩
      have bz : ∀ k, be σ84 z k = if k = y5 then u else be τ z k := by
        intro k
        show gA σ84 583 z k = _
        rw [e84, sA_if]
        by_cases e : k = y5
        · rw [if_pos e, if_pos e]
        · rw [if_neg e, if_neg e, w5.a 583 z (mLd_k zf _ (by decide) (by decide))]; rfl
      have zi : ∀ f, (f = 576 ∨ f = 577 ∨ f = 584 ∨ f = 585 ∨ f = 586 ∨ f = 587) → gI σ84 f z = gI τ f z := by
        intro f hf
        rw [f84.i _ _ (fun q => by omega), w5.i _ _ (mLd_k zf f (by omega) (by omega))]
      have za : ∀ f, (f = 578 ∨ f = 579 ∨ f = 580 ∨ f = 581 ∨ f = 582) → gA σ84 f z = gA τ f z := by
        intro f hf
        rw [f84.a _ _ (fun q => by omega), w5.a _ _ (mLd_k zf f (by omega) (by omega))]
      have une : ∀ y, y ∈ kl τ1 l u → y ≠ z := fun y hy e => zf (by rw [← e]; exact (u6 y hy).2.1)
      have cne : ∀ k, 0 ≤ k → k < y5 → ∀ y, y ∈ kl τ l (be τ z k) → ¬ FP τ o y ∧ y ≠ z := by
        intro k k0 k1 y hy
        have q := (ch k k0 k1).2.2.2.1 y hy
        exact ⟨q.2.2.1, fun e => r3 (by rw [← e]; exact q.2.1)⟩
      have tro : ∀ k, 0 ≤ k → k < y5 → ls σ84 l (be τ z k) = ls τ l (be τ z k) ∧ kl σ84 l (be τ z k) = kl τ l (be τ z k) := fun k k0 k1 => tr_fr l _ (fun y hy => (old y (cne k k0 k1 y hy).1 (cne k k0 k1 y hy).2).1)
      have tru := tr_fr (σ := τ1) (τ := σ84) l u (fun y hy => (new y (une y hy)).1)
      have cat84 : cat (fun k => kl σ84 l (be σ84 z k)) (y5 + 1).toNat = cat (fun k => kl τ l (be τ z k)) y5.toNat ++ kl τ1 l u := by
        rw [show (y5 + 1).toNat = y5.toNat + 1 by omega]
        show cat (fun k => kl σ84 l (be σ84 z k)) y5.toNat ++ kl σ84 l (be σ84 z (y5.toNat : Int)) = _
        rw [show (y5.toNat : Int) = y5 by omega, bz y5, if_pos rfl, tru.2]
        congr 1
        refine cat_ext _ (fun i i0 i1 => ?_)
        show kl σ84 l (be σ84 z i) = _
        rw [bz i, if_neg (by omega), (tro i i0 (by omega)).2]
      have ni : ∀ f, (f = 202 ∨ f = 386) → gI σ84 f o = gI τ1 f o := fun f hf => f84.i _ _ (fun q => by omega)
      have oi : gA σ84 325 o = gA τ1 325 o := f84.a _ _ (fun q => by omega)
      refine hK _ _ _ ⟨rfl, by omega, ?_, ⟨?_, ?_, ?_, ?_, ?_⟩, ?_, ⟨fp84.2 v1, fun y hy => p2 y (v2 y ((fp84.1 y).mp hy)), ?_, ?_⟩, ?_, ⟨?_, ?_⟩, ⟨?_, ?_⟩, ?_⟩ (by omega)
      · rw [e84]; exact k1.sA (by show rK u; unfold rK; omega)
      · rw [zi _ (by omega)]; exact z1
      · rw [zi _ (by omega)]; exact z2
      · rw [zi _ (by omega)]; exact z3
      · rw [zi _ (by omega), zi _ (by omega), zi _ (by omega)]; exact z4
      · intro k k0 k1
        rw [za _ (by omega), za _ (by omega), za _ (by omega), za _ (by omega), za _ (by omega)]
        exact z5 k k0 k1
      · intro k k0 k1
        rw [bz k]
        by_cases e : k = y5
        · rw [if_pos e, e]
          refine ⟨u4.fr (fun y hy => (new y (une y hy)).1), ?_, by rw [tru.1]; exact u5, fun y hy => ?_, ?_, ?_⟩
          · have cw := hTk.cnt
            rw [(new u (une u (kl_self _ _ _))).1.k 0]
            exact u3 0 (by omega) (by omega)
          · rw [tru.2] at hy
            have q := u6 y hy
            obtain ⟨y', a, b, c⟩ := q.2.2.2
            exact ⟨by rw [(new y (une y hy)).2.1]; exact q.1, p2 y q.2.1, fun w => q.2.2.1 ((fp84.1 y).mp w), y', a, ((new y (une y hy)).2.2.1).trans b, ((new y (une y hy)).2.2.2.1).trans c⟩
          · have oe := (new u (une u (kl_self _ _ _))).2
            rw [oe.2.1, oe.2.2.1, oe.2.2.2]; exact v6
          · rw [tru.2]
            exact knE.tree u4 (fun w hw => new w (une w hw)) w6
        · rw [if_neg e]
          have klt : k < y5 := by omega
          have q := ch k k0 klt
          have t := tro k k0 klt
          refine ⟨q.1.fr (fun y hy => (old y (cne k k0 klt y hy).1 (cne k k0 klt y hy).2).1), ?_, by rw [t.1]; exact q.2.2.1, fun y hy => ?_, ?_, ?_⟩
          · have cs := cne k k0 klt _ (kl_self τ l (be τ z k))
            rw [(old _ cs.1 cs.2).1.k 0]; exact q.2.1
          · rw [t.2] at hy
            have w := q.2.2.2.1 y hy
            have cs := cne k k0 klt y hy
            obtain ⟨y', a, b, c⟩ := w.2.2.2
            exact ⟨by rw [(old y cs.1 cs.2).2.1]; exact w.1, w.2.1, fun g => cs.1 (v2 y ((fp84.1 y).mp g)), y', a, ((old y cs.1 cs.2).2.2.1).trans b, ((old y cs.1 cs.2).2.2.2.1).trans c⟩
          · have cs := cne k k0 klt _ (kl_self τ l (be τ z k))
            have oe := (old _ cs.1 cs.2).2
            rw [oe.2.1, oe.2.2.1, oe.2.2.2]; exact q.2.2.2.2.1
          · rw [t.2]
            exact knE.tree q.1 (fun w hw => old w (cne k k0 klt w hw).1 (cne k k0 klt w hw).2) q.2.2.2.2.2
      · rw [ni _ (Or.inr rfl), v3, p3, catS, List.length_append]; omega
      · rw [cat84, catS, List.length_append, List.length_append, p4, v4]
      · intro n
        rw [cat84, catS, kS_app, kS_app, ← ks n, ← v5 n]
        congr 1
        · refine kS_ext (fun y hy => ?_)
          obtain ⟨i, i1, i2⟩ := cat_mem hy
          have cs := cne i i1.1 (by omega) y i2
          exact (old y cs.1 cs.2).2.z n
        · exact kS_ext (fun y hy => (new y (une y hy)).2.z n)
      · rw [ni _ (Or.inl rfl)]; omega
      · intro b b1 b2
        rw [ni _ (Or.inl rfl)]
        exact w2 b (s2 b b1 b2) (fun y hy => b2 y (sub y hy))
      · intro y hy
        rw [oi]
        rw [catS] at hy
        by_cases w : y ∈ kl σc l (be σc x y5)
        · exact w3 y w
        · have hy' : y = x ∨ y ∈ cat (fun k => kl σc l (be σc x k)) y5.toNat := by
            rcases hy with e | e
            · exact Or.inl e
            · exact Or.inr ((List.mem_append.mp e).resolve_right w)
          by_cases g : ∀ y', y' ∈ kl σc l (be σc x y5) → gI σc 585 y' ≠ gI σc 585 y
          · rw [w4 _ g]; exact o1 y hy'
          · obtain ⟨y', hy2⟩ := Classical.not_forall.mp g
            obtain ⟨m1, m2⟩ := Classical.not_imp.mp hy2
            have m3 := Classical.not_not.mp m2
            rw [← m3]; exact w3 y' m1
      · intro n hn
        rw [oi, w4 n (fun y hy => hn y (sub y hy))]; exact o2 n hn
      · refine (fr.tr (w5.mono ?_)).tr (f84.mono ?_)
        · intro f o' q
          rcases q with q | q | q
          · exact Or.inl q
          · exact Or.inr (Or.inl q)
          · exact Or.inr (Or.inr ⟨q.1, r5 _ (p2 _ q.2)⟩)
        · intro f o' q; exact Or.inr (Or.inr ⟨by omega, by rw [q.2]; exact r2⟩)
