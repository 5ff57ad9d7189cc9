/-! the store in memory: a new number for a head; other keys -/
theorem oSm_nn {g s : Int → Int} {n : Int} : ∀ k : Nat, (∀ i : Int, 0 ≤ i → i < k → 0 ≤ s i) → 0 ≤ oSm g s n k
  | 0, _ => Int.le_refl _
  | k + 1, h => by
    show 0 ≤ oSm g s n k + (if g k = n then s k else 0)
    have a := oSm_nn (g := g) (n := n) k (fun i i0 i1 => h i i0 (by omega))
    have b := h k (by omega) (by omega)
    split <;> omega
theorem oSm_pos {g s : Int → Int} {n : Int} : ∀ k : Nat, (∀ i : Int, 0 ≤ i → i < k → 32 ≤ s i) → ∀ i : Int, 0 ≤ i → i < k → g i = n → 32 ≤ oSm g s n k
  | 0, _, i, a, b, _ => by omega
  | k + 1, h, i, a, b, e => by
    show 32 ≤ oSm g s n k + (if g k = n then s k else 0)
    have c := oSm_nn (g := g) (s := s) (n := n) k (fun i i0 i1 => by have := h i i0 (by omega); omega)
    have d := h k (by omega) (by omega)
    by_cases q : i = k
    · rw [← q, if_pos e, q]; omega
    · have := oSm_pos k (fun i i0 i1 => h i i0 (by omega)) i a (by omega) e
      split <;> omega
/-- what counts is never below 0 -/
theorem SA.nn {tv : Nat → Int} {cf : Cf} {σ : St} {dk : Int → Int} {db : Int → Int → Int} {L : List (Int × Int × Int × Int × Int × Int)} (hc : CfOK cf) (h : SA tv cf σ dk db L) {m : Int} (hm : 0 ≤ m) : 0 ≤ lS L m ∧ 0 ≤ kS σ (krt σ 0) m ∧ 0 ≤ oS σ 0 m ∧ 0 ≤ tbS σ m ∧ (m = gI σ 214 0 → 0 < tbS σ m) := by
  obtain ⟨⟨w1, w2⟩, ⟨x1, x2, x3⟩, nm, wu, kn, ol, tb, l0⟩ := h
  have t := tblB hc
  refine ⟨(lS_r x1.2.1 m).1, ?_, ?_, ?_, ?_⟩
  · exact (kS_r (fun x hx hf => by have := (kn x hx hf).1.sz (krt_cnt x1.1 x hx); omega)).1
  · refine oSm_nn _ (fun i i0 i1 => ?_)
    have := (ol i i0 (by omega)).2.2
    omega
  · unfold tbS
    split
    · rename_i e
      rcases tb with q | q
      · omega
      · rw [q.2.1]; omega
    · omega
  · intro e
    unfold tbS
    rw [if_pos e]
    rcases tb with q | q
    · omega
    · rw [q.2.1]; omega
theorem SA.neo {tv : Nat → Int} {cf : Cf} {σ τ : St} {dk dk' : Int → Int} {db db' : Int → Int → Int} {L : List (Int × Int × Int × Int × Int × Int)} {w n k : Int} (hc : CfOK cf) (h : SA tv cf σ dk db L) (hw : isW 0 w) (hn : gI σ 451 w = n) (N : NEo cf σ τ 0 w dk dk' db db' n k) (hW : WW cf τ 0 dk' db') (fr : Fr (mRm 0 w) σ τ) (rk : RK τ) : SA tv cf τ dk' db' L := by
  have hR : 0 ≤ cf.2.2 ∧ cf.2.2 ≤ 4 := hc.2.2
  have nn := fun {m : Int} (hm : 0 ≤ m) => h.nn hc hm
  obtain ⟨⟨w1, w2⟩, ⟨x1, x2, x3⟩, nm, wu, kn, ol, tb, l0⟩ := h
  obtain ⟨k1, k2, k3, k4, k5, k6, k7, k8, k9, k10, k11, k12, k13, k14⟩ := N
  have nk : ∀ f x, 576 ≤ f → f ≤ 587 → ¬ mRm 0 w f x := fun f x a b q => by unfold mRm mWc mWr mBw mSf mMv at q; omega
  have nx : ∀ f, 385 ≤ f → f ≤ 390 → ¬ mRm 0 w f 0 := fun f a b q => by unfold mRm mWc mWr mBw mSf mMv at q; omega
  have nt : ∀ f, (f = 214 ∨ f = 216) → gI τ f 0 = gI σ f 0 := fun f hf => fr.i _ _ (fun q => by unfold mRm mWc mWr mBw mSf mMv at q; omega)
  have nu : ∀ v, isW 0 v → v ≠ w → gI τ 451 v = gI σ 451 v := fun v hv e => fr.i _ _ (fun q => by unfold mRm mWc mWr mBw mSf mMv at q; omega)
  obtain ⟨kr, ko⟩ := krt_fr (o := 0) fr nk (nx _ (by decide) (by decide))
  have wn : n ≠ -1 → 4 + cf.2.2 ≤ n ∧ n < cf.1 - 6 := fun q => by
    rcases w1.all.1 w hw with z | z
    · rw [hn] at z; exact absurd z q
    · rw [hn] at z; exact z.1
  have un : n ≠ -1 → gA σ 323 0 n = 2 := fun q => by have := (wu w hw (by rw [hn]; exact q)).1; rw [hn] at this; exact this
  obtain ⟨a1, a2, a3, a4, a5, a6, a7⟩ := nm k k1.1 k1.2
  obtain ⟨z1, z2, z3⟩ := a2 k2
  have kz : lS L k = 0 ∧ kS σ (krt σ 0) k = 0 ∧ oS σ 0 k = 0 ∧ tbS σ k = 0 ∧ k ≠ gI σ 214 0 := by
    have q := nn (m := k) (by omega)
    refine ⟨by omega, by omega, by omega, by omega, fun e => ?_⟩
    have := q.2.2.2.2 e
    omega
  have hh : ∀ m, 0 ≤ m → (hld τ 0 m ↔ (m = k ∨ (hld σ 0 m ∧ m ≠ n))) := by
    intro m m0
    constructor
    · rintro ⟨v, v1, v2⟩
      by_cases e : v = w
      · left; rw [← v2, e, k4]
      · right
        rw [nu v v1 e] at v2
        refine ⟨⟨v, v1, v2⟩, fun em => ?_⟩
        exact w1.all.2 w v hw v1 (Ne.symm e) (by rw [hn]; omega) (by rw [hn, v2, em])
    · rintro (e | ⟨⟨v, v1, v2⟩, ne⟩)
      · exact ⟨w, hw, by rw [k4, e]⟩
      · have vw : v ≠ w := fun e => ne (by rw [← v2, e]; exact hn)
        exact ⟨v, v1, by rw [nu v v1 vw]; exact v2⟩
  have le : ∀ m, 0 ≤ m → m ≠ k → eE σ 0 dk m ≤ eE τ 0 dk' m := by
    intro m m0 mk
    by_cases e : m = n
    · obtain ⟨y1, y2, y3, y4⟩ := k14 (by omega)
      rw [e, y1, y2]; omega
    · rw [k11 m m0 e mk]; omega
  have os : ∀ m, oS τ 0 m = oS σ 0 m := fun m => by
    unfold oS
    rw [fr.a 388 0 (nx _ (by decide) (by decide)), fr.a 389 0 (nx _ (by decide) (by decide)), fr.i 390 0 (nx _ (by decide) (by decide))]
  have ks : ∀ m, kS τ (krt τ 0) m = kS σ (krt σ 0) m := fun m => by rw [kr]; exact kS_ext (fun x _ => (ko x).2.z m)
  have lv : ∀ m, m ≠ k → gA τ 324 0 m = gA σ 324 0 m := fun m e => by rw [k7]; unfold upF; rw [if_neg e]
  have oi : ∀ m, m ≠ k → gA τ 325 0 m = gA σ 325 0 m := fun m e => by rw [k8]; unfold upF; rw [if_neg e]
  have ek : ∀ e, e ∈ L → e.2.2.1 ≠ k := by
    intro e he q
    have := lS_pos x1.2.1 he (by have := (x3 e he).2.1.n; omega)
    rw [q] at this; omega
  have xk : ∀ x, x ∈ krt σ 0 → gI σ 584 x = 0 → gI σ 585 x ≠ k := by
    intro x hx hf q
    have := kS_pos (fun y hy hf => ((kn y hy hf).1.sz (krt_cnt x1.1 y hy)).1) x hx hf
    rw [q] at this; omega
  refine ⟨⟨hW, rk⟩, ⟨⟨x1.1.fr fr nk nx, x1.2.1, fun m m0 m1 => ?_⟩, x2, x3.grow (fun e he => ?_) (fun e he p p0 p1 => ?_)⟩, fun m m0 m1 => ?_, fun v hv nv => ?_, fun x hx hf => ?_, fun i i0 i1 => ?_, ?_, fun m m0 m1 => ?_⟩
  · by_cases e : m = k
    · rw [e, k7]; unfold upF; rw [if_pos rfl]; omega
    · rw [lv m e]; exact x1.2.2 m m0 m1
  · have q := x3 e he
    have := le e.2.2.1 (by omega) (ek e he)
    omega
  · have q := x3 e he
    exact k13 _ p (by omega) q.1.2 (by omega)
  · have tbe : tbS τ m = tbS σ m := by unfold tbS; rw [nt _ (by omega), nt _ (by omega)]
    unfold NM
    rw [ks, os, tbe, nt 214 (by omega), k6 m (by omega)]
    by_cases e : m = k
    · rw [if_pos e, e]
      refine ⟨by omega, fun q => by omega, by rw [k7]; unfold upF; rw [if_pos rfl]; omega, by rw [k7, k12]; unfold upF; rw [if_pos rfl]; omega, fun _ => kz.1, fun _ => ⟨kz.2.1, kz.2.2.1, kz.2.2.2.2⟩, fun _ => ⟨fun _ => ⟨[], by rw [k12]; rfl⟩, fun q => absurd ((hh k (by omega)).mpr (Or.inl rfl)) q⟩⟩
    · rw [if_neg e, lv m e, oi m e]
      obtain ⟨b1, b2, b3, b4, b5, b6, b7⟩ := nm m m0 m1
      have l2 := le m (by omega) e
      by_cases en : m = n
      · rw [if_pos en]
        have nn1 : n ≠ -1 := by omega
        obtain ⟨y1, y2, y3, y4⟩ := k14 nn1
        refine ⟨by omega, fun q => by omega, b3, by omega, b5, b6, fun _ => ⟨fun q => ?_, fun _ => ?_⟩⟩
        · rcases (hh m (by omega)).mp q with z | z
          · exact absurd z e
          · exact absurd en z.2
        · obtain ⟨u, hu⟩ := (b7 (by rw [en, un nn1]; omega)).1 ⟨w, hw, by rw [en]; exact hn⟩
          rw [en] at hu ⊢
          have hu' := chn_ext (h := db' n) hu (fun p p0 p1 => k13 n p (by omega) (by omega) p1)
          rw [y1] at hu'
          rw [y3]
          by_cases z : gI σ 452 w % 128 = 0
          · rw [show (gI σ 452 w + 127) / 128 * 128 = gI σ 452 w by omega]
            exact CN.of hu'
          · refine CN.of (t := u ++ [0]) (chn_app hu' ?_)
            show if (0 : Int) = 0 then _ else _
            rw [if_pos rfl]
            exact ⟨⟨z, y4⟩, rfl⟩
      · rw [if_neg en]
        refine ⟨b1, fun q => ?_, b3, by omega, b5, b6, fun q => ?_⟩
        · obtain ⟨c1, c2, c3⟩ := b2 q
          refine ⟨by rw [k9 m en]; exact c1, c2, fun y => ?_⟩
          rcases (hh m (by omega)).mp y with z | z
          · exact e z
          · exact c3 z.1
        · obtain ⟨c1, c2⟩ := b7 q
          refine ⟨fun y => ?_, fun y => ?_⟩
          · have hy : hld σ 0 m := by
              rcases (hh m (by omega)).mp y with z | z
              · exact absurd z e
              · exact z.1
            obtain ⟨u, hu⟩ := c1 hy
            rw [k11 m (by omega) en e]
            exact ⟨u, chn_ext hu (fun p p0 p1 => k13 m p (by omega) m1 p1)⟩
          · have ny : ¬ hld σ 0 m := fun z => y ((hh m (by omega)).mpr (Or.inr ⟨z, en⟩))
            have ee : eE σ 0 dk m = lmF dk m := eE_no (fun v hv e => ny ⟨v, hv, e⟩)
            have lm : lmF dk' m = lmF dk m := by unfold lmF; rw [k9 m en]
            rw [lm]
            exact (c2 ny).ext (fun p p0 p1 => k13 m p (by omega) m1 (by rw [ee]; exact p1))
  · by_cases e : v = w
    · rw [e, k4]
      refine ⟨by rw [k6 k (by omega), if_pos rfl], ?_⟩
      rw [k8]; unfold upF; rw [if_pos rfl]
      show (if w = 0 + 4 then (1 : Int) else 0) = _
      rw [show (0 : Int) + 4 = 4 by omega]
    · rw [nu v hv e] at nv ⊢
      have q := wu v hv nv
      have rv : 4 + cf.2.2 ≤ gI σ 451 v ∧ gI σ 451 v < cf.1 - 6 := by
        rcases w1.all.1 v hv with z | z
        · exact absurd z nv
        · exact z.1
      have vk : gI σ 451 v ≠ k := fun z => z3 ⟨v, hv, z⟩
      have vn : gI σ 451 v ≠ n := fun z => w1.all.2 v w hv hw e nv (by rw [z, hn])
      rw [k6 _ (by omega), if_neg vk, if_neg vn, oi _ vk]
      exact q
  · rw [kr] at hx
    rw [(ko x).2.1] at hf
    obtain ⟨b1, b2⟩ := kn x hx hf
    have cx := krt_cnt x1.1 x hx
    have xn := xk x hx hf
    rw [(ko x).2.2.1, oi _ xn]
    refine ⟨?_, b2⟩
    have g1 := b1.grow (db' := db') (lim' := eE τ 0 dk') cx.1 (le _ (by have := b1.2.2.1; omega) xn) (fun p p1 => k13 _ p (by have := b1.2.2.1; omega) b1.2.2.1.2 p1)
    exact g1.fr (ko x) (fun k _ _ => Or.inr (ko _).2)
  · rw [fr.i 390 0 (nx _ (by decide) (by decide))] at i1
    rw [fr.a 388 0 (nx _ (by decide) (by decide)), fr.a 389 0 (nx _ (by decide) (by decide))]
    have q := ol i i0 i1
    have nk' : gA σ 388 0 i ≠ k := fun e => by
      have p : 32 ≤ oS σ 0 k := oSm_pos _ (fun j j0 j1 => (ol j j0 (by omega)).2.2.1) i i0 (by omega) e
      omega
    rw [oi _ nk']; exact q
  · rw [nt _ (by omega), nt _ (by omega)]
    rcases tb with q | q
    · exact Or.inl q
    · rw [oi _ (fun e => kz.2.2.2.2 e.symm)]; exact Or.inr q
  · rw [lv m (by omega)]; exact l0 m m0 m1
