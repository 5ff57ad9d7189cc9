/-! numbers become longer: what was told stays told -/
theorem eV.grow {tv : Nat → Int} {cf : Cf} {db db' : Int → Int → Int} {lim lim' : Int → Int} {L : List (Int × Int × Int × Int × Int × Int)} (h : eV tv cf db lim L) (hl : ∀ e, e ∈ L → e.2.2.2.1 + e.2.2.2.2.1 ≤ lim' e.2.2.1) (hd : ∀ e, e ∈ L → ∀ p, 0 ≤ p → p < e.2.2.2.1 + e.2.2.2.2.1 → db' e.2.2.1 p = db e.2.2.1 p) : eV tv cf db' lim' L := by
  intro e he
  obtain ⟨h1, h2, h3, h4, h5, h6, h7⟩ := h e he
  have nn := h2.n
  have d := hd e he
  have d' : ∀ k, 0 ≤ k → k < e.2.2.2.2.1 → db e.2.2.1 (e.2.2.2.1 + k) = db' e.2.2.1 (e.2.2.2.1 + k) := fun k k0 k1 => (d _ (by omega) (by omega)).symm
  refine ⟨h1, h2.ext (fun p a b => d p (by omega) b), ?_, ?_, ?_, ⟨h6.1, h6.2.ext (fun i a b => d i a (by omega))⟩, hl e he⟩
  · rw [d _ (by omega) (by omega)]; exact h3
  · rw [← hiN_sh (by omega) d']; exact h4
  · rw [← loN_sh h2 h3 d']; exact h5
theorem AM.grow {tv : Nat → Int} {cf : Cf} {db db' : Int → Int → Int} {lim : Int → Int} {L : List (Int × Int × Int × Int × Int × Int)} (h : eV tv cf db lim L) (hd : ∀ e, e ∈ L → ∀ p, e.2.2.2.1 ≤ p → p < e.2.2.2.1 + e.2.2.2.2.1 → db' e.2.2.1 p = db e.2.2.1 p) : AM db' L = AM db L := AM_ext (fun e he k k0 k1 => hd e he _ (by omega) (by omega))
theorem knG.ext {tv : Nat → Int} {σ : St} {x p : Int} {g h : Int → Int} (w : knG tv σ x g p) (hc : 0 ≤ gI σ 577 x) (e : ∀ i, p ≤ i → i < p + szK (gI σ 577 x) → h i = g i) : knG tv σ x h p := by
  obtain ⟨w1, w2, w3, w4, w5⟩ := w
  have sz : szK (gI σ 577 x) = (32 + 28 * gI σ 577 x + 7) / 8 * 8 := rfl
  have r4 : ∀ k, 0 ≤ k → k + 4 ≤ szK (gI σ 577 x) → rI4 h (p + k) = rI4 g (p + k) := fun k k0 k1 => rI4_ext (fun i i0 i1 => e i (by omega) (by omega))
  have r8 : ∀ k, 0 ≤ k → k + 8 ≤ szK (gI σ 577 x) → rL8 h (p + k) = rL8 g (p + k) := fun k k0 k1 => rL8_ext (fun i i0 i1 => e i (by omega) (by omega))
  refine ⟨w1.ext (fun i i0 i1 => (e _ (by omega) (by omega)).symm), ?_, ?_, ?_, fun k k0 k1 => ?_⟩
  · rw [e _ (by omega) (by omega)]; exact w2
  · rw [r4 24 (by omega) (by omega)]; exact w3
  · rw [r4 28 (by omega) (by omega)]; exact w4
  · have q := w5 k k0 k1
    rw [Int.add_assoc, Int.add_assoc, Int.add_assoc, Int.add_assoc, Int.add_assoc] at q ⊢
    rw [r8 _ (by omega) (by omega), r8 _ (by omega) (by omega), r4 _ (by omega) (by omega), r4 _ (by omega) (by omega), r4 _ (by omega) (by omega)]
    exact q
theorem knE.grow {tv : Nat → Int} {cf : Cf} {db db' : Int → Int → Int} {lim lim' : Int → Int} {σ : St} {x : Int} (h : knE tv cf db lim σ x) (hc : 0 ≤ gI σ 577 x) (hl : lim (gI σ 585 x) ≤ lim' (gI σ 585 x)) (e : ∀ p, p < lim (gI σ 585 x) → db' (gI σ 585 x) p = db (gI σ 585 x) p) : knE tv cf db' lim' σ x := by
  obtain ⟨x1, x2, x3, x4, x5, x6⟩ := h
  exact ⟨x1, x2, x3, x4, by omega, x6.ext hc (fun i i0 i1 => e i (by omega))⟩
/-! the store's numbers and index in memory -/
def hld (σ : St) (o m : Int) : Prop := ∃ w, isW o w ∧ gI σ 451 w = m
/-- nodes one behind the other in what number m has -/
def chM (tv : Nat → Int) (σ : St) (dk : Int → Int) (db : Int → Int → Int) (m : Int) : Prop := (hld σ 0 m → ∃ t, chn tv (db m) t 0 (eE σ 0 dk m)) ∧ (¬ hld σ 0 m → CN tv (db m) (lmF dk m) 0)
def tbS (σ : St) (m : Int) : Int := if m = gI σ 214 0 then gI σ 216 0 else 0
def NM (tv : Nat → Int) (cf : Cf) (σ : St) (dk : Int → Int) (db : Int → Int → Int) (L : List (Int × Int × Int × Int × Int × Int)) (m : Int) : Prop := (0 ≤ gA σ 323 0 m ∧ gA σ 323 0 m ≤ 2) ∧ (gA σ 323 0 m = 0 → dk m = -1 ∧ gA σ 324 0 m = 0 ∧ ¬ hld σ 0 m) ∧ gA σ 324 0 m = lS L m + kS σ (krt σ 0) m + oS σ 0 m + tbS σ m ∧ gA σ 324 0 m ≤ eE σ 0 dk m ∧ (gA σ 325 0 m ≠ 0 → lS L m = 0) ∧ (gA σ 325 0 m = 0 → kS σ (krt σ 0) m = 0 ∧ oS σ 0 m = 0 ∧ m ≠ gI σ 214 0) ∧ (gA σ 323 0 m ≠ 0 → chM tv σ dk db m)
def SA (tv : Nat → Int) (cf : Cf) (σ : St) (dk : Int → Int) (db : Int → Int → Int) (L : List (Int × Int × Int × Int × Int × Int)) : Prop :=
  (WW cf σ 0 dk db ∧ RK σ) ∧ (XI cf σ 0 L ∧ L.length ≤ 885 ∧ eV tv cf db (eE σ 0 dk) L) ∧ (∀ m, 4 + cf.2.2 ≤ m → m < cf.1 - 6 → NM tv cf σ dk db L m) ∧ (∀ w, isW 0 w → gI σ 451 w ≠ -1 → gA σ 323 0 (gI σ 451 w) = 2 ∧ gA σ 325 0 (gI σ 451 w) = (if w = 4 then 1 else 0)) ∧ (∀ x, x ∈ krt σ 0 → gI σ 584 x = 0 → knE tv cf db (eE σ 0 dk) σ x ∧ gA σ 325 0 (gI σ 585 x) ≠ 0) ∧ (∀ i, 0 ≤ i → i < gI σ 390 0 → (4 + cf.2.2 ≤ gA σ 388 0 i ∧ gA σ 388 0 i < cf.1 - 6) ∧ gA σ 325 0 (gA σ 388 0 i) ≠ 0 ∧ 32 ≤ gA σ 389 0 i ∧ gA σ 389 0 i ≤ 256) ∧ (gI σ 214 0 = -1 ∨ ((4 + cf.2.2 ≤ gI σ 214 0 ∧ gI σ 214 0 < cf.1 - 6) ∧ gI σ 216 0 = tbl cf ∧ gA σ 325 0 (gI σ 214 0) ≠ 0)) ∧ (∀ m, 0 ≤ m → m < 4 + cf.2.2 → gA σ 324 0 m = 0)
theorem krt_cnt {σ : St} {o : Int} {L : List (Int × Int × Int × Int × Int × Int)} (h : IX σ o L) : ∀ x, x ∈ krt σ o → 0 ≤ gI σ 577 x ∧ gI σ 577 x ≤ 8 := by
  obtain ⟨l, z, a1, a2, -⟩ := h.krt
  intro x hx
  rw [a1] at hx
  exact a2.kcnt x hx
/-- the fields on which it rests -/
def mSA (f : Nat) (o' : Int) : Prop := ((450 ≤ f ∧ f ≤ 452) ∧ isW 0 o') ∨ (576 ≤ f ∧ f ≤ 587) ∨ ((385 ≤ f ∧ f ≤ 390) ∧ o' = 0) ∨ ((f = 323 ∨ f = 324 ∨ f = 325 ∨ f = 214 ∨ f = 216) ∧ o' = 0)
theorem krt_fr {σ τ : St} {o : Int} {M : Nat → Int → Prop} (f : Fr M σ τ) (n1 : ∀ f x, 576 ≤ f → f ≤ 587 → ¬ M f x) (n2 : ¬ M 387 o) : krt τ o = krt σ o ∧ ∀ x, KE σ τ x ∧ OE σ τ x := by
  have ke : ∀ x, KE σ τ x := fun x => KE.fr f (fun f' a b => n1 f' x a (Nat.le_trans b (by decide)))
  have oe : ∀ x, OE σ τ x := fun x => OE.fr f (fun f' a b => n1 f' x (Nat.le_trans (by decide) a) b)
  refine ⟨?_, fun x => ⟨ke x, oe x⟩⟩
  unfold krt
  rw [f.i _ _ n2, (ke _).1]
  exact (tr_fr _ _ (fun x _ => ke x)).2
/-- a number becomes longer by nodes -/
theorem SA.grow {tv : Nat → Int} {cf : Cf} {σ τ : St} {dk dk' : Int → Int} {db db' : Int → Int → Int} {L : List (Int × Int × Int × Int × Int × Int)} {w n : Int} {t : List Int} (hc : CfOK cf) (h : SA tv cf σ dk db L) (hw : isW 0 w) (hn : gI σ 451 w = n) (n1 : n ≠ -1) (hg : gI τ 451 w = n) (hW : WW cf τ 0 dk' db') (G : GRo cf σ τ 0 dk dk' db db' n) (fr : Fr (mWr w) σ τ) (rk : RK τ) (ht : chn tv (db' n) t (eE σ 0 dk n) (eE τ 0 dk' n)) : SA tv cf τ dk' db' L := by
  have hR : 0 ≤ cf.2.2 ∧ cf.2.2 ≤ 4 := hc.2.2
  obtain ⟨⟨w1, w2⟩, ⟨x1, x2, x3⟩, nm, wu, kn, ol, tb, l0⟩ := h
  have nk : ∀ f x, 576 ≤ f → f ≤ 587 → ¬ mWr w f x := fun f x a b q => by unfold mWr mBw at q; omega
  have nx : ∀ f, 385 ≤ f → f ≤ 390 → ¬ mWr w f 0 := fun f a b q => by unfold mWr mBw at q; omega
  have ns : ∀ f, (f = 323 ∨ f = 324 ∨ f = 325) → gA τ f 0 = gA σ f 0 := fun f hf => fr.a _ _ (fun q => by unfold mWr mBw at q; omega)
  have nt : ∀ f, (f = 214 ∨ f = 216) → gI τ f 0 = gI σ f 0 := fun f hf => fr.i _ _ (fun q => by unfold mWr mBw at q; omega)
  have nu : ∀ v, isW 0 v → gI τ 451 v = gI σ 451 v := by
    intro v hv
    by_cases e : v = w
    · rw [e, hg, hn]
    · exact fr.i _ _ (fun q => by unfold mWr mBw at q; omega)
  obtain ⟨kr, ko⟩ := krt_fr (o := 0) fr nk (nx _ (by decide) (by decide))
  have hh : ∀ m, hld τ 0 m ↔ hld σ 0 m := fun m => ⟨fun ⟨v, v1, v2⟩ => ⟨v, v1, by rw [← nu v v1]; exact v2⟩, fun ⟨v, v1, v2⟩ => ⟨v, v1, by rw [nu v v1]; exact v2⟩⟩
  have le : ∀ m, 0 ≤ m → eE σ 0 dk m ≤ eE τ 0 dk' m := by
    intro m m0
    by_cases e : m = n
    · rw [e]; exact G.2.1.2
    · rw [(G.1 m e).2 m0]; omega
  have os : ∀ m, oS τ 0 m = oS σ 0 m := fun m => by
    unfold oS
    rw [fr.a 388 0 (nx _ (by decide) (by decide)), fr.a 389 0 (nx _ (by decide) (by decide)), fr.i 390 0 (nx _ (by decide) (by decide))]
  have ks : ∀ m, kS τ (krt τ 0) m = kS σ (krt σ 0) m := fun m => by rw [kr]; exact kS_ext (fun x _ => (ko x).2.z m)
  have nh : hld σ 0 n := ⟨w, hw, hn⟩
  refine ⟨⟨hW, rk⟩, ⟨⟨x1.1.fr fr nk nx, x1.2.1, by rw [ns _ (by omega)]; exact x1.2.2⟩, x2, x3.grow (fun e he => ?_) (fun e he p p0 p1 => ?_)⟩, fun m m0 m1 => ?_, fun v hv nv => ?_, fun x hx hf => ?_, ?_, ?_, ?_⟩
  · have q := x3 e he
    have := le e.2.2.1 (by omega)
    omega
  · have q := x3 e he
    exact G.2.2 _ p (by omega) q.1.2 (by omega)
  · obtain ⟨a1, a2, a3, a4, a5, a6, a7⟩ := nm m m0 m1
    have tbe : tbS τ m = tbS σ m := by unfold tbS; rw [nt _ (by omega), nt _ (by omega)]
    unfold NM
    rw [ns _ (by omega), ns _ (by omega), ns _ (by omega), ks, os, tbe, nt 214 (by omega)]
    refine ⟨a1, fun q => ?_, a3, Int.le_trans a4 (le m (by omega)), a5, a6, fun q => ?_⟩
    · obtain ⟨b1, b2, b3⟩ := a2 q
      have ne : m ≠ n := fun e => b3 (by rw [e]; exact nh)
      exact ⟨by rw [(G.1 m ne).1]; exact b1, b2, fun y => b3 ((hh m).mp y)⟩
    · obtain ⟨b1, b2⟩ := a7 q
      refine ⟨fun y => ?_, fun y => ?_⟩
      · obtain ⟨u, hu⟩ := b1 ((hh m).mp y)
        have hu' := chn_ext (h := db' m) hu (fun p p0 p1 => G.2.2 m p (by omega) m1 p1)
        by_cases e : m = n
        · rw [e] at hu' ⊢
          exact ⟨u ++ t, chn_app hu' ht⟩
        · rw [(G.1 m e).2 (by omega)]; exact ⟨u, hu'⟩
      · have ny : ¬ hld σ 0 m := fun z => y ((hh m).mpr z)
        have ne : m ≠ n := fun e => ny (by rw [e]; exact nh)
        have q3 := b2 ny
        have lm : lmF dk' m = lmF dk m := by unfold lmF; rw [(G.1 m ne).1]
        have ee : eE σ 0 dk m = lmF dk m := eE_no (fun v hv e => ny ⟨v, hv, e⟩)
        rw [lm]
        exact q3.ext (fun p p0 p1 => G.2.2 m p (by omega) m1 (by rw [ee]; exact p1))
  · rw [nu v hv] at nv ⊢
    rw [ns _ (by omega), ns _ (by omega)]
    exact wu v hv nv
  · rw [kr] at hx
    rw [(ko x).2.1] at hf
    obtain ⟨b1, b2⟩ := kn x hx hf
    have cx := krt_cnt x1.1 x hx
    rw [ns _ (by omega), (ko x).2.2.1]
    refine ⟨?_, b2⟩
    have g1 := b1.grow (db' := db') (lim' := eE τ 0 dk') cx.1 (le _ (by have := b1.2.2.1; omega)) (fun p p1 => G.2.2 _ p (by have := b1.2.2.1; omega) b1.2.2.1.2 p1)
    exact g1.fr (ko x) (fun k _ _ => Or.inr (ko _).2)
  · rw [ns 325 (by omega), fr.a 388 0 (nx _ (by decide) (by decide)), fr.a 389 0 (nx _ (by decide) (by decide)), fr.i 390 0 (nx _ (by decide) (by decide))]
    exact ol
  · rw [nt _ (by omega), nt _ (by omega), ns _ (by omega)]; exact tb
  · rw [ns _ (by omega)]; exact l0
