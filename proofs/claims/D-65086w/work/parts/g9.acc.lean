/-! the accounting changes: what is live, what was of knots, the table -/
def mAc (f : Nat) (o' : Int) : Prop := (f = 324 ∨ f = 390 ∨ f = 214 ∨ f = 215 ∨ f = 216) ∧ o' = 0
theorem IX.olds {σ τ : St} {L : List (Int × Int × Int × Int × Int × Int)} (h : IX σ 0 L) (f : Fr mAc σ τ) (ho : 0 ≤ gI τ 390 0 ∧ gI τ 390 0 ≤ gI σ 390 0) : IX τ 0 L := by
  have n1 : ∀ f x, 576 ≤ f → f ≤ 587 → ¬ mAc f x := fun f x a b q => by unfold mAc at q; omega
  obtain ⟨l, z, i1, i2, i3, i4, i5, i6, i7, i8, i9⟩ := h
  have ke : ∀ x, KE σ τ x := fun x => KE.fr f (fun f' a b => n1 f' x a (Nat.le_trans b (by decide)))
  have oe : ∀ x, OE σ τ x := fun x => OE.fr f (fun f' a b => n1 f' x (Nat.le_trans (by decide) a) b)
  obtain ⟨g1, g2⟩ := tr_fr (σ := σ) (τ := τ) l z (fun x _ => ke x)
  obtain ⟨p1, p2⟩ := FP_fr (o := 0) f ⟨fun q => by unfold mAc at q; omega, fun q => by unfold mAc at q; omega⟩
  refine ⟨l, z, by rw [f.i _ _ (fun q => by unfold mAc at q; omega)]; exact i1, i2.fr (fun x _ => ke x), i3.fr (fun x _ => ⟨ke x, oe x⟩), by rw [g1]; exact i4, p2 i5, fun x hx => ?_, ?_, ho.1, ?_⟩
  · rw [g2] at hx
    exact ⟨fun q => (i6 x hx).1 ((p1 x).mp q), (i6 x hx).2⟩
  · rw [g2, f.i 386 0 (fun q => by unfold mAc at q; omega)]; exact i7
  · rw [g2, nfr_ext (σ := σ) (τ := τ) (fun x _ => (oe x).1)]; omega
theorem SA.acc {tv : Nat → Int} {cf : Cf} {σ τ : St} {dk : Int → Int} {db : Int → Int → Int} {L : List (Int × Int × Int × Int × Int × Int)} (h : SA tv cf σ dk db L) (f : Fr mAc σ τ) (rk : RK τ) (hR : 0 ≤ cf.2.2) (ho : gI τ 390 0 = gI σ 390 0 ∨ gI τ 390 0 = 0)
    (hl : ∀ m, 4 + cf.2.2 ≤ m → m < cf.1 - 6 → gA τ 324 0 m = lS L m + kS σ (krt σ 0) m + oS τ 0 m + tbS τ m ∧ gA τ 324 0 m ≤ eE σ 0 dk m ∧ (gA σ 323 0 m = 0 → gA τ 324 0 m = 0)) (hx : ∀ m, 0 ≤ m → m < cf.1 - 6 → 0 ≤ gA τ 324 0 m - lS L m ∧ gA τ 324 0 m - lS L m ≤ 100000000) (hl0 : ∀ m, 0 ≤ m → m < 4 + cf.2.2 → gA τ 324 0 m = 0)
    (ht : gI τ 214 0 = -1 ∨ ((4 + cf.2.2 ≤ gI τ 214 0 ∧ gI τ 214 0 < cf.1 - 6) ∧ gI τ 216 0 = tbl cf ∧ gA σ 325 0 (gI τ 214 0) ≠ 0)) : SA tv cf τ dk db L := by
  obtain ⟨⟨w1, w2⟩, ⟨x1, x2, x3⟩, nm, wu, kn, ol, tb, l0⟩ := h
  have nw : ∀ f v, (v = 0 ∨ v = 0 + 2 ∨ v = 0 + 4) → 450 ≤ f → f ≤ 452 → ¬ mAc f v := fun f v hv a b q => by unfold mAc at q; omega
  have nk : ∀ f x, 576 ≤ f → f ≤ 587 → ¬ mAc f x := fun f x a b q => by unfold mAc at q; omega
  have ns : ∀ g, (g = 323 ∨ g = 325) → gA τ g 0 = gA σ g 0 := fun g hg => f.a _ _ (fun q => by unfold mAc at q; omega)
  have nu : ∀ v, isW 0 v → gI τ 451 v = gI σ 451 v := fun v hv => f.i _ _ (nw _ v hv (by decide) (by decide))
  have ee : eE τ 0 dk = eE σ 0 dk := funext (fun m => eE_fr f nw)
  have hh : ∀ m, hld τ 0 m ↔ hld σ 0 m := fun m => ⟨fun ⟨v, v1, v2⟩ => ⟨v, v1, by rw [← nu v v1]; exact v2⟩, fun ⟨v, v1, v2⟩ => ⟨v, v1, by rw [nu v v1]; exact v2⟩⟩
  obtain ⟨kr, ko⟩ := krt_fr (o := 0) f nk (fun q => by unfold mAc at q; omega)
  have i8 : 0 ≤ gI σ 390 0 := by
    obtain ⟨l, z, i1, i2, i3, i4, i5, i6, i7, i8, i9⟩ := x1.1
    exact i8
  have on : gA τ 388 0 = gA σ 388 0 := f.a _ _ (fun q => by unfold mAc at q; omega)
  have oz : gA τ 389 0 = gA σ 389 0 := f.a _ _ (fun q => by unfold mAc at q; omega)
  have os : ∀ m, oS τ 0 m = oS σ 0 m ∨ oS τ 0 m = 0 := fun m => by
    unfold oS
    rw [on, oz]
    rcases ho with q | q
    · rw [q]; exact Or.inl rfl
    · rw [q]; exact Or.inr rfl
  have ks : ∀ m, kS τ (krt τ 0) m = kS σ (krt σ 0) m := fun m => by rw [kr]; exact kS_ext (fun x _ => (ko x).2.z m)
  refine ⟨⟨w1.fr f nw, rk⟩, ⟨⟨x1.1.olds f (by omega), x1.2.1, hx⟩, x2, by rw [ee]; exact x3⟩, fun m m0 m1 => ?_, fun v hv nv => ?_, fun x hx hf => ?_, fun i i0 i1 => ?_, ?_, hl0⟩
  · obtain ⟨a1, a2, a3, a4, a5, a6, a7⟩ := nm m m0 m1
    obtain ⟨b1, b2, b3⟩ := hl m m0 m1
    unfold NM
    rw [ns 323 (by omega), ns 325 (by omega), ks, ee]
    refine ⟨a1, fun q => ⟨(a2 q).1, b3 q, fun y => (a2 q).2.2 ((hh m).mp y)⟩, b1, b2, a5, fun q => ⟨(a6 q).1, ?_, fun z => ?_⟩, fun q => ?_⟩
    · have := (a6 q).2.1
      rcases os m with w | w <;> omega
    · rcases ht with w | w
      · omega
      · rw [← z] at w; exact w.2.2 q
    · obtain ⟨c1, c2⟩ := a7 q
      exact ⟨fun y => by rw [ee]; exact c1 ((hh m).mp y), fun y => c2 (fun u => y ((hh m).mpr u))⟩
  · rw [nu v hv] at nv ⊢
    rw [ns 323 (by omega), ns 325 (by omega)]
    exact wu v hv nv
  · rw [kr] at hx
    rw [(ko x).2.1] at hf
    obtain ⟨b1, b2⟩ := kn x hx hf
    rw [ns 325 (by omega), (ko x).2.2.1, ee]
    exact ⟨b1.fr (ko x) (fun k _ _ => Or.inr (ko _).2), b2⟩
  · rw [ns 325 (by omega), on, oz]
    exact ol i i0 (by omega)
  · rw [ns 325 (by omega)]; exact ht
