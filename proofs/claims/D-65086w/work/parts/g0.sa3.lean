/-! the store in memory: the index has other keys -/
theorem SA.ix {tv : Nat → Int} {cf : Cf} {σ τ : St} {dk : Int → Int} {db : Int → Int → Int} {L L' : List (Int × Int × Int × Int × Int × Int)} (hc : CfOK cf) (h : SA tv cf σ dk db L) (hI : XI cf τ 0 L') (hC : CK σ τ 0) (hl : ∀ m, 0 ≤ m → m < cf.1 - 6 → gA τ 324 0 m - lS L' m = gA σ 324 0 m - lS L m) (fr : Fr (mAp 0) σ τ) (rk : RK τ) (hlen : L'.length ≤ 885) (he : eV tv cf db (eE σ 0 dk) L') (hle : ∀ m, 4 + cf.2.2 ≤ m → m < cf.1 - 6 → gA τ 324 0 m ≤ eE σ 0 dk m) (hnew : ∀ e, e ∈ L' → gA σ 323 0 e.2.2.1 ≠ 0 ∧ gA σ 325 0 e.2.2.1 = 0) : SA tv cf τ dk db L' := by
  have hR : 0 ≤ cf.2.2 ∧ cf.2.2 ≤ 4 := hc.2.2
  have hB : 24 ≤ cf.1 ∧ cf.1 ≤ 64 := hc.1
  have nn := fun {m : Int} (hm : 0 ≤ m) => h.nn hc hm
  obtain ⟨⟨w1, w2⟩, ⟨x1, x2, x3⟩, nm, wu, kn, ol, tb, l0⟩ := h
  have wf : ∀ f v, (v = 0 ∨ v = 0 + 2 ∨ v = 0 + 4) → 450 ≤ f → f ≤ 452 → ¬ mAp 0 f v := fun f v _ a b q => by unfold mAp mIx mOr at q; omega
  have ns : ∀ f, (f = 323 ∨ f = 325) → gA τ f 0 = gA σ f 0 := fun f hf => fr.a _ _ (fun q => by unfold mAp mIx mOr at q; omega)
  have nt : ∀ f, (f = 214 ∨ f = 216) → gI τ f 0 = gI σ f 0 := fun f hf => fr.i _ _ (fun q => by unfold mAp mIx mOr at q; omega)
  have nu : ∀ v, gI τ 451 v = gI σ 451 v := fun v => fr.i _ _ (fun q => by unfold mAp mIx mOr at q; omega)
  have ee : eE τ 0 dk = eE σ 0 dk := funext (fun m => eE_fr fr wf)
  have hh : ∀ m, hld τ 0 m ↔ hld σ 0 m := fun m => ⟨fun ⟨v, v1, v2⟩ => ⟨v, v1, by rw [← nu v]; exact v2⟩, fun ⟨v, v1, v2⟩ => ⟨v, v1, by rw [nu v]; exact v2⟩⟩
  have kn' : ∀ x, x ∈ krt τ 0 → gI τ 584 x = 0 → knE tv cf db (eE σ 0 dk) τ x := knE.ck hI.1 hC (fun x hx hf => (kn x hx hf).1)
  have ol' : ∀ i, 0 ≤ i → i < gI τ 390 0 → (4 + cf.2.2 ≤ gA τ 388 0 i ∧ gA τ 388 0 i < cf.1 - 6) ∧ gA σ 325 0 (gA τ 388 0 i) ≠ 0 ∧ 32 ≤ gA τ 389 0 i ∧ gA τ 389 0 i ≤ 256 := hC.2.2.1 (fun n s => (4 + cf.2.2 ≤ n ∧ n < cf.1 - 6) ∧ gA σ 325 0 n ≠ 0 ∧ 32 ≤ s ∧ s ≤ 256) ol (fun x hx hf => ⟨(kn x hx hf).1.2.2.1, (kn x hx hf).2, (kn x hx hf).1.sz (krt_cnt x1.1 x hx)⟩)
  have out : ∀ m, (gA σ 323 0 m = 0 ∨ gA σ 325 0 m ≠ 0) → lS L' m = 0 := fun m q => lS_out (fun e he' w => by
    have := hnew e he'
    rw [w] at this
    rcases q with q | q
    · exact this.1 q
    · exact q this.2)
  refine ⟨⟨w1.fr fr wf, rk⟩, ⟨hI, hlen, by rw [ee]; exact he⟩, fun m m0 m1 => ?_, fun v hv nv => ?_, fun x hx hf => ?_, ?_, ?_, fun m m0 m1 => ?_⟩
  · obtain ⟨a1, a2, a3, a4, a5, a6, a7⟩ := nm m m0 m1
    have tbe : tbS τ m = tbS σ m := by unfold tbS; rw [nt _ (by omega), nt _ (by omega)]
    have lm := hl m (by omega) m1
    have ck := hC.1 m (by omega)
    have q := nn (m := m) (by omega)
    unfold NM
    rw [ns 323 (by omega), ns 325 (by omega), tbe, nt 214 (by omega), ee]
    refine ⟨a1, fun z => ?_, by omega, hle m m0 m1, fun z => out m (Or.inr z), fun z => ?_, fun z => ?_⟩
    · obtain ⟨b1, b2, b3⟩ := a2 z
      refine ⟨b1, ?_, fun y => b3 ((hh m).mp y)⟩
      have := out m (Or.inl z)
      omega
    · obtain ⟨b1, b2, b3⟩ := a6 z
      have p1 : 0 ≤ kS τ (krt τ 0) m := (kS_r (fun x hx hf => by have := (kn' x hx hf).sz (krt_cnt hI.1 x hx); omega)).1
      have p2 : 0 ≤ oS τ 0 m := oSm_nn _ (fun i i0 i1 => by have := (ol' i i0 (by omega)).2.2; omega)
      exact ⟨by omega, by omega, b3⟩
    · obtain ⟨b1, b2⟩ := a7 z
      exact ⟨fun y => by rw [ee]; exact b1 ((hh m).mp y), fun y => b2 (fun u => y ((hh m).mpr u))⟩
  · rw [nu v] at nv ⊢
    rw [ns 323 (by omega), ns 325 (by omega)]
    exact wu v hv nv
  · rw [ns 325 (by omega), ee]
    refine ⟨kn' x hx hf, ?_⟩
    obtain ⟨c1, c2, c3⟩ := hC.2.1 x hx hf
    rw [c3.2.1]
    exact (kn x c1 (by rw [← c3.1]; exact hf)).2
  · rw [ns 325 (by omega)]; exact ol'
  · rw [nt _ (by omega), nt _ (by omega), ns 325 (by omega)]; exact tb
  · have lm := hl m m0 (by omega)
    rw [l0 m m0 m1, lS_out (L := L') (fun e he' w => by have := (he e he').1; omega), lS_out (L := L) (fun e he' w => by have := (x3 e he').1; omega)] at lm
    omega
/-- nothing of it is written: rows and what was found last -/
theorem SA.fr {tv : Nat → Int} {cf : Cf} {σ τ : St} {dk : Int → Int} {db : Int → Int → Int} {L : List (Int × Int × Int × Int × Int × Int)} {M : Nat → Int → Prop} (h : SA tv cf σ dk db L) (f : Fr M σ τ) (n : ∀ f o', mSA f o' → ¬ M f o') (rk : RK τ) : SA tv cf τ dk db L := by
  obtain ⟨⟨w1, w2⟩, ⟨x1, x2, x3⟩, nm, wu, kn, ol, tb, l0⟩ := h
  have nw : ∀ f v, (v = 0 ∨ v = 0 + 2 ∨ v = 0 + 4) → 450 ≤ f → f ≤ 452 → ¬ M f v := fun f v hv a b => n f v (Or.inl ⟨⟨a, b⟩, hv⟩)
  have nk : ∀ f x, 576 ≤ f → f ≤ 587 → ¬ M f x := fun f x a b => n f x (Or.inr (Or.inl ⟨a, b⟩))
  have nx : ∀ f, 385 ≤ f → f ≤ 390 → ¬ M f 0 := fun f a b => n f 0 (Or.inr (Or.inr (Or.inl ⟨⟨a, b⟩, rfl⟩)))
  have ns : ∀ g, (g = 323 ∨ g = 324 ∨ g = 325) → gA τ g 0 = gA σ g 0 := fun g hg => f.a _ _ (n g 0 (Or.inr (Or.inr (Or.inr ⟨by omega, rfl⟩))))
  have nt : ∀ g, (g = 214 ∨ g = 216) → gI τ g 0 = gI σ g 0 := fun g hg => f.i _ _ (n g 0 (Or.inr (Or.inr (Or.inr ⟨by omega, rfl⟩))))
  have nu : ∀ v, isW 0 v → gI τ 451 v = gI σ 451 v := fun v hv => f.i _ _ (nw _ v hv (by decide) (by decide))
  have ee : eE τ 0 dk = eE σ 0 dk := funext (fun m => eE_fr f nw)
  have hh : ∀ m, hld τ 0 m ↔ hld σ 0 m := fun m => ⟨fun ⟨v, v1, v2⟩ => ⟨v, v1, by rw [← nu v v1]; exact v2⟩, fun ⟨v, v1, v2⟩ => ⟨v, v1, by rw [nu v v1]; exact v2⟩⟩
  obtain ⟨kr, ko⟩ := krt_fr (o := 0) f nk (nx _ (by decide) (by decide))
  have os : ∀ m, oS τ 0 m = oS σ 0 m := fun m => by
    unfold oS
    rw [f.a 388 0 (nx _ (by decide) (by decide)), f.a 389 0 (nx _ (by decide) (by decide)), f.i 390 0 (nx _ (by decide) (by decide))]
  have ks : ∀ m, kS τ (krt τ 0) m = kS σ (krt σ 0) m := fun m => by rw [kr]; exact kS_ext (fun x _ => (ko x).2.z m)
  refine ⟨⟨w1.fr f nw, rk⟩, ⟨⟨x1.1.fr f nk nx, x1.2.1, by rw [ns _ (by omega)]; exact x1.2.2⟩, x2, by rw [ee]; exact x3⟩, fun m m0 m1 => ?_, fun v hv nv => ?_, fun x hx hf => ?_, ?_, ?_, ?_⟩
  · obtain ⟨a1, a2, a3, a4, a5, a6, a7⟩ := nm m m0 m1
    have tbe : tbS τ m = tbS σ m := by unfold tbS; rw [nt _ (by omega), nt _ (by omega)]
    unfold NM
    rw [ns _ (by omega), ns _ (by omega), ns _ (by omega), ks, os, tbe, nt 214 (by omega), ee]
    refine ⟨a1, fun q => ⟨(a2 q).1, (a2 q).2.1, fun y => (a2 q).2.2 ((hh m).mp y)⟩, a3, a4, a5, a6, fun q => ?_⟩
    obtain ⟨b1, b2⟩ := a7 q
    exact ⟨fun y => by rw [ee]; exact b1 ((hh m).mp y), fun y => b2 (fun u => y ((hh m).mpr u))⟩
  · rw [nu v hv] at nv ⊢
    rw [ns _ (by omega), ns _ (by omega)]
    exact wu v hv nv
  · rw [kr] at hx
    rw [(ko x).2.1] at hf
    obtain ⟨b1, b2⟩ := kn x hx hf
    rw [ns _ (by omega), (ko x).2.2.1, ee]
    exact ⟨b1.fr (ko x) (fun k _ _ => Or.inr (ko _).2), b2⟩
  · rw [ns 325 (by omega), f.a 388 0 (nx _ (by decide) (by decide)), f.a 389 0 (nx _ (by decide) (by decide)), f.i 390 0 (nx _ (by decide) (by decide))]
    exact ol
  · rw [nt _ (by omega), nt _ (by omega), ns _ (by omega)]; exact tb
  · rw [ns _ (by omega)]; exact l0
