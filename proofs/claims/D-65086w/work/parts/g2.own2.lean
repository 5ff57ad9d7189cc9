theorem NC.pt {σ τ : St} (ke : ∀ x, KE σ τ x) : ∀ {l : Nat} {mn mx z lo hi : Int}, WT σ l mn mx z lo hi → (∀ y, y ∈ kl σ l z → gI τ 584 y = 0 → ∀ k, 0 ≤ k → k < gI σ 577 y → be σ y k < 0 ∨ gI τ 584 (be σ y k) = 0) → NC τ l z
  | 0, _, _, _, _, _, _, _ => trivial
  | l + 1, mn, mx, z, lo, hi, h, hp => by
    intro k k0 k1
    rw [(ke z).2.1] at k1
    rw [(ke z).b k]
    have t := (h.2.2.2 k k0 k1).2.2
    refine ⟨fun q => ?_, NC.pt ke t (fun y hy => hp y (kl_below k0 k1 hy))⟩
    rcases hp z (kl_self _ _ _) q k k0 k1 with w | w
    · have := t.cnt.1.1; omega
    · exact w
def mOw (x : Int) (f : Nat) (o' : Int) : Prop := ((584 ≤ f ∧ f ≤ 587) ∧ o' = x) ∨ (f = 324 ∧ o' = 0)
theorem SA.own {tv : Nat → Int} {cf : Cf} {σ τ : St} {dk : Int → Int} {db : Int → Int → Int} {L : List (Int × Int × Int × Int × Int × Int)} {x n p : Int} (hc : CfOK cf) (hk : ∀ n, 0 ≤ n → n < cf.1 - 6 → -1 ≤ dk n ∧ dk n ≤ cf.2.1 - 2) (h : SA tv cf σ dk db L) (hx : x ∈ krt σ 0) (hf : gI σ 584 x ≠ 0) (hch : ∀ k, 0 ≤ k → k < gI σ 577 x → be σ x k < 0 ∨ gI σ 584 (be σ x k) = 0) (hn : gI σ 451 4 = n) (n1 : n ≠ -1) (hg : knG tv σ x (db n) p) (hp : 0 ≤ p ∧ p + szK (gI σ 577 x) ≤ eE σ 0 dk n) (hlv : gA σ 324 0 n + szK (gI σ 577 x) ≤ eE σ 0 dk n) (hol : gI σ 390 0 + nfr σ (krt σ 0) + 1 ≤ 640) (f1 : gI τ 584 x = 0) (f2 : gI τ 585 x = n) (f3 : gI τ 586 x = p) (f4 : gI τ 587 x = szK (gI σ 577 x)) (f5 : gA τ 324 0 = upF (gA σ 324 0) n (gA σ 324 0 n + szK (gI σ 577 x))) (fr : Fr (mOw x) σ τ) (rk : RK τ) : SA tv cf τ dk db L := by
  have hR : 0 ≤ cf.2.2 ∧ cf.2.2 ≤ 4 := hc.2.2
  have hP : 8 ≤ cf.2.1 ∧ cf.2.1 ≤ 32 := hc.2.1
  have nn := fun {m : Int} (hm : 0 ≤ m) => h.nn hc hm
  obtain ⟨⟨w1, w2⟩, ⟨x1, x2, x3⟩, nm, wu, kn, ol, tb, l0⟩ := h
  have cx := krt_cnt x1.1 x hx
  have sz : szK (gI σ 577 x) = (32 + 28 * gI σ 577 x + 7) / 8 * 8 := rfl
  have isw : isW 0 4 := Or.inr (Or.inr rfl)
  have rn : 4 + cf.2.2 ≤ n ∧ n < cf.1 - 6 := by
    rcases w1.all.1 4 isw with z | z
    · rw [hn] at z; exact absurd z n1
    · rw [hn] at z; exact z.1
  have un := wu 4 isw (by rw [hn]; exact n1)
  rw [hn, if_pos rfl] at un
  have wf : ∀ f v, (v = 0 ∨ v = 0 + 2 ∨ v = 0 + 4) → 450 ≤ f → f ≤ 452 → ¬ mOw x f v := fun f v _ a b q => by unfold mOw at q; omega
  have ns : ∀ f, (f = 323 ∨ f = 325) → gA τ f 0 = gA σ f 0 := fun f hf => fr.a _ _ (fun q => by unfold mOw at q; omega)
  have nt : ∀ f, (f = 214 ∨ f = 216) → gI τ f 0 = gI σ f 0 := fun f hf => fr.i _ _ (fun q => by unfold mOw at q; omega)
  have nu : ∀ v, gI τ 451 v = gI σ 451 v := fun v => fr.i _ _ (fun q => by unfold mOw at q; omega)
  have ee : eE τ 0 dk = eE σ 0 dk := funext (fun m => eE_fr fr wf)
  have hh : ∀ m, hld τ 0 m ↔ hld σ 0 m := fun m => ⟨fun ⟨v, v1, v2⟩ => ⟨v, v1, by rw [← nu v]; exact v2⟩, fun ⟨v, v1, v2⟩ => ⟨v, v1, by rw [nu v]; exact v2⟩⟩
  have ke : ∀ y, KE σ τ y := fun y => KE.fr fr (fun f a b q => by unfold mOw at q; omega)
  have oe : ∀ y, y ≠ x → OE σ τ y := fun y ne => OE.fr fr (fun f a b q => by unfold mOw at q; omega)
  have ff : ∀ y, y ≠ x → gI τ 584 y = gI σ 584 y := fun y ne => (oe y ne).1
  obtain ⟨l, z, i1, i2, i3, i4, i5, i6, i7, i8, i9⟩ := id x1.1
  have k0 : krt σ 0 = kl σ l z := krt_eq i1 i2.cnt.2.1
  obtain ⟨g1, g2⟩ := tr_fr (σ := σ) (τ := τ) l z (fun y _ => ke y)
  have rt : gI τ 387 0 = z := by rw [fr.i _ _ (fun q => by unfold mOw at q; omega)]; exact i1
  have kt : krt τ 0 = krt σ 0 := by rw [krt_eq rt (by rw [(ke z).1]; exact i2.cnt.2.1), g2, k0]
  have nd : (krt σ 0).Nodup := by rw [k0]; exact i2.nd
  have q0 := FP_fr (o := 0) fr ⟨fun q => by unfold mOw at q; omega, fun q => by unfold mOw at q; omega⟩
  have ol0 : gI τ 390 0 = gI σ 390 0 := fr.i _ _ (fun q => by unfold mOw at q; omega)
  -- no knot on the flash has x below
  have nox : ∀ y, y ∈ krt σ 0 → gI σ 584 y = 0 → ∀ k, 0 ≤ k → k < gI σ 577 y → be σ y k < 0 ∨ (be σ y k ≠ x ∧ gI σ 584 (be σ y k) = 0) := by
    intro y hy hfy k k0' k1'
    rw [k0] at hy
    rcases i3.chd i2 hy hfy k0' k1' with w | w
    · exact Or.inl w
    · exact Or.inr ⟨fun e => hf (by rw [← e]; exact w.2), w.2⟩
  have nct : NC τ l z := NC.pt ke i2 (fun y hy hfy k k0' k1' => by
    by_cases e : y = x
    · rw [e] at k1' ⊢
      rcases hch k k0' k1' with w | w
      · exact Or.inl w
      · by_cases e2 : be σ x k = x
        · exact Or.inr (by rw [e2]; exact f1)
        · exact Or.inr (by rw [ff _ e2]; exact w)
    · rw [ff y e] at hfy
      rcases nox y (by rw [k0]; exact hy) hfy k k0' k1' with w | w
      · exact Or.inl w
      · exact Or.inr (by rw [ff _ w.1]; exact w.2))
  have nf : nfr τ (krt τ 0) ≤ nfr σ (krt σ 0) + 1 := by rw [kt]; exact nfr_one nd (fun y _ ne => ff y ne)
  have IXt : IX τ 0 L := ⟨l, z, rt, i2.fr (fun y _ => ke y), nct, g1.trans i4, q0.2 i5, fun y hy => by
    rw [g2] at hy
    exact ⟨fun w => (i6 y hy).1 ((q0.1 y).mp w), (i6 y hy).2⟩, by rw [g2, fr.i 386 0 (fun q => by unfold mOw at q; omega)]; exact i7, by rw [ol0]; exact i8, by rw [← k0] at g2; rw [g2, ← kt, ol0]; omega⟩
  have lv : ∀ m, m ≠ n → gA τ 324 0 m = gA σ 324 0 m := fun m e => by rw [f5]; unfold upF; rw [if_neg e]
  have lvn : gA τ 324 0 n = gA σ 324 0 n + szK (gI σ 577 x) := by rw [f5]; unfold upF; rw [if_pos rfl]
  have fz0 : ∀ m, fz σ x m = 0 := fun m => by unfold fz; rw [if_neg (fun q => hf q.1)]
  have fz1 : ∀ m, fz τ x m = if m = n then szK (gI σ 577 x) else 0 := fun m => by
    unfold fz
    rw [f1, f2, f4]
    by_cases e : m = n
    · rw [if_pos ⟨rfl, e.symm⟩, if_pos e]
    · rw [if_neg (fun q => e q.2.symm), if_neg e]
  have ks : ∀ m, kS τ (krt τ 0) m = kS σ (krt σ 0) m + (if m = n then szK (gI σ 577 x) else 0) := fun m => by
    rw [kt]; exact kS_one nd hx (fz0 m) (fz1 m) (fun y _ ne => (oe y ne).z m)
  have os : ∀ m, oS τ 0 m = oS σ 0 m := fun m => by
    unfold oS
    rw [fr.a 388 0 (fun q => by unfold mOw at q; omega), fr.a 389 0 (fun q => by unfold mOw at q; omega), ol0]
  have lim := w1.lim (by omega) hk (n := n) (by omega) rn.2
  refine ⟨⟨w1.fr fr wf, rk⟩, ⟨⟨IXt, x1.2.1, fun m m0 m1 => ?_⟩, x2, by rw [ee]; exact x3⟩, fun m m0 m1 => ?_, fun v hv nv => ?_, fun y hy hfy => ?_, ?_, ?_, fun m m0 m1 => ?_⟩
  · by_cases e : m = n
    · have q := x1.2.2 m m0 m1
      have := (nn (m := n) (by omega)).1
      rw [e] at q ⊢
      rw [lvn]; omega
    · rw [lv m e]; exact x1.2.2 m m0 m1
  · obtain ⟨a1, a2, a3, a4, a5, a6, a7⟩ := nm m m0 m1
    have tbe : tbS τ m = tbS σ m := by unfold tbS; rw [nt _ (by omega), nt _ (by omega)]
    unfold NM
    rw [ns 323 (by omega), ns 325 (by omega), ks, os, tbe, nt 214 (by omega), ee]
    have ch : gA σ 323 0 m ≠ 0 → chM tv τ dk db m := fun q => by
      obtain ⟨b1, b2⟩ := a7 q
      exact ⟨fun y => by rw [ee]; exact b1 ((hh m).mp y), fun y => b2 (fun u => y ((hh m).mpr u))⟩
    by_cases e : m = n
    · rw [e] at a3 a5 ⊢
      rw [if_pos rfl, lvn]
      refine ⟨by rw [e] at a1; exact a1, fun q => by omega, by omega, by omega, a5, fun q => by omega, by rw [e] at ch; exact ch⟩
    · rw [if_neg e, lv m e, Int.add_zero]
      exact ⟨a1, fun q => ⟨(a2 q).1, (a2 q).2.1, fun y => (a2 q).2.2 ((hh m).mp y)⟩, a3, a4, a5, a6, ch⟩
  · rw [nu v] at nv ⊢
    rw [ns 323 (by omega), ns 325 (by omega)]
    exact wu v hv nv
  · rw [kt] at hy
    rw [ns 325 (by omega), ee]
    by_cases e : y = x
    · rw [e, f2]
      have on : ∀ k, 0 ≤ k → k < gI σ 577 x → oN τ x k = oN σ x k ∧ oP τ x k = oP σ x k ∧ oZ τ x k = oZ σ x k := by
        intro k k0' k1'
        have en := (ke x).2.2 k
        have b := (ke x).b k
        unfold oN oP oZ
        rw [b]
        by_cases q : be σ x k < 0
        · rw [if_pos q, if_pos q, if_pos q, if_pos q, if_pos q, if_pos q]
          exact ⟨congrArg (fun t : Int × Int × Int × Int × Int × Int => t.2.2.1) en, congrArg (fun t : Int × Int × Int × Int × Int × Int => t.2.2.2.1) en, congrArg (fun t : Int × Int × Int × Int × Int × Int => t.2.2.2.2.1) en⟩
        · rw [if_neg q, if_neg q, if_neg q, if_neg q, if_neg q, if_neg q]
          have ne : be σ x k ≠ x := by
            intro e2
            rcases hch k k0' k1' with w | w
            · exact q w
            · rw [e2] at w; exact hf w
          have o := oe _ ne
          exact ⟨o.2.1, o.2.2.1, o.2.2.2⟩
      refine ⟨⟨f1, by rw [f4, (ke x).2.1], by rw [f2]; exact rn, by rw [f3]; exact hp.1, by rw [f2, f3, f4]; exact hp.2, ?_⟩, by omega⟩
      rw [f2, f3]
      refine hg.of (ke x).2.1 (ke x).1 (fun k k0' k1' => ?_)
      have en := (ke x).2.2 k
      exact ⟨congrArg (fun t : Int × Int × Int × Int × Int × Int => t.1) en, congrArg (fun t : Int × Int × Int × Int × Int × Int => t.2.1) en, on k k0' k1'⟩
    · rw [ff y e] at hfy
      obtain ⟨b1, b2⟩ := kn y hy hfy
      rw [(oe y e).2.1]
      refine ⟨b1.fr ⟨ke y, oe y e⟩ (fun k k0' k1' => ?_), b2⟩
      rcases nox y hy hfy k k0' k1' with w | w
      · exact Or.inl w
      · exact Or.inr (oe _ w.1)
  · rw [ns 325 (by omega), fr.a 388 0 (fun q => by unfold mOw at q; omega), fr.a 389 0 (fun q => by unfold mOw at q; omega), ol0]
    exact ol
  · rw [nt _ (by omega), nt _ (by omega), ns 325 (by omega)]; exact tb
  · rw [lv m (by omega)]; exact l0 m m0 m1
