/-! a key leads to a node -/
def lS (L : List (Int × Int × Int × Int × Int × Int)) (m : Int) : Int := (L.map (fun e => if e.2.2.1 = m then e.2.2.2.2.1 else 0)).sum
theorem lS_app (L M : List (Int × Int × Int × Int × Int × Int)) (m : Int) : lS (L ++ M) m = lS L m + lS M m := by unfold lS; rw [List.map_append, List.sum_append]
theorem lS_cons (e : Int × Int × Int × Int × Int × Int) (M : List (Int × Int × Int × Int × Int × Int)) (m : Int) : lS (e :: M) m = (if e.2.2.1 = m then e.2.2.2.2.1 else 0) + lS M m := by unfold lS; rw [List.map_cons, List.sum_cons]
def PUT (L L' : List (Int × Int × Int × Int × Int × Int)) (κ : Int) (e' : Int × Int × Int × Int × Int × Int) : Prop := ∃ A B, L' = A ++ e' :: B ∧ ((L = A ++ B ∧ (∀ a, a ∈ A → kyE a < κ) ∧ ∀ b, b ∈ B → κ < kyE b) ∨ ∃ e0, kyE e0 = κ ∧ L = A ++ e0 :: B)
def mIx (o : Int) (f : Nat) (o' : Int) : Prop := ((385 ≤ f ∧ f ≤ 397) ∧ o' = o) ∨ ((576 ≤ f ∧ f ≤ 587) ∧ 320 * o ≤ o' ∧ o' < 320 * o + 320) ∨ (f = 324 ∧ o' = o)
theorem krt_eq {σ : St} {o z : Int} {l : Nat} (h : gI σ 387 o = z) (h2 : gI σ 576 z = l) : krt σ o = kl σ l z := by
  unfold krt; rw [h, h2, show ((l : Nat) : Int).toNat = l by omega]
theorem mCh_mIx {σ : St} {o : Int} {K0 : List Int} (hp : PO σ o) (hK : ∀ x, x ∈ K0 → 320 * o ≤ x ∧ x < 320 * o + 320) : ∀ f o', mCh o (fun x => x ∈ K0 ∨ FP σ o x) f o' → mIx o f o' := by
  intro f o' q
  rcases q with q | q
  · exact Or.inl ⟨by omega, q.2⟩
  · refine Or.inr (Or.inl ⟨q.1, ?_⟩)
    rcases q.2 with w | ⟨i, hi, e⟩
    · exact hK o' w
    · rw [← e]; exact (hp.2 i hi.1 hi.2).1
/-- one fresh knot of a row has other keys -/
theorem CH.updS {σ τ : St} {o x : Int} {K : List Int} (hp : PO σ o) (hz : ∀ x, x ∈ K → ¬ FP σ o x) (h0 : 0 ≤ gI σ 390 o) (hx : x ∈ K) (hf : gI σ 584 x ≠ 0) (fr : Fr (mKu [x]) σ τ) : CH σ τ o K K := by
  have nm : ∀ f o', (f < 577 ∨ 583 < f) → ¬ mKu [x] f o' := fun f o' a q => by unfold mKu at q; omega
  obtain ⟨f1, f2⟩ := FP_fr (o := o) fr ⟨nm _ _ (by decide), nm _ _ (by decide)⟩
  have fe := fr.i 386 o (nm _ _ (by decide))
  have f3 : ∀ x, gI τ 584 x = gI σ 584 x := fun x => fr.i 584 x (nm _ _ (by decide))
  have f4 := fr.i 390 o (nm _ _ (by decide))
  have f5 := fr.a 388 o (nm _ _ (by decide))
  have f6 := fr.a 389 o (nm _ _ (by decide))
  have oe : ∀ x, OE σ τ x := fun x => OE.ku fr x
  refine ⟨fun x hx => Or.inl hx, fun x hx => Or.inl ((f1 x).mp hx), ⟨f2 hp, fun x hx q => hz x hx ((f1 x).mp q)⟩, by rw [fe], fun n hn => ?_, ?_, fun y hy e => ?_, fun P p1 p2 => by rw [f4, f5, f6]; exact p1, fr.mono (fun f o' q => ?_)⟩
  · unfold oS
    rw [kS_ext (σ := σ) (τ := τ) (fun x _ => (oe x).z n), f4, f5, f6]
  · rw [nfr_ext (σ := σ) (τ := τ) (fun x _ => f3 x), f4]
    exact ⟨h0, Int.le_refl _⟩
  · rw [f3] at e
    have ne : y ≠ x := fun q => hf (q ▸ e)
    exact ⟨hy, KE.ku fr (fun q => ne (List.mem_singleton.mp q)), oe y⟩
  · unfold mKu at q; unfold mCh
    exact Or.inr ⟨by omega, Or.inl (by rw [List.mem_singleton.mp q.2]; exact hx)⟩
/-- what the knots on the flash are, from one state to another -/
def CK (σ τ : St) (o : Int) : Prop := (∀ n, n ≠ -1 → kS τ (krt τ o) n + oS τ o n = kS σ (krt σ o) n + oS σ o n) ∧ (∀ x, x ∈ krt τ o → gI τ 584 x = 0 → x ∈ krt σ o ∧ KE σ τ x ∧ OE σ τ x) ∧ (∀ P : Int → Int → Prop, (∀ i, 0 ≤ i → i < gI σ 390 o → P (gA σ 388 o i) (gA σ 389 o i)) → (∀ x, x ∈ krt σ o → gI σ 584 x = 0 → P (gI σ 585 x) (gI σ 587 x)) → ∀ i, 0 ≤ i → i < gI τ 390 o → P (gA τ 388 o i) (gA τ 389 o i)) ∧ gI τ 390 o + nfr τ (krt τ o) ≤ gI σ 390 o + nfr σ (krt σ o)
theorem CK.tr {σ τ υ : St} {o : Int} (h : CK σ τ o) (k : CK τ υ o) : CK σ υ o := by
  obtain ⟨a1, a2, a3, a4⟩ := h
  obtain ⟨b1, b2, b3, b4⟩ := k
  refine ⟨fun n hn => (b1 n hn).trans (a1 n hn), fun x hx e => ?_, fun P p1 p2 => b3 P (a3 P p1 p2) (fun x hx e => ?_), Int.le_trans b4 a4⟩
  · obtain ⟨c1, c2, c3⟩ := b2 x hx e
    obtain ⟨d1, d2, d3⟩ := a2 x c1 (by rw [← c3.1]; exact e)
    exact ⟨d1, d2.tr c2, d3.tr c3⟩
  · obtain ⟨d1, d2, d3⟩ := a2 x hx e
    rw [d3.2.1, d3.2.2.2]
    exact p2 x d1 (by rw [← d3.1]; exact e)
theorem CK.fr {σ τ : St} {o : Int} {M : Nat → Int → Prop} (f : Fr M σ τ) (n1 : ∀ f x, 576 ≤ f → f ≤ 587 → ¬ M f x) (n2 : ∀ f, 385 ≤ f → f ≤ 390 → ¬ M f o) : CK σ τ o := by
  have ke : ∀ x, KE σ τ x := fun x => KE.fr f (fun f' a b => n1 f' x a (Nat.le_trans b (by decide)))
  have oe : ∀ x, OE σ τ x := fun x => OE.fr f (fun f' a b => n1 f' x (Nat.le_trans (by decide) a) b)
  have er := f.i 387 o (n2 _ (by decide) (by decide))
  have ek : krt τ o = krt σ o := by
    unfold krt
    rw [er, (ke _).1]
    exact (tr_fr _ _ (fun x _ => ke x)).2
  have e1 := f.i 390 o (n2 _ (by decide) (by decide))
  have e2 := f.a 388 o (n2 _ (by decide) (by decide))
  have e3 := f.a 389 o (n2 _ (by decide) (by decide))
  refine ⟨fun n _ => ?_, fun x hx e => ⟨by rw [← ek]; exact hx, ke x, oe x⟩, fun P p1 _ => by rw [e1, e2, e3]; exact p1, by rw [ek, e1, nfr_ext (σ := σ) (τ := τ) (fun x _ => (oe x).1)]; omega⟩
  unfold oS
  rw [ek, kS_ext (σ := σ) (τ := τ) (fun x _ => (oe x).z n), e1, e2, e3]
/-- the invariant, put together behind a change -/
theorem IX.of {σ τ υ : St} {o : Int} {l l' : Nat} {z z' : Int} {L : List (Int × Int × Int × Int × Int × Int)} (i1 : gI σ 387 o = z) (i2 : gI σ 576 z = l) (i7 : ((kl σ l z).length : Int) = gI σ 386 o) (i9 : gI σ 390 o + nfr σ (kl σ l z) ≤ 640) (i6 : ∀ x, x ∈ kl σ l z → ¬ FP σ o x ∧ 320 * o ≤ x ∧ x < 320 * o + 320) (hp : PO σ o) (hu : Fr (fun f o' => f = 387 ∧ o' = o) τ υ) (h1 : gI υ 387 o = z') (h2 : WT τ l' (if l' = 0 then 0 else 2) 8 z' (-BIG) BIG) (h3 : NC τ l' z') (h4 : ls τ l' z' = L) (h5 : CH σ τ o (kl σ l z) (kl τ l' z')) : IX υ o L ∧ CK σ υ o ∧ Fr (mIx o) σ υ := by
  obtain ⟨a1, a2, a3, a4, a5, a6, a7, a8, a9⟩ := h5
  have nr : ∀ f x, f ≠ 387 → ¬ (f = 387 ∧ x = o) := fun f x h q => h q.1
  have ke : ∀ x, KE τ υ x := fun x => KE.fr hu (fun f' a b q => by omega)
  have oe : ∀ x, OE τ υ x := fun x => OE.fr hu (fun f' a b q => by omega)
  obtain ⟨g1, g2⟩ := tr_fr (σ := τ) (τ := υ) l' z' (fun x _ => ke x)
  obtain ⟨p1, p2⟩ := FP_fr (o := o) hu ⟨nr _ _ (by decide), nr _ _ (by decide)⟩
  have e1 := hu.i 390 o (nr _ _ (by decide))
  have e2 := hu.a 388 o (nr _ _ (by decide))
  have e3 := hu.a 389 o (nr _ _ (by decide))
  have e4 := hu.i 386 o (nr _ _ (by decide))
  have lv := h2.cnt.2.1
  have k1 : krt υ o = kl τ l' z' := by rw [krt_eq h1 (by rw [(ke z').1]; exact lv), g2]
  have k0 : krt σ o = kl σ l z := krt_eq i1 i2
  refine ⟨⟨l', z', h1, h2.fr (fun x _ => ke x), h3.fr (fun x _ => ⟨ke x, oe x⟩), by rw [g1]; exact h4, p2 a3.1, fun x hx => ?_, by rw [g2, e4]; omega, by rw [e1]; exact a6.1, ?_⟩, ⟨fun n hn => ?_, fun x hx e => ?_, fun P p1 p2 => ?_, ?_⟩, (a9.mono (mCh_mIx hp (fun x hx => (i6 x hx).2))).tr (hu.mono (fun f o' q => Or.inl ⟨by omega, q.2⟩))⟩
  · rw [g2] at hx
    refine ⟨fun q => a3.2 x hx ((p1 x).mp q), ?_⟩
    rcases a1 x hx with w | ⟨i, hi, e⟩
    · exact (i6 x w).2
    · rw [← e]; exact (hp.2 i hi.1 hi.2).1
  · rw [g2, nfr_ext (σ := τ) (τ := υ) (fun x _ => (oe x).1), e1]; omega
  · have := a5 n hn
    unfold oS at this ⊢
    rw [k1, k0, kS_ext (σ := τ) (τ := υ) (fun x _ => (oe x).z n), e1, e2, e3]
    exact this
  · rw [k1] at hx
    rw [(oe x).1] at e
    obtain ⟨d1, d2, d3⟩ := a7 x hx e
    exact ⟨by rw [k0]; exact d1, d2.tr (ke x), d3.tr (oe x)⟩
  · rw [e1, e2, e3]
    exact a8 P p1 (fun x hx => p2 x (by rw [k0]; exact hx))
  · rw [k1, k0, nfr_ext (σ := τ) (τ := υ) (fun x _ => (oe x).1), e1]; exact a6.2
theorem sp_grow {tv : Nat → Int} {cf : Cf} {σ τ : St} {o z r lo hi : Int} {l : Nat} {K0 : List Int} {Q : St → Prop} (hz : gI τ 387 o = z) (h1 : WT τ l 4 8 z lo (ky τ r 0)) (h2 : WT τ l 4 8 r (ky τ r 0) hi) (n1 : NC τ l z) (n2 : NC τ l r) (hC : CH σ τ o K0 (kl τ l z ++ kl τ l r)) (hf : gI τ 386 o < 320) (ho : o = 0 ∨ o = 1) (hl : l < 1000) (hr0 : 0 ≤ r)
    (hQ : ∀ υ t, WT υ (l + 1) 2 8 t lo hi → NC υ (l + 1) t → ls υ (l + 1) t = ls τ l z ++ ls τ l r → CH σ υ o K0 (kl υ (l + 1) t) → gI υ 584 t ≠ 0 → Q (sI υ 387 o t)) : wp_Index_grow cf tv o r Q τ := by
  have c1 := h1.cnt
  have c2 := h2.cnt
  have hp := hC.2.2.1.1
  have pr := (hp.2 (gI τ 386 o) (Int.le_refl _) hf).1
  unfold wp_Index_grow
  rw [hz, c1.2.1, w32_id (by unfold rI; omega)]
  refine ⟨c1.1.1, ?_⟩
  generalize ht : gA τ 385 o (gI τ 386 o) = t at *
  have tF : FP τ o t := ⟨gI τ 386 o, ⟨Int.le_refl _, hf⟩, ht⟩
  have tn : ∀ x, x ∈ kl τ l z ++ kl τ l r → x ≠ t := fun x hx e => hC.2.2.1.2 x hx (e ▸ tF)
  refine sp_kfetch (z := t) ⟨hp.1.1, hf⟩ ht (by omega) (fun σ1 a1 a2 a3 a4 a5 a6 f1 _ _ => ⟨by omega, fun σ2 e2 => ?_⟩)
  have zt : z ≠ t := tn z (List.mem_append.mpr (Or.inl (kl_self _ _ _)))
  have rt : r ≠ t := tn r (List.mem_append.mpr (Or.inr (kl_self _ _ _)))
  have f2 : Fr (fun f o' => mKf o t f o') τ σ2 := by rw [e2]; exact f1.sI (Or.inr ⟨by omega, rfl⟩)
  have ke2 : ∀ x, x ≠ t → KE τ σ2 x ∧ OE τ σ2 x := fun x hx => ⟨KE.fr f2 (fun f a b q => by
    unfold mKf at q
    rcases q with q | q
    · omega
    · exact hx q.2), OE.fr f2 (fun f a b q => by
    unfold mKf at q
    rcases q with q | q
    · omega
    · exact hx q.2)⟩
  have z2 : gI σ2 387 o = z := by rw [f2.i _ _ (fun q => by unfold mKf at q; omega)]; exact hz
  rw [z2]
  refine ⟨c1.1.1, by omega, by omega, ?_⟩
  refine sp_kset (by omega) (fun σ3 g1 g2 _ => ⟨hr0, by omega, by omega, ?_⟩)
  refine sp_kset (by omega) (fun σ4 g3 g4 _ σ5 e5 => ?_)
  have ke4 : ∀ x, x ≠ t → KE σ2 σ4 x ∧ OE σ2 σ4 x := by
    intro x hx
    have a := KE.fr (x := x) g2 (fun f _ _ q => hx q.2)
    have b := KE.fr (x := x) g4 (fun f _ _ q => hx q.2)
    have c := OE.fr (x := x) g2 (fun f _ _ q => hx q.2)
    have d := OE.fr (x := x) g4 (fun f _ _ q => hx q.2)
    exact ⟨a.tr b, c.tr d⟩
  have ke5 : ∀ x, x ≠ t → KE τ σ4 x ∧ OE τ σ4 x := fun x hx => ⟨(ke2 x hx).1.tr (ke4 x hx).1, (ke2 x hx).2.tr (ke4 x hx).2⟩
  have en0 : en σ4 t 0 = en σ3 t 0 := by rw [g3, if_neg (fun q => by omega)]
  have k0 : kyE (en σ4 t 0) = ky τ z 0 := by
    rw [en0, g1, if_pos ⟨rfl, rfl⟩]
    exact (ke2 z zt).1.k 0
  have b0 : (en σ4 t 0).2.2.2.2.2 = z := by rw [en0, g1, if_pos ⟨rfl, rfl⟩]
  have k1' : kyE (en σ4 t 1) = ky τ r 0 := by
    rw [g3, if_pos ⟨rfl, rfl⟩]
    have a := KE.fr (x := r) g2 (fun f _ _ q => rt q.2)
    show ky σ3 r 0 = _
    rw [a.k, (ke2 r rt).1.k]
  have b1 : (en σ4 t 1).2.2.2.2.2 = r := by rw [g3, if_pos ⟨rfl, rfl⟩]
  have cnt5 : gI σ4 577 t = 2 := by
    rw [g4.i _ _ (fun q => by unfold mKa at q; omega), g2.i _ _ (fun q => by unfold mKa at q; omega), e2, gI_sI, if_pos ⟨rfl, rfl⟩]
  have f45 : ∀ f, (f = 576 ∨ f = 584) → gI σ4 f t = gI σ1 f t := by
    intro f hf'
    rw [g4.i _ _ (fun q => by unfold mKa at q; omega), g2.i _ _ (fun q => by unfold mKa at q; omega), e2, gI_sI, if_neg (fun q => by omega)]
  have lv5 : gI σ4 576 t = l + 1 := by rw [f45 _ (Or.inl rfl)]; exact a3
  have fr5 : gI σ4 584 t = 1 := by rw [f45 _ (Or.inr rfl)]; exact a5
  have kz : ∀ x, x ∈ kl τ l z → KE τ σ4 x ∧ OE τ σ4 x := fun x hx => ke5 x (tn x (List.mem_append.mpr (Or.inl hx)))
  have kr : ∀ x, x ∈ kl τ l r → KE τ σ4 x ∧ OE τ σ4 x := fun x hx => ke5 x (tn x (List.mem_append.mpr (Or.inr hx)))
  obtain ⟨lz, kz'⟩ := tr_fr (σ := τ) (τ := σ4) l z (fun x hx => (kz x hx).1)
  obtain ⟨lr, kr'⟩ := tr_fr (σ := τ) (τ := σ4) l r (fun x hx => (kr x hx).1)
  have hz0 := h1.key 0 (Int.le_refl _) (by omega)
  have hz1 := (h1.hi (i := 0) (Int.le_refl _) (by omega)).2
  have hr1 := (h2.hi (i := 0) (Int.le_refl _) (by omega)).2
  have W : WT σ4 (l + 1) 2 8 t lo hi := by
    refine ⟨by omega, by rw [lv5], by rw [cnt5]; omega, fun k k0' k1 => ?_⟩
    rw [cnt5] at k1
    by_cases e : k = 0
    · rw [e]
      have nx0 : nx σ4 t 0 hi = ky τ r 0 := by unfold nx; rw [cnt5, if_pos (by omega)]; exact k1'
      have kk0 : ky σ4 t 0 = ky τ z 0 := k0
      have bb0 : be σ4 t 0 = z := b0
      rw [nx0, kk0, bb0]
      exact ⟨⟨hz0.1, hz1⟩, (kz z (kl_self _ _ _)).1.k 0, (h1.self (by omega)).fr (fun x hx => (kz x hx).1)⟩
    · have e1 : k = 1 := by omega
      rw [e1]
      have nx1 : nx σ4 t 1 hi = hi := by unfold nx; rw [cnt5, if_neg (by omega)]
      have kk1 : ky σ4 t 1 = ky τ r 0 := k1'
      have bb1 : be σ4 t 1 = r := b1
      rw [nx1, kk1, bb1]
      exact ⟨⟨by omega, hr1⟩, (kr r (kl_self _ _ _)).1.k 0, h2.fr (fun x hx => (kr x hx).1)⟩
  have eL : ls σ4 (l + 1) t = ls τ l z ++ ls τ l r := by
    show cat _ _ = _
    rw [cnt5]
    show ([] ++ ls σ4 l (en σ4 t 0).2.2.2.2.2) ++ ls σ4 l (en σ4 t 1).2.2.2.2.2 = _
    rw [b0, b1, lz, lr, List.nil_append]
  have eK : kl σ4 (l + 1) t = t :: (kl τ l z ++ kl τ l r) := by
    show t :: cat _ _ = _
    rw [cnt5]
    show t :: (([] ++ kl σ4 l (en σ4 t 0).2.2.2.2.2) ++ kl σ4 l (en σ4 t 1).2.2.2.2.2) = _
    rw [b0, b1, kz', kr', List.nil_append]
  have C1 : CH τ σ1 o [] [t] := CH.fetch hp hC.2.2.2.2.2.1.1 hf ht a1 a2 a5 f1
  have f14 : Fr (mKu [t]) σ1 σ4 := by
    refine Fr.tr ?_ ((g2.mono (fun f o' q => by unfold mKa at q; exact ⟨by omega, List.mem_singleton.mpr q.2⟩)).tr (g4.mono (fun f o' q => by unfold mKa at q; exact ⟨by omega, List.mem_singleton.mpr q.2⟩)))
    rw [e2]; exact (Fr.rf _ _).sI ⟨by omega, List.mem_singleton.mpr rfl⟩
  have C2 : CH σ1 σ4 o [t] [t] := CH.updL C1.2.2.1.1 C1.2.2.1.2 C1.2.2.2.2.2.1.1 (fun x hx => by rw [List.mem_singleton.mp hx, a5]; omega) f14
  have C3 : CH τ σ4 o (kl τ l z ++ kl τ l r) (kl σ4 (l + 1) t) := by
    have := (C1.tr C2).ctx [] (kl τ l z ++ kl τ l r) (fun x hx => (by cases hx)) (fun x hx => ⟨fun w => (by cases w), hC.2.2.1.2 x hx⟩)
    rw [eK]; exact this
  have n4 : NC σ4 (l + 1) t := by
    refine NC.of (by rw [fr5]; omega) (fun k k0' k1 => ?_)
    rw [cnt5] at k1
    by_cases e : k = 0
    · rw [e]; show NC σ4 l (en σ4 t 0).2.2.2.2.2
      rw [b0]; exact n1.fr kz
    · have e1 : k = 1 := by omega
      rw [e1]; show NC σ4 l (en σ4 t 1).2.2.2.2.2
      rw [b1]; exact n2.fr kr
  rw [e5]
  exact hQ σ4 t W n4 eL (hC.tr C3) (by rw [fr5]; omega)
