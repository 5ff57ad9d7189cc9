/-! all knots are given back -/
def mPf (o : Int) (f : Nat) (o' : Int) : Prop := (f = 385 ∨ f = 386) ∧ o' = o
theorem PO.give {σ τ : St} {o y : Int} (hp : PO σ o) (hy : ¬ FP σ o y) (hr : 320 * o ≤ y ∧ y < 320 * o + 320) (h1 : 1 ≤ gI σ 386 o) (q1 : gI τ 386 o = gI σ 386 o - 1) (q2 : ∀ i, gA τ 385 o i = if i = gI σ 386 o - 1 then y else gA σ 385 o i) : PO τ o ∧ ∀ x, FP τ o x → FP σ o x ∨ x = y := by
  have hp1 := hp.1
  refine ⟨⟨by rw [q1]; omega, fun i i0 i1 => ?_⟩, fun x hx => ?_⟩
  · rw [q1] at i0
    rw [q2]
    by_cases w : i = gI σ 386 o - 1
    · rw [if_pos w]
      refine ⟨hr, fun j j0 j1 e => ?_⟩
      rw [q1] at j0
      rw [q2] at e
      by_cases v : j = gI σ 386 o - 1
      · omega
      · rw [if_neg v] at e
        exact absurd ⟨j, by omega, e.symm⟩ hy
    · rw [if_neg w]
      obtain ⟨g1, g2⟩ := hp.2 i (by omega) i1
      refine ⟨g1, fun j j0 j1 e => ?_⟩
      rw [q1] at j0
      rw [q2] at e
      by_cases v : j = gI σ 386 o - 1
      · rw [if_pos v] at e
        exact absurd ⟨i, by omega, e⟩ hy
      · rw [if_neg v] at e
        exact g2 j (by omega) j1 e
  · obtain ⟨i, hi, e⟩ := hx
    rw [q1] at hi
    rw [q2] at e
    by_cases w : i = gI σ 386 o - 1
    · rw [if_pos w] at e; exact Or.inr e.symm
    · rw [if_neg w] at e; exact Or.inl ⟨i, by omega, e⟩
theorem sp_giveAll {tv : Nat → Int} {cf : Cf} {o : Int} : ∀ (l d : Nat) (σ : St) (z mn lo hi : Int) (Q : St → Prop), l < d → WT σ l mn 8 z lo hi → PO σ o → (∀ x, x ∈ kl σ l z → ¬ FP σ o x ∧ 320 * o ≤ x ∧ x < 320 * o + 320) → ((kl σ l z).length : Int) ≤ gI σ 386 o →
    (∀ τ, Fr (mPf o) σ τ → gI τ 386 o = gI σ 386 o - (kl σ l z).length → PO τ o → (∀ x, FP τ o x → FP σ o x ∨ x ∈ kl σ l z) → Q τ) → wp_Index_giveAll cf tv d o z Q σ := by
  intro l
  induction l with
  | zero =>
    intro d σ z mn lo hi Q hd hT hp hK hfree hQ
    obtain ⟨d', rfl⟩ : ∃ d', d = d' + 1 := ⟨d - 1, by omega⟩
    obtain ⟨c1, c2, c3, c4, c5⟩ := hT.cnt
    have e1 : ((kl σ 0 z).length : Int) = 1 := rfl
    rw [e1] at hfree
    have hp1 := hp.1
    have fin : wp_Index_giveAll_b33 cf tv o z (wp_Index_giveAll cf tv d') Q σ := by
      unfold wp_Index_giveAll_b33
      rw [w32_id (by unfold rI; omega)]
      intro σ1 ea
      refine ⟨by omega, fun σ2 eb => ?_⟩
      have q1 : gI σ2 386 o = gI σ 386 o - 1 := by rw [eb, gI_sA, ea, gI_sI, if_pos ⟨rfl, rfl⟩]
      have q2 : ∀ i, gA σ2 385 o i = if i = gI σ 386 o - 1 then z else gA σ 385 o i := fun i => by rw [eb, sA_if, ea, gA_sI]
      have hz := hK z (kl_self σ 0 z)
      obtain ⟨r1, r2⟩ := PO.give hp hz.1 hz.2 hfree q1 q2
      refine hQ σ2 ?_ (by rw [e1]; exact q1) r1 (fun x hx => (r2 x hx).imp (fun w => w) (fun w => List.mem_singleton.mpr w))
      rw [eb, ea]; exact ((Fr.rf _ _).sI ⟨by omega, rfl⟩).sA ⟨by omega, rfl⟩
    show wp_Index_giveAll_R cf tv o z (wp_Index_giveAll cf tv d') Q σ
    unfold wp_Index_giveAll_R
    refine lQ1_rule (fun y τ => τ = σ) (fun _ _ => 0) ?_ 0 σ rfl
    intro K y τ hI hK'
    subst hI
    unfold wp_Index_giveAll_L2
    exact ⟨c1.1, fun _ => fin, fun _ => ⟨fun _ => fin, fun q => by omega⟩⟩
  | succ l ih =>
    intro d σ z mn lo hi Q hd hT hp hK hfree hQ
    obtain ⟨d', rfl⟩ : ∃ d', d = d' + 1 := ⟨d - 1, by omega⟩
    obtain ⟨c1, c2, c3, c4, c5⟩ := hT.cnt
    have hp1 := hp.1
    have eK : kl σ (l + 1) z = z :: cat (fun k => kl σ l (be σ z k)) (gI σ 577 z).toNat := rfl
    have spl : ∀ y, 0 ≤ y → y ≤ gI σ 577 z → cat (fun k => kl σ l (be σ z k)) (gI σ 577 z).toNat = cat (fun k => kl σ l (be σ z k)) y.toNat ++ cat (fun i => kl σ l (be σ z (y + i))) ((gI σ 577 z).toNat - y.toNat) := by
      intro y y0 y1
      rw [show (gI σ 577 z).toNat = y.toNat + ((gI σ 577 z).toNat - y.toNat) by omega, cat_add, show ((y.toNat : Nat) : Int) = y by omega]
      rw [show y.toNat + ((gI σ 577 z).toNat - y.toNat) - y.toNat = (gI σ 577 z).toNat - y.toNat by omega]
    show wp_Index_giveAll_R cf tv o z (wp_Index_giveAll cf tv d') Q σ
    unfold wp_Index_giveAll_R
    refine lQ1_rule (fun y τ => (0 ≤ y ∧ y ≤ gI σ 577 z) ∧ Fr (mPf o) σ τ ∧ gI τ 386 o = gI σ 386 o - (cat (fun k => kl σ l (be σ z k)) y.toNat).length ∧ PO τ o ∧ (∀ x, FP τ o x → FP σ o x ∨ x ∈ cat (fun k => kl σ l (be σ z k)) y.toNat)) (fun y _ => (9 - y).toNat) ?_ 0 σ ⟨by omega, Fr.rf _ _, by show _ = _ - ((0 : Nat) : Int); omega, hp, fun x hx => Or.inl hx⟩
    intro K y τ hI hK'
    obtain ⟨hy, fr, hf, hpo, hfp⟩ := hI
    have ke : ∀ x, KE σ τ x := fun x => KE.fr fr (fun f a b q => by unfold mPf at q; omega)
    have e1 : ((kl σ (l + 1) z).length : Int) = (cat (fun k => kl σ l (be σ z k)) (gI σ 577 z).toNat).length + 1 := rfl
    unfold wp_Index_giveAll_L2
    rw [(ke z).2.1, (ke z).1, c2]
    refine ⟨c1.1, fun q => ?_, fun q => ⟨fun w => by omega, fun _ => ⟨by omega, ?_⟩⟩⟩
    · have ey : y = gI σ 577 z := by omega
      rw [ey] at hf hfp
      have hz := hK z (kl_self σ (l + 1) z)
      have zn : ¬ FP τ o z := by
        intro w
        rcases hfp z w with u | u
        · exact hz.1 u
        · obtain ⟨i, hi', hx⟩ := cat_mem u
          exact hT.top hi'.1 (by omega) hx
      have hp2 := hpo.1
      unfold wp_Index_giveAll_b33
      rw [w32_id (by unfold rI; omega)]
      intro σ1 ea
      refine ⟨by omega, fun σ2 eb => ?_⟩
      have q1 : gI σ2 386 o = gI τ 386 o - 1 := by rw [eb, gI_sA, ea, gI_sI, if_pos ⟨rfl, rfl⟩]
      have q2 : ∀ i, gA σ2 385 o i = if i = gI τ 386 o - 1 then z else gA τ 385 o i := fun i => by rw [eb, sA_if, ea, gA_sI]
      obtain ⟨r1, r2⟩ := PO.give hpo zn hz.2 (by omega) q1 q2
      refine hQ σ2 ?_ (by rw [q1, hf, e1]; omega) r1 (fun x hx => ?_)
      · rw [eb, ea]; exact (fr.sI ⟨by omega, rfl⟩).sA ⟨by omega, rfl⟩
      · rcases r2 x hx with w | w
        · exact (hfp x w).imp (fun v => v) (fun v => List.mem_cons_of_mem _ v)
        · exact Or.inr (by rw [w]; exact kl_self _ _ _)
    · have lt : y < gI σ 577 z := by omega
      have g := hT.2.2.2 y hy.1 lt
      have eb : gA τ 583 z y = be σ z y := (ke z).b y
      rw [eb]
      obtain ⟨t1, t2⟩ := tr_fr (σ := σ) (τ := τ) l (be σ z y) (fun x _ => ke x)
      have nx : (cat (fun k => kl σ l (be σ z k)) (y + 1).toNat) = cat (fun k => kl σ l (be σ z k)) y.toNat ++ kl σ l (be σ z y) := by
        rw [show (y + 1).toNat = y.toNat + 1 by omega]
        show cat _ y.toNat ++ kl σ l (be σ z ((y.toNat : Nat) : Int)) = _
        rw [show ((y.toNat : Nat) : Int) = y by omega]
      refine ih d' τ (be σ z y) 4 _ _ _ (by omega) (g.2.2.fr (fun x _ => ke x)) hpo (fun x hx => ?_) ?_ (fun υ f2 hf2 hp2 hfp2 _ y' ey' => ?_)
      · rw [t2] at hx
        have a := hK x (kl_below hy.1 lt hx)
        refine ⟨fun w => ?_, a.2⟩
        rcases hfp x w with u | u
        · exact a.1 u
        · obtain ⟨i, hi', hx'⟩ := cat_mem u
          exact hT.dis hi'.1 (by omega) hy.1 lt (by omega) hx' hx
      · rw [t2, hf]
        have a := spl (y + 1) (by omega) (by omega)
        rw [nx] at a
        rw [e1, a] at hfree
        simp only [List.length_append] at hfree
        omega
      · rw [w32_id (by unfold rI; omega)] at ey'
        rw [ey']
        rw [t2] at hf2 hfp2
        refine hK' _ _ ⟨by omega, fr.tr f2, ?_, hp2, fun x hx => ?_⟩ (by omega)
        · rw [hf2, hf, nx, List.length_append]; omega
        · rw [nx]
          rcases hfp2 x hx with w | w
          · exact (hfp x w).imp (fun v => v) (fun v => List.mem_append.mpr (Or.inl v))
          · exact Or.inr (List.mem_append.mpr (Or.inr w))
/-- no keys, one knot -/
theorem sp_iclear {tv : Nat → Int} {cf : Cf} {σ : St} {o : Int} {Q : St → Prop} (ho : o = 0 ∨ o = 1) (hR : (gI σ 387 o < 0 ∧ gI σ 386 o = 0 ∧ PO σ o) ∨ ∃ L, IX σ o L ∧ L.length ≤ 890)
    (hQ : ∀ τ t, IX τ o [] → gI τ 390 o = 0 → krt τ o = [t] → gI τ 387 o = t → gI τ 584 t = 1 → gI τ 576 t = 0 → gI τ 577 t = 0 → Fr (mIx o) σ τ → Q τ) : wp_Index_clear cf tv o Q σ := by
  have b15 : ∀ υ, PO υ o → gI υ 386 o = 0 → Fr (mPf o) σ υ → wp_Index_clear_b15 cf tv o Q υ := by
    intro υ hp hf fr
    clear hR
    unfold wp_Index_clear_b15
    intro σ1 e1
    have f1 : gI σ1 386 o = 0 := by rw [e1, gI_sI, if_neg (fun q => absurd q.1 (by decide))]; exact hf
    have p1 : ∀ i, gA σ1 385 o i = gA υ 385 o i := fun i => by rw [e1]; rfl
    have po1 : PO σ1 o := by
      unfold PO at *
      rw [show gA σ1 385 o = gA υ 385 o from funext p1, f1]; rw [hf] at hp; exact hp
    have ol1 : gI σ1 390 o = 0 := by rw [e1, gI_sI, if_pos ⟨rfl, rfl⟩]
    have pr := (po1.2 0 (by omega) (by omega)).1
    refine sp_kfetch (z := gA σ1 385 o (gI σ1 386 o)) (by omega) rfl (by rw [f1]; omega) (fun σ2 a1 a2 a3 a4 a5 a6 f2 _ _ σ3 e3 => ?_)
    rw [f1] at a1 a2 a3 a4 a5 a6 f2 e3
    generalize ht : gA σ1 385 o 0 = t at *
    have tr : 0 ≤ t ∧ t < 640 := by omega
    have C : CH σ1 σ2 o [] [t] := CH.fetch po1 (by omega) (by omega) (z := t) (by rw [f1]; exact ht) (by rw [f1]; exact a1) (by rw [f1]; exact a2) a5 f2
    have f3 : Fr (fun f o' => f = 387 ∧ o' = o) σ2 σ3 := by rw [e3]; exact (Fr.rf _ _).sI ⟨rfl, rfl⟩
    have nr : ∀ f x, f ≠ 387 → ¬ (f = 387 ∧ x = o) := fun f x h q => h q.1
    obtain ⟨g1, g2⟩ := FP_fr (o := o) f3 ⟨nr _ _ (by decide), nr _ _ (by decide)⟩
    have r3 : gI σ3 387 o = t := by rw [e3, gI_sI, if_pos ⟨rfl, rfl⟩]
    have c3 : gI σ3 577 t = 0 := by rw [f3.i _ _ (nr _ _ (by decide))]; exact a4
    have l3 : gI σ3 576 t = 0 := by rw [f3.i _ _ (nr _ _ (by decide))]; exact a3
    have fr3 : gI σ3 584 t = 1 := by rw [f3.i _ _ (nr _ _ (by decide))]; exact a5
    have ol3 : gI σ3 390 o = 0 := by rw [f3.i _ _ (nr _ _ (by decide)), f2.i _ _ (fun q => by unfold mKf at q; omega)]; exact ol1
    refine hQ σ3 t ⟨0, t, r3, ⟨tr, l3, by rw [c3, if_pos rfl]; omega, fun k k0 k1 => by omega⟩, trivial, ?_, g2 C.2.2.1.1, fun x hx => ?_, ?_, by omega, ?_⟩ ol3 (krt_eq (l := 0) r3 l3) r3 fr3 l3 c3 ?_
    · show cat _ _ = []
      rw [c3]; rfl
    · rw [List.mem_singleton.mp hx]
      exact ⟨fun q => C.2.2.1.2 t (List.mem_singleton.mpr rfl) ((g1 t).mp q), by omega⟩
    · show ((1 : Nat) : Int) = _
      rw [f3.i _ _ (nr _ _ (by decide)), a1]; rfl
    · have : nfr σ3 (kl σ3 0 t) = 0 := by
        show nfr σ3 [t] = 0
        rw [nfr_cons, if_neg (by omega)]; rfl
      omega
    · refine (fr.mono (fun f o' q => ?_)).tr ?_
      · unfold mPf at q; exact Or.inl ⟨by omega, q.2⟩
      · have h1 : Fr (mIx o) υ σ1 := by rw [e1]; exact (Fr.rf _ _).sI (Or.inl ⟨by omega, rfl⟩)
        refine h1.tr ((f2.mono (fun f o' q => ?_)).tr (f3.mono (fun f o' q => Or.inl ⟨by omega, q.2⟩)))
        unfold mKf at q
        rcases q with q | q
        · exact Or.inl ⟨by omega, q.2⟩
        · exact Or.inr (Or.inl ⟨by omega, by omega⟩)
  unfold wp_Index_clear
  rcases hR with ⟨h1, h2, h3⟩ | ⟨L, hI, hlen⟩
  · exact ⟨fun _ => b15 σ h3 h2 (Fr.rf _ _), fun q => absurd h1 q⟩
  · obtain ⟨l, z, i1, i2, i3, i4, i5, i6, i7, i8, i9⟩ := hI
    have c := i2.cnt
    have few := i2.few (by rw [i4]; omega)
    rw [i1]
    refine ⟨fun q => by omega, fun _ => ?_⟩
    refine sp_giveAll l 12 σ z _ _ _ _ (by omega) i2 i5 i6 (by omega) (fun τ fr hf hp _ _ => b15 τ hp (by omega) fr)
