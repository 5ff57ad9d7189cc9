/-! knots that become others -/
/-- what knot x has on the flash in number n -/
def fz (σ : St) (x n : Int) : Int := if gI σ 584 x = 0 ∧ gI σ 585 x = n then gI σ 587 x else 0
def kS (σ : St) (L : List Int) (n : Int) : Int := (L.map (fun x => fz σ x n)).sum
def oSm (g s : Int → Int) (n : Int) : Nat → Int
  | 0 => 0
  | m + 1 => oSm g s n m + if g m = n then s m else 0
/-- what was of knots that are others now, in number n -/
def oS (σ : St) (o n : Int) : Int := oSm (gA σ 388 o) (gA σ 389 o) n (gI σ 390 o).toNat
theorem oSm_ext {g g' s s' : Int → Int} {n : Int} : ∀ m : Nat, (∀ i : Int, 0 ≤ i → i < m → g' i = g i ∧ s' i = s i) → oSm g' s' n m = oSm g s n m
  | 0, _ => rfl
  | m + 1, h => by
    show oSm g' s' n m + _ = oSm g s n m + _
    rw [oSm_ext m (fun i a b => h i a (by omega)), (h m (by omega) (by omega)).1, (h m (by omega) (by omega)).2]
/-- how many knots of a row are as on the flash -/
def nfr (σ : St) (L : List Int) : Nat := (L.filter (fun x => decide (gI σ 584 x = 0))).length
def OE (σ τ : St) (x : Int) : Prop := gI τ 584 x = gI σ 584 x ∧ gI τ 585 x = gI σ 585 x ∧ gI τ 586 x = gI σ 586 x ∧ gI τ 587 x = gI σ 587 x
theorem OE.fr {σ τ : St} {M : Nat → Int → Prop} {x : Int} (f : Fr M σ τ) (n : ∀ f, 584 ≤ f → f ≤ 587 → ¬ M f x) : OE σ τ x :=
  ⟨f.i _ _ (n _ (by decide) (by decide)), f.i _ _ (n _ (by decide) (by decide)), f.i _ _ (n _ (by decide) (by decide)), f.i _ _ (n _ (by decide) (by decide))⟩
theorem OE.tr {a b c : St} {x : Int} (h : OE a b x) (k : OE b c x) : OE a c x := ⟨k.1.trans h.1, k.2.1.trans h.2.1, k.2.2.1.trans h.2.2.1, k.2.2.2.trans h.2.2.2⟩
theorem OE.z {σ τ : St} {x : Int} (h : OE σ τ x) (n : Int) : fz τ x n = fz σ x n := by unfold fz; rw [h.1, h.2.1, h.2.2.2]
theorem kS_ext {σ τ : St} {L : List Int} {n : Int} (h : ∀ x, x ∈ L → fz τ x n = fz σ x n) : kS τ L n = kS σ L n := by
  unfold kS
  rw [List.map_congr_left h]
theorem kS_app (σ : St) (L M : List Int) (n : Int) : kS σ (L ++ M) n = kS σ L n + kS σ M n := by
  unfold kS; rw [List.map_append, List.sum_append]
theorem kS_cons (σ : St) (x : Int) (M : List Int) (n : Int) : kS σ (x :: M) n = fz σ x n + kS σ M n := by
  unfold kS; rw [List.map_cons, List.sum_cons]
theorem nfr_app (σ : St) (L M : List Int) : nfr σ (L ++ M) = nfr σ L + nfr σ M := by
  unfold nfr; rw [List.filter_append, List.length_append]
theorem nfr_ext {σ τ : St} {L : List Int} (h : ∀ x, x ∈ L → gI τ 584 x = gI σ 584 x) : nfr τ L = nfr σ L := by
  unfold nfr
  congr 1
  refine List.filter_congr (fun x hx => ?_)
  rw [h x hx]
theorem nfr_cons (σ : St) (x : Int) (M : List Int) : nfr σ (x :: M) = (if gI σ 584 x = 0 then 1 else 0) + nfr σ M := by
  unfold nfr
  by_cases h : gI σ 584 x = 0
  · rw [if_pos h, List.filter_cons_of_pos (by simp [h]), List.length_cons]; omega
  · rw [if_neg h, List.filter_cons_of_neg (by simp [h])]; omega
def mTc (o z : Int) (f : Nat) (o' : Int) : Prop := ((f = 584 ∨ f = 585) ∧ o' = z) ∨ ((f = 388 ∨ f = 389 ∨ f = 390) ∧ o' = o)
theorem sp_touch {tv : Nat → Int} {cf : Cf} {σ : St} {o z : Int} {Q : St → Prop} (hz : 0 ≤ z) (hol : gI σ 584 z = 0 → 0 ≤ gI σ 390 o ∧ gI σ 390 o < 640)
    (hQ : ∀ τ, gI τ 584 z ≠ 0 → (gI σ 584 z ≠ 0 → τ = σ) → (gI σ 584 z = 0 → gI τ 585 z = -1) → (∀ n, n ≠ -1 → oS τ o n = oS σ o n + fz σ z n) → (gI σ 390 o ≤ gI τ 390 o ∧ gI τ 390 o ≤ gI σ 390 o + (if gI σ 584 z = 0 then 1 else 0)) → (∀ P : Int → Int → Prop, (∀ i, 0 ≤ i → i < gI σ 390 o → P (gA σ 388 o i) (gA σ 389 o i)) → (gI σ 584 z = 0 → P (gI σ 585 z) (gI σ 587 z)) → ∀ i, 0 ≤ i → i < gI τ 390 o → P (gA τ 388 o i) (gA τ 389 o i)) → Fr (mTc o z) σ τ → Q τ) : wp_Index_touch cf tv o z Q σ := by
  unfold wp_Index_touch
  refine ⟨hz, fun q σ1 e1 => ?_, fun q => ?_⟩
  · have ho := hol q
    have n1 : gI σ1 585 z = gI σ 585 z := by rw [e1, gI_sI, if_neg (fun q => absurd q.1 (by decide))]
    have l1 : gI σ1 390 o = gI σ 390 o := by rw [e1, gI_sI, if_neg (fun q => absurd q.1 (by decide))]
    have s1 : gI σ1 587 z = gI σ 587 z := by rw [e1, gI_sI, if_neg (fun q => absurd q.1 (by decide))]
    have f1 : Fr (mTc o z) σ σ1 := by rw [e1]; exact (Fr.rf _ _).sI (Or.inl ⟨Or.inl rfl, rfl⟩)
    have r1 : gI σ1 584 z = 1 := by rw [e1, gI_sI, if_pos ⟨rfl, rfl⟩]
    rw [n1, l1]
    refine ⟨fun w => ?_, fun w => ⟨ho, fun σ2 e2 => ?_⟩⟩
    · refine hQ σ1 (by omega) (fun z' => absurd q z') (fun _ => n1.trans w) (fun n hn => ?_) (by rw [l1, if_pos q]; omega) (fun P hx _ i i0 i1 => ?_) f1
      · have : fz σ z n = 0 := by unfold fz; rw [if_neg (fun y => hn (y.2.symm.trans w))]
        rw [this]
        unfold oS
        rw [l1, Int.add_zero]
        have a1 : gA σ1 388 o = gA σ 388 o := by rw [e1]; rfl
        have a2 : gA σ1 389 o = gA σ 389 o := by rw [e1]; rfl
        rw [a1, a2]
      · have a1 : gA σ1 388 o = gA σ 388 o := by rw [e1]; rfl
        have a2 : gA σ1 389 o = gA σ 389 o := by rw [e1]; rfl
        rw [l1] at i1
        rw [a1, a2]; exact hx i i0 i1
    · have l2 : gI σ2 390 o = gI σ 390 o := by rw [e2, gI_sA]; exact l1
      have s2 : gI σ2 587 z = gI σ 587 z := by rw [e2, gI_sA]; exact s1
      rw [l2, s2]
      refine ⟨ho, fun σ3 e3 σ4 e4 σ5 e5 => ?_⟩
      have l3 : gI σ3 390 o = gI σ 390 o := by rw [e3, gI_sA]; exact l2
      rw [l3, w32_id (by unfold rI; omega)] at e4
      have l5 : gI σ5 390 o = gI σ 390 o + 1 := by rw [e5, gI_sI, if_neg (fun q => absurd q.1 (by decide)), e4, gI_sI, if_pos ⟨rfl, rfl⟩]
      have g5 : ∀ i, gA σ5 388 o i = if i = gI σ 390 o then gI σ 585 z else gA σ 388 o i := fun i => by
        rw [e5, gA_sI, e4, gA_sI, e3, sA_of (by decide), e2, sA_if, e1, gA_sI]
      have h5 : ∀ i, gA σ5 389 o i = if i = gI σ 390 o then gI σ 587 z else gA σ 389 o i := fun i => by
        rw [e5, gA_sI, e4, gA_sI, e3, sA_if, e2, sA_of (by decide), e1, gA_sI]
      have f5 : Fr (mTc o z) σ σ5 := by
        rw [e5, e4, e3, e2]
        exact (((f1.sA (Or.inr ⟨by omega, rfl⟩)).sA (Or.inr ⟨by omega, rfl⟩)).sI (Or.inr ⟨by omega, rfl⟩)).sI (Or.inl ⟨by omega, rfl⟩)
      have r5 : gI σ5 584 z = 1 := by
        rw [e5, gI_sI, if_neg (fun q => absurd q.1 (by decide)), e4, gI_sI, if_neg (fun q => absurd q.1 (by decide)), e3, gI_sA, e2, gI_sA]; exact r1
      refine hQ σ5 (by omega) (fun z' => absurd q z') (fun _ => by rw [e5, gI_sI, if_pos ⟨rfl, rfl⟩]) (fun n hn => ?_) (by rw [l5, if_pos q]; omega) (fun P hx hy i i0 i1 => ?_) f5
      · unfold oS
        rw [l5, show (gI σ 390 o + 1).toNat = (gI σ 390 o).toNat + 1 by omega]
        show oSm _ _ n (gI σ 390 o).toNat + _ = _
        rw [oSm_ext (g := gA σ 388 o) (s := gA σ 389 o) _ (fun i a b => ⟨by rw [g5, if_neg (by omega)], by rw [h5, if_neg (by omega)]⟩)]
        have hx : ((gI σ 390 o).toNat : Int) = gI σ 390 o := by omega
        rw [g5, h5, hx, if_pos rfl, if_pos rfl]
        congr 1
        unfold fz
        by_cases y : gI σ 585 z = n
        · rw [if_pos y, if_pos ⟨q, y⟩]
        · rw [if_neg y, if_neg (fun v => y v.2)]
      · rw [g5, h5]
        by_cases y : i = gI σ 390 o
        · rw [if_pos y, if_pos y]; exact hy q
        · rw [if_neg y, if_neg y]; exact hx i i0 (by omega)
  · refine hQ σ q (fun _ => rfl) (fun z' => absurd z' q) (fun n hn => ?_) (by rw [if_neg q]; omega) (fun P hx _ => hx) (Fr.rf _ _)
    have : fz σ z n = 0 := by unfold fz; rw [if_neg (fun y => q y.1)]
    rw [this]; omega
def mKf (o z : Int) (f : Nat) (o' : Int) : Prop := ((f = 385 ∨ f = 386) ∧ o' = o) ∨ ((f = 576 ∨ f = 577 ∨ f = 584 ∨ f = 585) ∧ o' = z)
theorem sp_kfetch {tv : Nat → Int} {cf : Cf} {σ : St} {o z lv : Int} {Q : Int → St → Prop} (hf : 0 ≤ gI σ 386 o ∧ gI σ 386 o < 320) (hz : gA σ 385 o (gI σ 386 o) = z) (hz0 : 0 ≤ z)
    (hQ : ∀ τ, gI τ 386 o = gI σ 386 o + 1 → (∀ i, i ≠ gI σ 386 o → gA τ 385 o i = gA σ 385 o i) → gI τ 576 z = lv → gI τ 577 z = 0 → gI τ 584 z = 1 → gI τ 585 z = -1 → Fr (mKf o z) σ τ → Q z τ) : wp_Index_fetch cf tv o lv Q σ := by
  unfold wp_Index_fetch wp_Knot_begin
  refine ⟨hf, fun y ey σ1 e1 => ⟨hf, fun σ2 e2 => ⟨by rw [ey, hz]; exact hz0, fun σ3 e3 σ4 e4 σ5 e5 σ6 e6 => ?_⟩⟩⟩
  rw [hz] at ey
  rw [w32_id (by unfold rI; omega)] at e1
  rw [ey] at e3 e4 e5 e6 ⊢
  have nf : ∀ {a b : Nat} {x y : Int}, a ≠ b → ¬ (a = b ∧ x = y) := fun h q => h q.1
  intro _
  refine hQ σ6 ?_ (fun i hi => ?_) ?_ ?_ ?_ ?_ ?_
  · rw [e6, gI_sI, if_neg (nf (by decide)), e5, gI_sI, if_neg (nf (by decide)), e4, gI_sI, if_neg (nf (by decide)), e3, gI_sI, if_neg (nf (by decide)), e2, gI_sA, e1, gI_sI, if_pos ⟨rfl, rfl⟩]
  · rw [e6, gA_sI, e5, gA_sI, e4, gA_sI, e3, gA_sI, e2, sA_ne hi, e1, gA_sI]
  · rw [e6, gI_sI, if_neg (nf (by decide)), e5, gI_sI, if_neg (nf (by decide)), e4, gI_sI, if_neg (nf (by decide)), e3, gI_sI, if_pos ⟨rfl, rfl⟩]
  · rw [e6, gI_sI, if_neg (nf (by decide)), e5, gI_sI, if_neg (nf (by decide)), e4, gI_sI, if_pos ⟨rfl, rfl⟩]
  · rw [e6, gI_sI, if_neg (nf (by decide)), e5, gI_sI, if_pos ⟨rfl, rfl⟩]
  · rw [e6, gI_sI, if_pos ⟨rfl, rfl⟩]
  · rw [e6, e5, e4, e3, e2, e1]
    exact ((((((Fr.rf _ _).sI (Or.inl ⟨by omega, rfl⟩)).sA (Or.inl ⟨by omega, rfl⟩)).sI (Or.inr ⟨by omega, rfl⟩)).sI (Or.inr ⟨by omega, rfl⟩)).sI (Or.inr ⟨by omega, rfl⟩)).sI (Or.inr ⟨by omega, rfl⟩)
def mGv (o z : Int) (f : Nat) (o' : Int) : Prop := mTc o z f o' ∨ ((f = 385 ∨ f = 386) ∧ o' = o) ∨ (f = 583 ∧ o' = z)
