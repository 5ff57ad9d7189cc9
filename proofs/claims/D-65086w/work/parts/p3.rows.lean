/-! rows of the reference are added and dropped (printed by gen/mk_p3.py) -/
theorem gA_sAo {σ : St} {f f' : Nat} {o o' i v : Int} (h : f' ≠ f) : gA (sA σ f o i v) f' o' = gA σ f' o' := by
  funext j
  rw [gA_sA, if_neg (fun q => h q.1)]
/-- what of a tree's tables is the same -/
theorem TR.ext {σ τ : St} {t nx nx' : Int} {N N' E E' A A' : List (Int × Int × Int)} {P P' : List (Int × Int × Int × (Int → Int))} (h : TR σ t N E A P nx) (hN : (0 ≤ gA τ 713 0 t ∧ (mnd τ t).Perm N') ∨ (N' = N ∧ ∀ f, (713 ≤ f ∧ f ≤ 716) → gA τ f 0 = gA σ f 0)) (hE : (0 ≤ gA τ 717 0 t ∧ (men τ t).Perm E') ∨ (E' = E ∧ ∀ f, (717 ≤ f ∧ f ≤ 720) → gA τ f 0 = gA σ f 0)) (hA : (0 ≤ gA τ 721 0 t ∧ (mat τ t).Perm A') ∨ (A' = A ∧ ∀ f, (721 ≤ f ∧ f ≤ 724) → gA τ f 0 = gA σ f 0)) (hP : (0 ≤ gA τ 725 0 t ∧ (mpc τ t).Perm P') ∨ (P' = P ∧ ∀ f, (725 ≤ f ∧ f ≤ 729) → gA τ f 0 = gA σ f 0)) (hx : gA τ 712 0 t = nx') : TR τ t N' E' A' P' nx' := by
  obtain ⟨⟨⟨a1, a2⟩, a3, a4⟩, b1, b2, b3, b4, b5⟩ := h
  have n : 0 ≤ gA τ 713 0 t ∧ (mnd τ t).Perm N' := by
    rcases hN with q | ⟨q, e⟩
    · exact q
    · rw [q]
      unfold mnd mnR at b1 ⊢
      rw [e 713 (by decide), e 714 (by decide), e 715 (by decide), e 716 (by decide)]
      exact ⟨a1, b1⟩
  have m : 0 ≤ gA τ 717 0 t ∧ (men τ t).Perm E' := by
    rcases hE with q | ⟨q, e⟩
    · exact q
    · rw [q]
      unfold men meR at b2 ⊢
      rw [e 717 (by decide), e 718 (by decide), e 719 (by decide), e 720 (by decide)]
      exact ⟨a2, b2⟩
  have a : 0 ≤ gA τ 721 0 t ∧ (mat τ t).Perm A' := by
    rcases hA with q | ⟨q, e⟩
    · exact q
    · rw [q]
      unfold mat maR at b3 ⊢
      rw [e 721 (by decide), e 722 (by decide), e 723 (by decide), e 724 (by decide)]
      exact ⟨a3, b3⟩
  have p : 0 ≤ gA τ 725 0 t ∧ (mpc τ t).Perm P' := by
    rcases hP with q | ⟨q, e⟩
    · exact q
    · rw [q]
      unfold mpc mpR at b4 ⊢
      rw [e 725 (by decide), e 726 (by decide), e 727 (by decide), e 728 (by decide), e 729 (by decide)]
      exact ⟨a4, b4⟩
  exact ⟨⟨⟨n.1, m.1⟩, a.1, p.1⟩, n.2, m.2, a.2, p.2, hx⟩
theorem sp_MaddNode {tv : Nat → Int} {cf : Cf} {σ : St} {t nx : Int} {N E A : List (Int × Int × Int)} {P : List (Int × Int × Int × (Int → Int))} {k : Int} {Q : St → Prop} (hrk : RK σ) (ht : t = 0 ∨ t = 1) (hT : TR σ t N E A P nx) (hF : FT N E A P) (hk : rI k) (hx : 0 ≤ nx ∧ nx < 2000000000)
    (hQ : ∀ τ, TR τ t ((nx, k, 0) :: N) E A P (nx + 1) → OT σ τ t → RK τ → Q τ) : wp_Model_addNode cf tv t k Q σ := by
  have nn := hT.n
  have hF' := hF
  obtain ⟨⟨f1, f2⟩, f3, f4⟩ := hF'
  have n0 := hT.1.1.1
  have nx0 := hT.2.2.2.2.2
  generalize hn : gA σ 713 0 t = n at *
  unfold wp_Model_addNode
  rw [w32_id (x := 700 * t) (by unfold rI; omega)]
  refine ⟨by omega, fun y ey => ?_⟩
  rw [hn, w32_id (by unfold rI; omega)] at ey
  refine ⟨by omega, by omega, fun σ8 e8 => ⟨by omega, fun σ9 e9 => ⟨by omega, fun σ10 e10 => ⟨by omega, by omega, fun σ11 e11 => ⟨by omega, by omega, fun τ eτ => ?_⟩⟩⟩⟩⟩
  have g10 : gA σ10 713 0 t = n := by rw [e10, gA_sAo (by decide), e9, gA_sAo (by decide), e8, gA_sAo (by decide)]; exact hn
  rw [g10, w32_id (by unfold rI; omega)] at e11
  have g11 : gA σ11 712 0 t = nx := by rw [e11, gA_sAo (by decide), e10, gA_sAo (by decide), e9, gA_sAo (by decide), e8, gA_sAo (by decide)]; exact nx0
  rw [g11, w32_id (by unfold rI; omega)] at eτ
  have O : OT σ τ t := by
    rw [eτ, e11, e10, e9, e8]
    exact (((((OT.rf σ t).sA (by unfold inT; omega)).sA (by unfold inT; omega)).sA (by unfold inT; omega)).sA (by unfold inT; omega)).sA (by unfold inT; omega)
  have v0 : ∀ j, gA τ 714 0 j = if j = y then nx else gA σ 714 0 j := fun j => by
    rw [eτ, gA_sAo (by decide), e11, gA_sAo (by decide), e10, gA_sAo (by decide), e9, gA_sAo (by decide), e8, sA_if, nx0]
  have v1 : ∀ j, gA τ 715 0 j = if j = y then k else gA σ 715 0 j := fun j => by
    rw [eτ, gA_sAo (by decide), e11, gA_sAo (by decide), e10, gA_sAo (by decide), e9, sA_if, e8, gA_sAo (by decide)]
  have v2 : ∀ j, gA τ 716 0 j = if j = y then 0 else gA σ 716 0 j := fun j => by
    rw [eτ, gA_sAo (by decide), e11, gA_sAo (by decide), e10, sA_if, e9, gA_sAo (by decide), e8, gA_sAo (by decide)]
  have v3 : gA τ 713 0 t = n + 1 := by rw [eτ, gA_sAo (by decide), e11, sA_eq]
  have v4 : gA τ 712 0 t = nx + 1 := by rw [eτ, sA_eq]
  have oth : ∀ f, 717 ≤ f → gA τ f 0 = gA σ f 0 := fun f hf => by
    rw [eτ, gA_sAo (by omega), e11, gA_sAo (by omega), e10, gA_sAo (by omega), e9, gA_sAo (by omega), e8, gA_sAo (by omega)]
  have kτ : RK τ := by
    rw [eτ, e11, e10, e9, e8]
    have a := (hrk.sA (f := 714) (o := 0) (i := y) (v := gA σ 712 0 t) (hrk.2 712 0 t))
    have b := a.sA (f := 715) (o := 0) (i := y) (v := k) hk
    have c := b.sA (f := 716) (o := 0) (i := y) (v := 0) (by show rI 0; unfold rI; omega)
    have d := c.sA (f := 713) (o := 0) (i := t) (v := n + 1) (by show rI _; unfold rI; omega)
    exact d.sA (f := 712) (by show rI _; unfold rI; omega)
  refine hQ τ (hT.ext (Or.inl ⟨by omega, ?_⟩) (Or.inr ⟨rfl, fun f hf => oth f (by omega)⟩) (Or.inr ⟨rfl, fun f hf => oth f (by omega)⟩) (Or.inr ⟨rfl, fun f hf => oth f (by omega)⟩) v4) O kτ
  unfold mnd
  rw [v3, show (n + 1).toNat = n.toNat + 1 by omega]
  refine (tab_add _ _).trans ?_
  have r0 : mnR τ t (n.toNat : Int) = (nx, k, 0) := by
    unfold mnR
    rw [v0, v1, v2, if_pos (by omega), if_pos (by omega), if_pos (by omega)]
  rw [r0]
  refine List.Perm.cons _ ?_
  rw [tab_ext (g := mnR σ t) _ (fun i i0 i1 => by
    unfold mnR
    rw [v0, v1, v2, if_neg (by omega), if_neg (by omega), if_neg (by omega)]), ← hn]
  exact hT.2.1

theorem sp_MaddEntry {tv : Nat → Int} {cf : Cf} {σ : St} {t nx : Int} {N E A : List (Int × Int × Int)} {P : List (Int × Int × Int × (Int → Int))} {d x w : Int} {Q : St → Prop} (hrk : RK σ) (ht : t = 0 ∨ t = 1) (hT : TR σ t N E A P nx) (hF : FT N E A P) (hd : rI d) (hx : rJ x) (hw : rI w)
    (hQ : ∀ τ, TR τ t N ((d, x, w) :: E) A P nx → OT σ τ t → RK τ → Q τ) : wp_Model_addEntry cf tv t d x w Q σ := by
  have nn := hT.n
  have hF' := hF
  obtain ⟨⟨f1, f2⟩, f3, f4⟩ := hF'
  have n0 := hT.1.1.2
  have nx0 := hT.2.2.2.2.2
  generalize hn : gA σ 717 0 t = n at *
  unfold wp_Model_addEntry
  rw [w32_id (x := 700 * t) (by unfold rI; omega)]
  refine ⟨by omega, fun y ey => ?_⟩
  rw [hn, w32_id (by unfold rI; omega)] at ey
  refine ⟨by omega, fun σ8 e8 => ⟨by omega, fun σ9 e9 => ⟨by omega, fun σ10 e10 => ⟨by omega, by omega, fun τ eτ => ?_⟩⟩⟩⟩
  have g10 : gA σ10 717 0 t = n := by rw [e10, gA_sAo (by decide), e9, gA_sAo (by decide), e8, gA_sAo (by decide)]; exact hn
  rw [g10, w32_id (by unfold rI; omega)] at eτ
  have O : OT σ τ t := by
    rw [eτ, e10, e9, e8]
    exact ((((OT.rf σ t).sA (by unfold inT; omega)).sA (by unfold inT; omega)).sA (by unfold inT; omega)).sA (by unfold inT; omega)
  have v0 : ∀ j, gA τ 718 0 j = if j = y then d else gA σ 718 0 j := fun j => by
    rw [eτ, gA_sAo (by decide), e10, gA_sAo (by decide), e9, gA_sAo (by decide), e8, sA_if]
  have v1 : ∀ j, gA τ 719 0 j = if j = y then x else gA σ 719 0 j := fun j => by
    rw [eτ, gA_sAo (by decide), e10, gA_sAo (by decide), e9, sA_if, e8, gA_sAo (by decide)]
  have v2 : ∀ j, gA τ 720 0 j = if j = y then w else gA σ 720 0 j := fun j => by
    rw [eτ, gA_sAo (by decide), e10, sA_if, e9, gA_sAo (by decide), e8, gA_sAo (by decide)]
  have v3 : gA τ 717 0 t = n + 1 := by rw [eτ, sA_eq]
  have oth : ∀ f, (f ≤ 716 ∨ 721 ≤ f) → gA τ f 0 = gA σ f 0 := fun f hf => by
    rw [eτ, gA_sAo (by omega), e10, gA_sAo (by omega), e9, gA_sAo (by omega), e8, gA_sAo (by omega)]
  have kτ : RK τ := by
    rw [eτ, e10, e9, e8]
    have a := hrk.sA (f := 718) (o := 0) (i := y) (v := d) hd
    have b := a.sA (f := 719) (o := 0) (i := y) (v := x) hx
    have c := b.sA (f := 720) (o := 0) (i := y) (v := w) hw
    exact c.sA (f := 717) (by show rI _; unfold rI; omega)
  refine hQ τ (hT.ext (Or.inr ⟨rfl, fun f hf => oth f (by omega)⟩) (Or.inl ⟨by omega, ?_⟩) (Or.inr ⟨rfl, fun f hf => oth f (by omega)⟩) (Or.inr ⟨rfl, fun f hf => oth f (by omega)⟩) (by rw [oth _ (by decide)]; exact nx0)) O kτ
  unfold men
  rw [v3, show (n + 1).toNat = n.toNat + 1 by omega]
  refine (tab_add _ _).trans ?_
  have r0 : meR τ t (n.toNat : Int) = (d, x, w) := by
    unfold meR
    rw [v0, v1, v2, if_pos (by omega), if_pos (by omega), if_pos (by omega)]
  rw [r0]
  refine List.Perm.cons _ ?_
  rw [tab_ext (g := meR σ t) _ (fun i i0 i1 => by
    unfold meR
    rw [v0, v1, v2, if_neg (by omega), if_neg (by omega), if_neg (by omega)]), ← hn]
  exact hT.2.2.1

/-- a row goes, the last one comes in its place -/
theorem sp_MdropEntry {tv : Nat → Int} {cf : Cf} {σ : St} {t nx : Int} {N E A : List (Int × Int × Int)} {P : List (Int × Int × Int × (Int → Int))} {i : Int} {Q : St → Prop} (hrk : RK σ) (ht : t = 0 ∨ t = 1) (hT : TR σ t N E A P nx) (hF : FT N E A P) (hi : 0 ≤ i ∧ i < gA σ 717 0 t)
    (hQ : ∀ τ, (∀ E', E.Perm (meR σ t i :: E') → TR τ t N E' A P nx) → gA τ 717 0 t = gA σ 717 0 t - 1 → (∀ j, 0 ≤ j → j < i → meR τ t j = meR σ t j) → OT σ τ t → Fr (fun f o' => (717 ≤ f ∧ f ≤ 720) ∧ o' = 0) σ τ → RK τ → Q τ) : wp_Model_dropEntry cf tv t (700 * t + i) Q σ := by
  have nn := hT.n
  have hF' := hF
  obtain ⟨⟨f1, f2⟩, f3, f4⟩ := hF'
  have nx0 := hT.2.2.2.2.2
  generalize hn : gA σ 717 0 t = n at *
  unfold wp_Model_dropEntry
  refine ⟨by omega, by omega, fun σ6 e6 => ⟨by omega, fun y ey => ?_⟩⟩
  rw [hn, w32_id (by unfold rI; omega)] at e6
  have g6 : gA σ6 717 0 t = n - 1 := by rw [e6, sA_eq]
  rw [g6, w32_id (x := 700 * t) (by unfold rI; omega), w32_id (by unfold rI; omega)] at ey
  refine ⟨by omega, by omega, fun σ8 e8 => ⟨by omega, by omega, fun σ9 e9 => ⟨by omega, by omega, fun τ eτ => ?_⟩⟩⟩
  have O : OT σ τ t := by
    rw [eτ, e9, e8, e6]
    exact ((((OT.rf σ t).sA (by unfold inT; omega)).sA (by unfold inT; omega)).sA (by unfold inT; omega)).sA (by unfold inT; omega)
  have F : Fr (fun f o' => (717 ≤ f ∧ f ≤ 720) ∧ o' = 0) σ τ := by
    rw [eτ, e9, e8, e6]
    exact ((((Fr.rf _ _).sA ⟨by omega, rfl⟩).sA ⟨by omega, rfl⟩).sA ⟨by omega, rfl⟩).sA ⟨by omega, rfl⟩
  have v0 : ∀ j, gA τ 718 0 j = if j = 700 * t + i then gA σ 718 0 y else gA σ 718 0 j := fun j => by
    rw [eτ, gA_sAo (by decide), e9, gA_sAo (by decide), e8, sA_if, e6, gA_sAo (by decide)]
  have v1 : ∀ j, gA τ 719 0 j = if j = 700 * t + i then gA σ 719 0 y else gA σ 719 0 j := fun j => by
    rw [eτ, gA_sAo (by decide), e9, sA_if, e8, gA_sAo (by decide), e6, gA_sAo (by decide)]
  have v2 : ∀ j, gA τ 720 0 j = if j = 700 * t + i then gA σ 720 0 y else gA σ 720 0 j := fun j => by
    rw [eτ, sA_if, e9, gA_sAo (by decide), e8, gA_sAo (by decide), e6, gA_sAo (by decide)]
  have v3 : gA τ 717 0 t = n - 1 := by rw [eτ, gA_sAo (by decide), e9, gA_sAo (by decide), e8, gA_sAo (by decide)]; exact g6
  have kτ : RK τ := by
    rw [eτ, e9, e8, e6]
    have a := hrk.sA (f := 717) (o := 0) (i := t) (v := n - 1) (by show rI _; unfold rI; omega)
    have b := a.sA (f := 718) (o := 0) (i := 700 * t + i) (v := _) (a.2 718 0 y)
    have c := b.sA (f := 719) (o := 0) (i := 700 * t + i) (v := _) (b.2 719 0 y)
    exact c.sA (f := 720) (c.2 720 0 y)
  have rw' : ∀ j, meR τ t j = if j = i then meR σ t (n - 1) else meR σ t j := fun j => by
    unfold meR
    rw [v0, v1, v2]
    by_cases e : j = i
    · rw [if_pos (by omega), if_pos (by omega), if_pos (by omega), if_pos e, show 700 * t + (n - 1) = y by omega]
    · rw [if_neg (by omega), if_neg (by omega), if_neg (by omega), if_neg e]
  refine hQ τ (fun L' hL => hT.ext (Or.inr ⟨rfl, fun f hf => F.a f 0 (fun q => by omega)⟩) (Or.inl ⟨by omega, ?_⟩) (Or.inr ⟨rfl, fun f hf => F.a f 0 (fun q => by omega)⟩) (Or.inr ⟨rfl, fun f hf => F.a f 0 (fun q => by omega)⟩) (by rw [F.a _ _ (fun q => by omega)]; exact nx0)) v3 (fun j j0 j1 => by rw [rw', if_neg (by omega)]) O F kτ
  refine List.Perm.cons_inv (a := meR σ t i) ?_
  refine List.Perm.trans ?_ hL
  refine List.Perm.trans ?_ hT.2.2.1
  unfold men
  rw [v3, hn, show n.toNat = (n - 1).toNat + 1 by omega]
  have td := tab_drop (f := meR σ t) (y := i) (n := (n - 1).toNat) (by omega) (by omega)
  rw [tab_ext (f := meR τ t) (g := fun j => if j = i then meR σ t ((n - 1).toNat : Int) else meR σ t j) _ (fun j j0 j1 => by
    show _ = if j = i then _ else _
    rw [rw' j, show (((n - 1).toNat : Nat) : Int) = n - 1 by omega])]
  exact td

/-- a row goes, the last one comes in its place -/
theorem sp_MdropAttr {tv : Nat → Int} {cf : Cf} {σ : St} {t nx : Int} {N E A : List (Int × Int × Int)} {P : List (Int × Int × Int × (Int → Int))} {i : Int} {Q : St → Prop} (hrk : RK σ) (ht : t = 0 ∨ t = 1) (hT : TR σ t N E A P nx) (hF : FT N E A P) (hi : 0 ≤ i ∧ i < gA σ 721 0 t)
    (hQ : ∀ τ, (∀ A', A.Perm (maR σ t i :: A') → TR τ t N E A' P nx) → gA τ 721 0 t = gA σ 721 0 t - 1 → (∀ j, 0 ≤ j → j < i → maR τ t j = maR σ t j) → OT σ τ t → Fr (fun f o' => (721 ≤ f ∧ f ≤ 724) ∧ o' = 0) σ τ → RK τ → Q τ) : wp_Model_dropAttribute cf tv t (700 * t + i) Q σ := by
  have nn := hT.n
  have hF' := hF
  obtain ⟨⟨f1, f2⟩, f3, f4⟩ := hF'
  have nx0 := hT.2.2.2.2.2
  generalize hn : gA σ 721 0 t = n at *
  unfold wp_Model_dropAttribute
  refine ⟨by omega, by omega, fun σ6 e6 => ⟨by omega, fun y ey => ?_⟩⟩
  rw [hn, w32_id (by unfold rI; omega)] at e6
  have g6 : gA σ6 721 0 t = n - 1 := by rw [e6, sA_eq]
  rw [g6, w32_id (x := 700 * t) (by unfold rI; omega), w32_id (by unfold rI; omega)] at ey
  refine ⟨by omega, by omega, fun σ8 e8 => ⟨by omega, by omega, fun σ9 e9 => ⟨by omega, by omega, fun τ eτ => ?_⟩⟩⟩
  have O : OT σ τ t := by
    rw [eτ, e9, e8, e6]
    exact ((((OT.rf σ t).sA (by unfold inT; omega)).sA (by unfold inT; omega)).sA (by unfold inT; omega)).sA (by unfold inT; omega)
  have F : Fr (fun f o' => (721 ≤ f ∧ f ≤ 724) ∧ o' = 0) σ τ := by
    rw [eτ, e9, e8, e6]
    exact ((((Fr.rf _ _).sA ⟨by omega, rfl⟩).sA ⟨by omega, rfl⟩).sA ⟨by omega, rfl⟩).sA ⟨by omega, rfl⟩
  have v0 : ∀ j, gA τ 722 0 j = if j = 700 * t + i then gA σ 722 0 y else gA σ 722 0 j := fun j => by
    rw [eτ, gA_sAo (by decide), e9, gA_sAo (by decide), e8, sA_if, e6, gA_sAo (by decide)]
  have v1 : ∀ j, gA τ 723 0 j = if j = 700 * t + i then gA σ 723 0 y else gA σ 723 0 j := fun j => by
    rw [eτ, gA_sAo (by decide), e9, sA_if, e8, gA_sAo (by decide), e6, gA_sAo (by decide)]
  have v2 : ∀ j, gA τ 724 0 j = if j = 700 * t + i then gA σ 724 0 y else gA σ 724 0 j := fun j => by
    rw [eτ, sA_if, e9, gA_sAo (by decide), e8, gA_sAo (by decide), e6, gA_sAo (by decide)]
  have v3 : gA τ 721 0 t = n - 1 := by rw [eτ, gA_sAo (by decide), e9, gA_sAo (by decide), e8, gA_sAo (by decide)]; exact g6
  have kτ : RK τ := by
    rw [eτ, e9, e8, e6]
    have a := hrk.sA (f := 721) (o := 0) (i := t) (v := n - 1) (by show rI _; unfold rI; omega)
    have b := a.sA (f := 722) (o := 0) (i := 700 * t + i) (v := _) (a.2 722 0 y)
    have c := b.sA (f := 723) (o := 0) (i := 700 * t + i) (v := _) (b.2 723 0 y)
    exact c.sA (f := 724) (c.2 724 0 y)
  have rw' : ∀ j, maR τ t j = if j = i then maR σ t (n - 1) else maR σ t j := fun j => by
    unfold maR
    rw [v0, v1, v2]
    by_cases e : j = i
    · rw [if_pos (by omega), if_pos (by omega), if_pos (by omega), if_pos e, show 700 * t + (n - 1) = y by omega]
    · rw [if_neg (by omega), if_neg (by omega), if_neg (by omega), if_neg e]
  refine hQ τ (fun L' hL => hT.ext (Or.inr ⟨rfl, fun f hf => F.a f 0 (fun q => by omega)⟩) (Or.inr ⟨rfl, fun f hf => F.a f 0 (fun q => by omega)⟩) (Or.inl ⟨by omega, ?_⟩) (Or.inr ⟨rfl, fun f hf => F.a f 0 (fun q => by omega)⟩) (by rw [F.a _ _ (fun q => by omega)]; exact nx0)) v3 (fun j j0 j1 => by rw [rw', if_neg (by omega)]) O F kτ
  refine List.Perm.cons_inv (a := maR σ t i) ?_
  refine List.Perm.trans ?_ hL
  refine List.Perm.trans ?_ hT.2.2.2.1
  unfold mat
  rw [v3, hn, show n.toNat = (n - 1).toNat + 1 by omega]
  have td := tab_drop (f := maR σ t) (y := i) (n := (n - 1).toNat) (by omega) (by omega)
  rw [tab_ext (f := maR τ t) (g := fun j => if j = i then maR σ t ((n - 1).toNat : Int) else maR σ t j) _ (fun j j0 j1 => by
    show _ = if j = i then _ else _
    rw [rw' j, show (((n - 1).toNat : Nat) : Int) = n - 1 by omega])]
  exact td
