/-! Store.writeTable -/
/-- the table is set aside -/
theorem SA.off {tv : Nat → Int} {cf : Cf} {σ τ : St} {dk : Int → Int} {db : Int → Int → Int} {L : List (Int × Int × Int × Int × Int × Int)} (hc : CfOK cf) (h : SA tv cf σ dk db L) (f : Fr (fun f o' => (f = 324 ∨ f = 216) ∧ o' = 0) σ τ) (rk : RK τ) (hl : ∀ m, 0 ≤ m → m < cf.1 - 6 → gA τ 324 0 m = gA σ 324 0 m - tbS σ m) : SA tv cf (gh (gA τ 324 0) τ) dk db L := by
  have hR : 0 ≤ cf.2.2 ∧ cf.2.2 ≤ 4 := hc.2.2
  have nn := fun {m : Int} (hm : 0 ≤ m) => h.nn hc hm
  have fa : Fr mAc σ (gh (gA τ 324 0) τ) := (f.mono (fun f o' q => ⟨by omega, q.2⟩)).tr (gh_fr τ).1
  have k2 : RK (gh (gA τ 324 0) τ) := (RK.sAr (f := 324) (o := 0) (g := gA τ 324 0) rk (fun i => rk.ai _ _ _ (by decide))).sI (by show rI (-1); unfold rI; omega)
  have tn : gI (gh (gA τ 324 0) τ) 214 0 = -1 := by rw [gh_i]; exact if_pos ⟨rfl, rfl⟩
  have od : gI (gh (gA τ 324 0) τ) 390 0 = gI σ 390 0 := by rw [gh_i, if_neg (fun q => by omega)]; exact f.i _ _ (fun q => by omega)
  have os : ∀ m, oS (gh (gA τ 324 0) τ) 0 m = oS σ 0 m := fun m => by
    unfold oS
    rw [od, fa.a 388 0 (fun q => by unfold mAc at q; omega), fa.a 389 0 (fun q => by unfold mAc at q; omega)]
  have t0 : ∀ m, 0 ≤ m → tbS (gh (gA τ 324 0) τ) m = 0 := fun m m0 => by
    unfold tbS
    rw [tn]
    exact if_neg (by omega)
  have tl : ∀ m, 0 ≤ m → m < 4 + cf.2.2 → tbS σ m = 0 := fun m m0 m1 => by
    unfold tbS
    refine if_neg (fun q => ?_)
    rcases h.2.2.2.2.2.2.1 with w | w <;> omega
  refine h.acc fa k2 hR.1 (Or.inl od) (fun m m0 m1 => ?_) (fun m m0 m1 => ?_) (fun m m0 m1 => ?_) (Or.inl tn)
  · obtain ⟨a1, a2, a3, a4, a5, a6, a7⟩ := h.2.2.1 m m0 m1
    have a8 := nn (m := m) (by omega)
    rw [gh_l, hl m (by omega) m1, os, t0 m (by omega)]
    refine ⟨by omega, by omega, fun q => ?_⟩
    have := (a2 q).2.1
    omega
  · have a := h.2.1.1.2.2 m m0 m1
    have a8 := nn (m := m) m0
    rw [gh_l, hl m m0 m1]
    by_cases q : 4 + cf.2.2 ≤ m
    · have := (h.2.2.1 m q m1).2.2.1
      omega
    · rw [tl m m0 (by omega)]; omega
  · rw [gh_l, hl m m0 (by have := hc.1; omega), h.2.2.2.2.2.2.2 m m0 m1, tl m m0 m1]; rfl
