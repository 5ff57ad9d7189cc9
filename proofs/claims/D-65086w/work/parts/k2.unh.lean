/-! the journal's head lets its number go -/
theorem SA.unh {tv : Nat → Int} {cf : Cf} {σ τ : St} {dk : Int → Int} {db : Int → Int → Int} {L : List (Int × Int × Int × Int × Int × Int)} (h : SA tv cf σ dk db L) (hf : flu σ 0) (h0 : 0 ≤ cf.2.2) (e : τ = sI σ 451 0 (-1)) (rk : RK τ) : SA tv cf τ dk db L ∧ (∀ m, 0 ≤ m → eE τ 0 dk m = eE σ 0 dk m) ∧ ∀ m, 0 ≤ m → (hld τ 0 m ↔ hld σ 0 m ∧ m ≠ gI σ 451 0) := by
  have fr : Fr (fun f o' => f = 451 ∧ o' = 0) σ τ := by rw [e]; exact (Fr.rf _ _).sI ⟨rfl, rfl⟩
  have hn : gI τ 451 0 = -1 := by rw [e, gI_sI1]
  have hS := h
  obtain ⟨⟨w1, w2⟩, ⟨x1, x2, x3⟩, nm, wu, kn, ol, tb, l0⟩ := h
  have nk : ∀ f x, 576 ≤ f → f ≤ 587 → ¬ (f = 451 ∧ x = (0 : Int)) := fun f x a b q => by omega
  have nx : ∀ f, 385 ≤ f → f ≤ 390 → ¬ (f = 451 ∧ (0 : Int) = 0) := fun f a b q => by omega
  have ga : ∀ g w, gA τ g w = gA σ g w := fun g w => by rw [e]; rfl
  have gn : ∀ g w, (g ≠ 451 ∨ w ≠ 0) → gI τ g w = gI σ g w := fun g w hg => fr.i _ _ (fun q => by omega)
  obtain ⟨kr, ko⟩ := krt_fr (o := 0) fr nk (nx _ (by decide) (by decide))
  have dis := w1.all.2
  have hh : ∀ m, 0 ≤ m → (hld τ 0 m ↔ hld σ 0 m ∧ m ≠ gI σ 451 0) := fun m m0 => by
    constructor
    · rintro ⟨v, v1, v2⟩
      by_cases q : v = 0
      · rw [q, hn] at v2; omega
      · rw [gn _ _ (Or.inr q)] at v2
        exact ⟨⟨v, v1, v2⟩, fun z => dis v 0 v1 (Or.inl rfl) q (by omega) (by omega)⟩
    · rintro ⟨⟨v, v1, v2⟩, ne⟩
      refine ⟨v, v1, ?_⟩
      by_cases q : v = 0
      · rw [q] at v2; exact absurd v2.symm ne
      · rw [gn _ _ (Or.inr q)]; exact v2
  have ee : ∀ m, 0 ≤ m → eE τ 0 dk m = eE σ 0 dk m := fun m m0 => by
    by_cases q : hld τ 0 m
    · obtain ⟨v, v1, v2⟩ := q
      by_cases q : v = 0
      · rw [q, hn] at v2; omega
      · have v2' := v2
        rw [gn _ _ (Or.inr q)] at v2'
        rw [eE_at w1 v1 v2' (by omega)]
        unfold eE
        rw [hn, if_neg (show m ≠ -1 by omega)]
        unfold isW at v1
        rcases v1 with z | z | z
        · exact absurd z q
        · rw [z] at v2 v2' ⊢
          rw [if_pos v2.symm, gn _ _ (Or.inl (by decide))]
        · rw [z] at v2 v2' ⊢
          have d2 : m ≠ gI τ 451 (0 + 2) := fun y => by
            rw [gn _ _ (Or.inr (by decide))] at y
            have y' : m = gI σ 451 2 := y
            have v3 : gI σ 451 4 = m := v2'
            have := dis 2 4 (Or.inr (Or.inl rfl)) (Or.inr (Or.inr rfl)) (by decide) (by omega)
            omega
          rw [if_neg d2, if_pos v2.symm, gn _ _ (Or.inl (by decide))]
    · rw [eE_no (fun w hw y => q ⟨w, hw, y⟩)]
      by_cases z : m = gI σ 451 0
      · rw [z] at m0 ⊢
        rw [eE_at w1 (Or.inl rfl) rfl (by omega)]
        have rn := hS.rn (w := 0) (Or.inl rfl) (by omega)
        have := hf (by omega)
        unfold lmF
        omega
      · exact (eE_no (fun w hw y => q ((hh m m0).mpr ⟨⟨w, hw, y⟩, z⟩))).symm
  have os : ∀ m, oS τ 0 m = oS σ 0 m := fun m => by
    unfold oS
    rw [ga, ga, gn _ _ (Or.inl (by decide))]
  have ks : ∀ m, kS τ (krt τ 0) m = kS σ (krt σ 0) m := fun m => by rw [kr]; exact kS_ext (fun x _ => (ko x).2.z m)
  have tbe : ∀ m, tbS τ m = tbS σ m := fun m => by unfold tbS; rw [gn _ _ (Or.inl (by decide)), gn _ _ (Or.inl (by decide))]
  refine ⟨⟨⟨WW.of (fun v hv => ?_) (fun v u hv hu ne nv => ?_), rk⟩, ⟨⟨x1.1.fr fr nk nx, x1.2.1, by rw [ga]; exact x1.2.2⟩, x2, x3.grow (fun y hy => ?_) (fun y hy p _ _ => rfl)⟩, fun m m0 m1 => ?_, fun v hv nv => ?_, fun x hx hf => ?_, ?_, ?_, ?_⟩, ee, hh⟩
  · by_cases q : v = 0
    · rw [q]; exact Or.inl hn
    · exact (w1.all.1 v hv).fr fr (fun f _ _ z => q z.2)
  · by_cases q : v = 0
    · rw [q] at nv; exact absurd hn nv
    · rw [gn _ _ (Or.inr q)] at nv ⊢
      by_cases q2 : u = 0
      · rw [q2, hn]; exact nv
      · rw [gn _ _ (Or.inr q2)]
        exact dis v u hv hu ne nv
  · have z := x3 y hy
    rw [ee _ (by omega)]
    exact z.2.2.2.2.2.2
  · obtain ⟨a1, a2, a3, a4, a5, a6, a7⟩ := nm m m0 m1
    unfold NM
    rw [ga, ga, ga, ks, os, tbe, gn 214 _ (Or.inl (by decide)), ee m (by omega)]
    refine ⟨a1, fun z => ⟨(a2 z).1, (a2 z).2.1, fun y => (a2 z).2.2 ((hh m (by omega)).mp y).1⟩, a3, a4, a5, a6, fun z => ?_⟩
    obtain ⟨b1, b2⟩ := a7 z
    refine ⟨fun y => by rw [ee m (by omega)]; exact b1 ((hh m (by omega)).mp y).1, fun y => ?_⟩
    by_cases q : hld σ 0 m
    · have z2 : m = gI σ 451 0 := Classical.byContradiction (fun w => y ((hh m (by omega)).mpr ⟨q, w⟩))
      obtain ⟨t, ht⟩ := b1 q
      have e2 : eE σ 0 dk m = lmF dk m := by
        rw [← ee m (by omega)]
        exact eE_no (fun w hw x => y ⟨w, hw, x⟩)
      rw [e2] at ht
      exact CN.of ht
    · exact b2 q
  · by_cases q : v = 0
    · rw [q] at nv; exact absurd hn nv
    · rw [gn _ _ (Or.inr q)] at nv ⊢
      rw [ga, ga]
      exact wu v hv nv
  · rw [kr] at hx
    rw [(ko x).2.1] at hf
    obtain ⟨b1, b2⟩ := kn x hx hf
    have b3 := b1.fr (ko x) (fun k _ _ => Or.inr (ko _).2)
    rw [ga, (ko x).2.2.1]
    refine ⟨b3.grow ?_ ?_ (fun p _ => rfl), b2⟩
    · rw [(ko x).1.2.1]; exact (krt_cnt x1.1 x hx).1
    · rw [ee _ (by have := b3.2.2.1; omega)]; exact Int.le_refl _
  · rw [ga, ga, ga, gn _ _ (Or.inl (by decide))]; exact ol
  · rw [ga, gn 214 _ (Or.inl (by decide)), gn 216 _ (Or.inl (by decide))]; exact tb
  · rw [ga]; exact l0
theorem PR.unh {tv : Nat → Int} {cf : Cf} {σ τ : St} {dk : Int → Int} {db : Int → Int → Int} {B : Int} {r : RT} {L : List (Int × Int × Int × Int × Int × Int)} {S' : List (Int × Int × Int × (Int → Int)) × Int} (hc : CfOK cf) (h : PR tv cf σ dk db L S' [] r B) (hf : flu σ 0) (e : τ = sI σ 451 0 (-1)) (rk : RK τ) : PR tv cf τ dk db L S' [] r B := by
  have hR : 0 ≤ cf.2.2 ∧ cf.2.2 ≤ 4 := hc.2.2
  obtain ⟨⟨σc, l, z, c, lg, lr, sM, nx, tn, tp, bl, s, s', b0, V, jn, sJ, hI, ⟨hD, hb0⟩, hO, hFX, hJ, hBD, hlo, ⟨hcB, hsB, hsJ, hsd⟩, hV, hHD, hXO⟩, hla⟩ := h
  obtain ⟨hS, hL, hnx, ⟨hs1, hs2⟩, ho, hB0⟩ := hI
  obtain ⟨S1, ee, hh⟩ := hS.unh hf hR.1 e rk
  have fr : Fr (fun f o' => f = 451 ∧ o' = 0) σ τ := by rw [e]; exact (Fr.rf _ _).sI ⟨rfl, rfl⟩
  have hn : gI τ 451 0 = -1 := by rw [e, gI_sI1]
  have ga : ∀ g w, gA τ g w = gA σ g w := fun g w => by rw [e]; rfl
  have gn : ∀ g w, (g ≠ 451 ∨ w ≠ 0) → gI τ g w = gI σ g w := fun g w hg => fr.i _ _ (fun q => by omega)
  obtain ⟨kr, ko⟩ := krt_fr (o := 0) fr (fun f x a b q => by omega) (fun q => by omega)
  have hO' : ONv tv cf τ dk db L c lg s := by
    obtain ⟨⟨g1, g2, g3, g4⟩, g5, g7, ⟨g8, g9⟩, ⟨g11, g12⟩, ⟨g13, g14⟩, g15, g16⟩ := hO
    refine ⟨⟨by rw [gn _ _ (Or.inl (by decide))]; exact g1, g2, by rw [gn _ _ (Or.inl (by decide))]; exact g3, g4⟩, g5, g7, ⟨fun m m0 m1 hm => ?_, fun x hx hfx => ?_⟩, ⟨?_, by rw [gn _ _ (Or.inl (by decide))]; exact g12⟩, ⟨by rw [gn _ _ (Or.inl (by decide))]; exact g13, fun k k0 k1 => ?_⟩, ?_, ?_⟩
    · rw [ga] at hm; rw [ee m (by omega)]; exact g8 m m0 m1 hm
    · rw [kr] at hx
      rw [(ko x).2.1] at hfx
      obtain ⟨-, w2, w3, w4⟩ := (ko x).2
      rw [w2, w3]
      exact g9 x hx hfx
    · unfold orL
      rw [ga, gn _ _ (Or.inl (by decide))]; exact g11
    · rw [gn _ _ (Or.inl (by decide))] at k1
      obtain ⟨y1, y2, y3⟩ := g14 k k0 k1
      rw [ga, ga]
      refine ⟨y1, y2, Or.inr (fun q => ?_)⟩
      obtain ⟨q1, q2⟩ := (hh _ (by omega)).mp q
      rcases y3 with y | y
      · exact q2 y
      · exact y q1
    · have a : nfr τ (krt τ 0) = nfr σ (krt σ 0) := by rw [kr]; exact nfr_ext (fun y _ => (ko y).2.1)
      rw [a, gn _ _ (Or.inl (by decide))]; exact g15
    · rw [ga, ga, gn _ _ (Or.inr (by decide))]; exact g16
  have w0 : gI σ 205 0 = 0 ∧ sJ = s' := by
    rcases hJ with ⟨q1, q2, q3, q4⟩ | ⟨q, bl0, a, b, t, t2, w1, w2', w5, w6, w7⟩
    · exact ⟨q2, q4⟩
    · refine ⟨w5, ?_⟩
      have l0 := w2'.la.1
      cases t2 with
      | nil => exact w2'.2.1.symm
      | cons u t => exact absurd w2' (fun q => q)
  refine ⟨⟨σc, l, z, c, lg, lr, sM, nx, tn, tp, bl, s, s', b0, V, jn, sJ, ⟨S1, hL, by rw [gn _ _ (Or.inl (by decide))]; exact hnx, ⟨by rw [gn _ _ (Or.inl (by decide))]; exact hs1, hs2⟩, hO'.2.2.2.2.1, hB0⟩, ⟨hD.fr fr (fun f o' a q => by unfold rBI at a; omega), hb0⟩, hO', hFX, Or.inl ⟨hn, by rw [gn _ _ (Or.inl (by decide))]; exact w0.1, rfl, w0.2⟩, ?_, ⟨by rw [gn _ _ (Or.inl (by decide))]; exact hlo.1, by rw [gn _ _ (Or.inl (by decide))]; exact hlo.2⟩, ⟨hcB, hsB, hsJ, hsd⟩, ?_, fun m m0 m1 q => ?_, hXO.fr (ga _ _) rfl⟩, by rw [gn _ _ (Or.inl (by decide))]; exact hla⟩
  · unfold BDl
    rw [gn _ _ (Or.inl (by decide)), ga]; exact hBD
  · unfold VCl VC at hV ⊢
    rw [gn 223 _ (Or.inl (by decide)), gn 225 _ (Or.inl (by decide)), gn 224 _ (Or.inl (by decide)), ga]
    exact hV
  · rw [ga] at q
    have bd : gA τ 210 0 = gA σ 210 0 := ga _ _
    have bc : gI τ 211 0 = gI σ 211 0 := gn _ _ (Or.inl (by decide))
    rcases hHD m m0 m1 q with w | ⟨k, k1, k2⟩
    · by_cases en : m = gI σ 451 0
      · refine Or.inr ?_
        rcases hJ with ⟨q1, q2, q3, q4⟩ | ⟨q', bl0, a, b, t, t2, w1, w2', w5, w6, w7⟩
        · omega
        · obtain ⟨k, k1, k2⟩ := hBD.at (b := (gI σ 451 0, a, b, t)) (by rw [w1]; exact List.mem_append_right _ (List.mem_singleton.mpr rfl))
          exact ⟨k, by rw [bc]; exact k1, by rw [bd, k2, en]⟩
      · exact Or.inl ((hh m (by omega)).mpr ⟨w, en⟩)
    · exact Or.inr ⟨k, by rw [bc]; exact k1, by rw [bd]; exact k2⟩
