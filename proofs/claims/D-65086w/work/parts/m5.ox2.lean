/-! what a cut leaves -/
theorem PX.ox {tv : Nat → Int} {cf : Cf} {σ τ : St} {dk : Int → Int} {db : Int → Int → Int} {L : List (Int × Int × Int × Int × Int × Int)} {S' : List (Int × Int × Int × (Int → Int)) × Int} {W : List (Int × (List (Int × Int × Int × (Int → Int)) × Int))} {r : RT} {B : Int} {M : Nat → Int → Prop} (hc : CfOK cf) (h : PX tv cf σ dk db L S' W r B) (fr : Fr M σ τ) (n1 : ∀ f o', rBI 0 f o' → ¬ M f o') (n2 : ∀ f x, 576 ≤ f → f ≤ 587 → ¬ M f x) (n3 : ∀ f, 385 ≤ f → f ≤ 390 → ¬ M f 0) : OX tv cf τ dk db S' r B := by
  have hR : 0 ≤ cf.2.2 ∧ cf.2.2 ≤ 4 := hc.2.2
  have hBl : 24 ≤ cf.1 ∧ cf.1 ≤ 64 := hc.1
  have cm : ∀ {p q : Int → Prop} {i : DecidablePred p} {j : DecidablePred q} {x : Int}, x ≤ ((@cnt p i (cf.1 - 6).toNat : Nat) : Int) → (∀ m, 0 ≤ m → m < cf.1 - 6 → p m → q m) → x ≤ ((@cnt q j (cf.1 - 6).toNat : Nat) : Int) := fun a b => Int.le_trans a (Int.ofNat_le.mpr (cnt_le _ (fun i i0 i1 => b i i0 (by omega))))
  rcases h with ⟨⟨h, -⟩, hr1, hr2⟩ | ⟨R, Old, h, h2, h3, h4⟩
  · obtain ⟨σc, l, z, c, lg, lr, sv, nx, tn, tp, bl, s, s', b0, V, jn, sJ, hI, ⟨hD, hb0⟩, hO, hFX, hJ, hBD, ⟨hlo, hcm⟩, ⟨hcB, hsB, hsJ, hsd⟩, hV, hHD, hXO⟩ := h
    obtain ⟨hS, ⟨hL, hkm⟩, -⟩ := hI
    obtain ⟨⟨-, o2, -, o4, o5⟩, ⟨o6, o7⟩, o8, ⟨o9, -⟩, -⟩ := hO
    have jr := hJ.sr hS
    refine ⟨σc, l, z, c, lg, lr, sv, nx, tn, tp, bl, s', b0, s, V, jn, lmX σ σc l z tn dk, hFX, ⟨hD.fr fr n1, hb0⟩, ⟨L, hS.2.1.1.1.fr fr n2 n3, by omega⟩, ⟨fun q1 q2 => ?_, fun b hb => ?_, hXO.lm hFX.1⟩, o9.x hS hR.1, ⟨o5, hcB, by omega⟩, Or.inl (by omega), ⟨?_, ?_⟩, ⟨fun q => by have := o6 q; omega, o7⟩, o8⟩
    · have := o6 (by omega); omega
    · rw [lmX_0 (hXO.2 b hb)]; exact Int.le_refl _
    · refine cm (show whl cf ≤ emp cf (gA σ 323 0) by omega) (fun m m0 m1 q => ⟨q.1, lmX_e ((hS.2.2.1 m q.1 m1).2.1 q.2).1⟩)
    · refine cm hr2 (fun m m0 m1 q => ⟨q.1, ?_⟩)
      rcases q.2 with w | w
      · exact Or.inl (lmX_e ((hS.2.2.1 m q.1 m1).2.1 w).1)
      · by_cases x : isx σc l z tn m
        · exact Or.inr x
        · exact Or.inl (lmX_x w x)
  · obtain ⟨σc, l, z, c, lg, lr, sv, nx, tn, tp, bl, s, s', b0, lr2, f, W', G, NW, ⟨hS, ⟨hL, -⟩, -⟩, ⟨hD, hb0⟩, hCI, hG, hNB, hlr, hFX, hF2, hbl, hwc, ⟨hcB, hsR, hlB⟩, hH1, hXO, hEX⟩ := h
    have hcb := hCI.2.1
    obtain ⟨-, ⟨-, -, -, -, -, q5⟩, -, ⟨-, q7⟩, q8, q9, -⟩ := hcb
    have e5 : 5 - (5 - lg) = lg := by omega
    rw [e5] at q8
    rw [← h2] at hFX
    have hlg : lg = 2 ∨ lg = 3 := hFX.1.1.1
    have d1 : 0 < dk (5 - lg) := by
      rcases hF2.2.2.2.2 with w | w <;> omega
    refine ⟨σc, l, z, c, lg, lr, sv, nx, tn, tp, bl, s', b0, s, lr2, gI σ 451 0, lmX σ σc l z tn dk, hFX, ⟨hD.fr fr n1, hb0⟩, ⟨L, hS.2.1.1.1.fr fr n2 n3, by omega⟩, ⟨fun p1 p2 => ?_, fun b hb => ?_, hXO.lm hFX.1⟩, q9.x hS hR.1, ⟨q5, hcB, by omega⟩, Or.inr ⟨d1, hF2.2.2.2.1, by omega⟩, ⟨?_, ?_⟩, ⟨fun _ => by rw [hF2.2.2.2.1]; omega, q8⟩, q7⟩
    · by_cases w : gI σ 451 0 = -1
      · rcases hF2.2.2.2.2 with y | ⟨-, a, sb, -, -, y, -⟩ <;> omega
      · have u := (hS.2.2.2.1 0 (Or.inl rfl) w).2
        rw [if_neg (by omega)] at u
        rw [lmX_0 u]; exact Int.le_refl _
    · rw [lmX_0 (hXO.2 b hb)]; exact Int.le_refl _
    · refine cm hEX (fun m m0 m1 q => ⟨q.1, ?_⟩)
      rcases q.2 with w | w
      · exact lmX_e ((hS.2.2.1 m q.1 m1).2.1 w).1
      · exact lmX_x w.1 w.2
    · refine cm h4 (fun m m0 m1 q => ⟨q.1, ?_⟩)
      rcases q.2 with w | w
      · exact Or.inl (lmX_e ((hS.2.2.1 m q.1 m1).2.1 w).1)
      · by_cases x : isx σc l z tn m
        · exact Or.inr x
        · exact Or.inl (lmX_x w x)
