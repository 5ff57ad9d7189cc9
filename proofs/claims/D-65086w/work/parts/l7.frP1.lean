/-! fields that the store's invariant does not rest on, in a commit -/
theorem P1.opn {tv : Nat → Int} {cf : Cf} {σ : St} {dk : Int → Int} {db : Int → Int → Int} {L : List (Int × Int × Int × Int × Int × Int)} {r : RT} {B : Int} {R Old : List Int} (h : P1 tv cf σ dk db L r B R Old) : ∃ Sp, DJ tv cf σ 0 dk db Sp B ∧ SA tv cf σ dk db L ∧ SpX Sp ∧ ∀ (τ : St) (M : Nat → Int → Prop) (B' : Int), Fr M σ τ → (∀ f o', relF f → ¬ M f o') → RK τ → DJ tv cf τ 0 dk db Sp B' → B ≤ B' → P1 tv cf τ dk db L r B' R Old := by
  obtain ⟨σc, l, z, c, lg, lr, sv, nx, tn, tp, bl, s, s', b0, lr2, f, W, G, NW, ⟨hS, hL, hnx, ⟨hs1, hs2⟩, ho, hB0, hES⟩, ⟨hD, hb0⟩, hCI, hG, hNB, hlr, hFX, hF2, hbl, hwc, ⟨hcB, hsR, hlB⟩, hH1, hXO, hEX⟩ := h
  refine ⟨_, hD, hS, SpC.x, fun τ M B' fr n rk D1 hBB => ?_⟩
  have ga : ∀ g w, relF g → gA τ g w = gA σ g w := fun g w hg => fr.a _ _ (n g w hg)
  have gn : ∀ g w, relF g → gI τ g w = gI σ g w := fun g w hg => fr.i _ _ (n g w hg)
  have rl : ∀ {g}, (202 ≤ g ∧ g ≤ 225) → relF g := fun hg => Or.inl hg
  have rs : ∀ {g}, (320 ≤ g ∧ g < 384) → relF g := fun hg => Or.inr (Or.inl hg)
  have rw' : ∀ {g}, (448 ≤ g ∧ g < 512) → relF g := fun hg => Or.inr (Or.inr (Or.inr (Or.inl hg)))
  obtain ⟨kr, ko⟩ := krt_fr (o := 0) fr (fun f x a b => n f x (Or.inr (Or.inr (Or.inr (Or.inr ⟨a, by omega⟩))))) (n _ _ (Or.inr (Or.inr (Or.inl (by decide)))))
  have hl : ∀ m, hld τ 0 m ↔ hld σ 0 m := fun m => ⟨fun ⟨v, v1, v2⟩ => ⟨v, v1, by rw [← gn _ v (rw' (by decide))]; exact v2⟩, fun ⟨v, v1, v2⟩ => ⟨v, v1, by rw [gn _ v (rw' (by decide))]; exact v2⟩⟩
  have ee : ∀ m, eE τ 0 dk m = eE σ 0 dk m := fun m => eE_fr fr (fun f w _ a b => n f w (rw' ⟨by omega, by omega⟩))
  have nf : nfr τ (krt τ 0) = nfr σ (krt σ 0) := by rw [kr]; exact nfr_ext (fun y _ => (ko y).2.1)
  have ol : gI τ 390 0 = gI σ 390 0 := gn _ _ (Or.inr (Or.inr (Or.inl (by decide))))
  have fs : fS τ R = fS σ R := by
    unfold fS
    congr 1
    exact List.map_congr_left (fun y _ => by rw [(ko y).2.1, (ko y).1.2.1])
  have orc : (orL τ 0).Perm (nlL (AM db L)) ∧ 0 ≤ gI τ 218 0 ∧ gI τ 218 0 ≤ 8 := by
    unfold orL
    rw [ga _ _ (rl (by decide)), gn _ _ (rl (by decide))]; exact ho
  have fl : ∀ w, flu τ w ↔ flu σ w := fun w => by
    unfold flu
    rw [gn 451 w (rw' (by decide)), gn 452 w (rw' (by decide))]
  have hCI' : CI tv cf τ dk db L (c + 1) (5 - lg) lr2 s f W G R NW Old := by
    obtain ⟨⟨⟨a1, a2, a3⟩, a4, D, a5, a6, a7, a8⟩, ⟨⟨b1, b1'⟩, ⟨b2, b3, b4, b5, b6⟩, b7, b8, b9, b10, b11⟩, ⟨c1, c2, c3, ⟨c4, c5, c6⟩, c7⟩, d1⟩ := hCI
    refine ⟨⟨⟨a1, fun x => by rw [kr, (ko x).2.1]; exact a2 x, a3.step (fun x => (ko x).1.2.1) (fun x k => by unfold be; rw [(ko x).1.2.2 k]) (fun x q => by rw [(ko x).2.1]; exact q) (fun y q => q.elim)⟩, by rw [ol, nf]; exact a4, D, ?_, by rw [gn _ _ (rl (by decide))]; exact a6, by rw [gn _ _ (rl (by decide))]; exact a7, by rw [gn _ _ (rl (by decide))]; exact a8⟩, ⟨⟨(fl 0).mpr b1, (fl 2).mpr b1'⟩, ⟨by rw [gn _ _ (rl (by decide))]; exact b2, b3, by rw [gn _ _ (rl (by decide))]; exact b4, by rw [gn _ _ (rl (by decide))]; exact b5, b6⟩, b7, b8, b9, fun m m0 m1 hm => ?_, fun m m0 m1 hm => ?_⟩, ?_, fun x hx hfx => ?_⟩
    · unfold odL
      rw [ga _ _ (rl (by decide)), gn _ _ (rl (by decide))]; exact a5
    · rw [ga _ _ (rs (by decide))] at hm; rw [ee m]; exact b10 m m0 m1 hm
    · rw [ga _ _ (rs (by decide))] at hm
      rcases b11 m m0 m1 hm with q | ⟨x, x1, x2, x3⟩
      · exact Or.inl q
      · exact Or.inr ⟨x, by rw [kr]; exact x1, by rw [(ko x).2.1]; exact x2, by rw [(ko x).2.2.1]; exact x3⟩
    · rw [fs]
      refine ⟨c1, ?_, ?_, ⟨c4, ?_, fun x hx hfx => ?_⟩, ?_⟩
      · rw [gn 451 4 (rw' (by decide)), gn 452 4 (rw' (by decide))]; exact c2
      · rw [ga _ _ (rs (by decide))]; exact c3
      · rw [gn 451 4 (rw' (by decide))]; exact c5
      · rw [kr] at hx
        rw [(ko x).2.1] at hfx
        rw [(ko x).2.2.1]
        exact c6 x hx hfx
      · rw [ga 325 _ (rs (by decide)), ga 323 _ (rs (by decide)), gn 451 4 (rw' (by decide))]; exact c7
    · rw [kr] at hx
      rw [(ko x).2.1] at hfx
      obtain ⟨-, w2, w3, w4⟩ := (ko x).2
      rw [w2, w3]
      exact d1 x hx hfx
  refine ⟨σc, l, z, c, lg, lr, sv, nx, tn, tp, bl, s, s', b0, lr2, f, W, G, NW, ⟨hS.fr fr (fun f o' a => n f o' (by unfold mSA at a; unfold relF; omega)) rk, hL, by rw [gn _ _ (rl (by decide))]; exact hnx, ⟨by rw [gn _ _ (rl (by decide))]; exact hs1, hs2⟩, orc, by omega, hES⟩, ⟨D1, hb0⟩, hCI', by rw [fs]; exact hG, ?_, hlr, ?_, ?_, ?_, ?_, ⟨by omega, hsR, by omega⟩, fun m m0 m1 q => ?_, hXO.fr (ga _ _ (rs (by decide))) rfl, by unfold EXn; rw [ga 323 _ (rs (by decide)), ga 325 _ (rs (by decide))]; exact hEX⟩
  · unfold NBp
    rw [gn 209 _ (rl (by decide)), gn 451 0 (rw' (by decide)), gn 452 0 (rw' (by decide)), gn 211 _ (rl (by decide)), ga 210 _ (rl (by decide))]
    exact hNB
  · rw [gn _ _ (rl (by decide)), gn 451 0 (rw' (by decide))]; exact hFX
  · rw [gn 451 0 (rw' (by decide))]; exact hF2
  · rw [ga _ _ (rs (by decide)), gn 451 4 (rw' (by decide)), gn 451 2 (rw' (by decide))]; exact hbl
  · rw [gn _ _ (rl (by decide)), gn 213 _ (rl (by decide))]; exact hwc
  · rw [ga _ _ (rs (by decide))] at q
    exact (hl m).mpr (hH1 m m0 m1 q)
theorem PX.opn {tv : Nat → Int} {cf : Cf} {σ : St} {dk : Int → Int} {db : Int → Int → Int} {L : List (Int × Int × Int × Int × Int × Int)} {S' : List (Int × Int × Int × (Int → Int)) × Int} {W : List (Int × (List (Int × Int × Int × (Int → Int)) × Int))} {r : RT} {B : Int} (h : PX tv cf σ dk db L S' W r B) : ∃ Sp, DJ tv cf σ 0 dk db Sp B ∧ SA tv cf σ dk db L ∧ SpX Sp ∧ ∀ (τ : St) (M : Nat → Int → Prop) (B' : Int), Fr M σ τ → (∀ f o', relF f → ¬ M f o') → RK τ → DJ tv cf τ 0 dk db Sp B' → B ≤ B' → PX tv cf τ dk db L S' W r B' := by
  rcases h with ⟨h, hr⟩ | ⟨R, Old, h, h2, h3, h4⟩
  · obtain ⟨Sp, a, b, x, c⟩ := h.opn
    refine ⟨Sp, a, b, x, fun τ M B' fr n rk D hB => Or.inl ⟨c τ M B' fr n rk D hB, ?_⟩⟩
    unfold rom
    rw [fr.a 323 0 (n _ _ (Or.inr (Or.inl (by decide)))), fr.a 325 0 (n _ _ (Or.inr (Or.inl (by decide))))]; exact hr
  · obtain ⟨Sp, a, b, x, c⟩ := h.opn
    refine ⟨Sp, a, b, x, fun τ M B' fr n rk D hB => Or.inr ⟨R, Old, c τ M B' fr n rk D hB, ?_, h3, ?_⟩⟩
    · rw [fr.i 203 0 (n _ _ (Or.inl (by decide)))]; exact h2
    · rw [fr.a 323 0 (n _ _ (Or.inr (Or.inl (by decide)))), fr.a 325 0 (n _ _ (Or.inr (Or.inl (by decide))))]; exact h4
