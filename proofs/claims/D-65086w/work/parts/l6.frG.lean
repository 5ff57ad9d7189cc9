/-! fields that the store's invariant does not rest on -/
def relF (f : Nat) : Prop := (202 ≤ f ∧ f ≤ 225) ∨ (320 ≤ f ∧ f < 384) ∨ (385 ≤ f ∧ f ≤ 390) ∨ (448 ≤ f ∧ f < 512) ∨ (576 ≤ f ∧ f < 640)
theorem PR.opn {tv : Nat → Int} {cf : Cf} {σ : St} {dk : Int → Int} {db : Int → Int → Int} {L : List (Int × Int × Int × Int × Int × Int)} {S' : List (Int × Int × Int × (Int → Int)) × Int} {W : List (Int × (List (Int × Int × Int × (Int → Int)) × Int))} {r : RT} {B : Int} (h : PR tv cf σ dk db L S' W r B) : ∃ Sp, DJ tv cf σ 0 dk db Sp B ∧ SA tv cf σ dk db L ∧ SpX Sp ∧ ∀ (τ : St) (M : Nat → Int → Prop) (B' : Int), Fr M σ τ → (∀ f o', relF f → ¬ M f o') → RK τ → DJ tv cf τ 0 dk db Sp B' → B ≤ B' → PR tv cf τ dk db L S' W r B' := by
  obtain ⟨⟨σc, l, z, c, lg, lr, sv, nx, tn, tp, bl, s, s', b0, V, jn, sJ, ⟨hS, hL, hnx, ⟨hs1, hs2⟩, ho, hB0, hES⟩, ⟨hD, hb0⟩, hO, hFX, hJ, hBD, hlo, ⟨hcB, hsB, hsJ, hsd⟩, hV, hHD, hXO⟩, hla⟩ := h
  refine ⟨_, hD, hS, SpC.x, fun τ M B' fr n rk D1 hBB => ?_⟩
  have ga : ∀ g w, relF g → gA τ g w = gA σ g w := fun g w hg => fr.a _ _ (n g w hg)
  have gn : ∀ g w, relF g → gI τ g w = gI σ g w := fun g w hg => fr.i _ _ (n g w hg)
  have rl : ∀ {g}, (202 ≤ g ∧ g ≤ 225) → relF g := fun hg => Or.inl hg
  have rs : ∀ {g}, (320 ≤ g ∧ g < 384) → relF g := fun hg => Or.inr (Or.inl hg)
  have rw' : ∀ {g}, (448 ≤ g ∧ g < 512) → relF g := fun hg => Or.inr (Or.inr (Or.inr (Or.inl hg)))
  obtain ⟨kr, ko⟩ := krt_fr (o := 0) fr (fun f x a b => n f x (Or.inr (Or.inr (Or.inr (Or.inr ⟨a, by omega⟩))))) (n _ _ (Or.inr (Or.inr (Or.inl (by decide)))))
  have hl : ∀ m, hld τ 0 m ↔ hld σ 0 m := fun m => ⟨fun ⟨v, v1, v2⟩ => ⟨v, v1, by rw [← gn _ v (rw' (by decide))]; exact v2⟩, fun ⟨v, v1, v2⟩ => ⟨v, v1, by rw [gn _ v (rw' (by decide))]; exact v2⟩⟩
  have ee : ∀ m, eE τ 0 dk m = eE σ 0 dk m := fun m => eE_fr fr (fun f w _ a b => n f w (rw' ⟨by omega, by omega⟩))
  have hO' : ONv tv cf τ dk db L c lg s := by
    obtain ⟨⟨g1, g2, g3, g4⟩, g5, g7, ⟨g8, g9⟩, ⟨g11, g12⟩, ⟨g13, g14⟩, g15, g16⟩ := hO
    refine ⟨⟨by rw [gn _ _ (rl (by decide))]; exact g1, g2, by rw [gn _ _ (rl (by decide))]; exact g3, g4⟩, g5, g7, ⟨fun m m0 m1 hm => ?_, fun x hx hfx => ?_⟩, ⟨?_, by rw [gn _ _ (rl (by decide))]; exact g12⟩, ⟨by rw [gn _ _ (rl (by decide))]; exact g13, fun k k0 k1 => ?_⟩, ?_, ?_⟩
    · rw [ga _ _ (rs (by decide))] at hm; rw [ee m]; exact g8 m m0 m1 hm
    · rw [kr] at hx
      rw [(ko x).2.1] at hfx
      obtain ⟨-, w2, w3, w4⟩ := (ko x).2
      rw [w2, w3]
      exact g9 x hx hfx
    · unfold orL
      rw [ga _ _ (rl (by decide)), gn _ _ (rl (by decide))]; exact g11
    · rw [gn _ _ (rl (by decide))] at k1
      obtain ⟨y1, y2, y3⟩ := g14 k k0 k1
      rw [ga 210 _ (rl (by decide)), ga _ _ (rs (by decide)), gn 451 _ (rw' (by decide))]
      exact ⟨y1, y2, y3.imp id (fun y q => y ((hl _).mp q))⟩
    · have a : nfr τ (krt τ 0) = nfr σ (krt σ 0) := by rw [kr]; exact nfr_ext (fun y _ => (ko y).2.1)
      rw [a, gn _ _ (Or.inr (Or.inr (Or.inl (by decide))))]; exact g15
    · rw [ga 325 _ (rs (by decide)), ga 323 _ (rs (by decide)), gn _ _ (rw' (by decide))]; exact g16
  refine ⟨⟨σc, l, z, c, lg, lr, sv, nx, tn, tp, bl, s, s', b0, V, jn, sJ, ⟨hS.fr fr (fun f o' a => n f o' (by unfold mSA at a; unfold relF; omega)) rk, hL, by rw [gn _ _ (rl (by decide))]; exact hnx, ⟨by rw [gn _ _ (rl (by decide))]; exact hs1, hs2⟩, hO'.2.2.2.2.1, by omega, hES⟩, ⟨D1, hb0⟩, hO', hFX, ?_, ?_, ⟨by rw [gn _ _ (rl (by decide))]; exact hlo.1, by rw [gn _ _ (rl (by decide))]; exact hlo.2⟩, ⟨by omega, by omega, hsJ, hsd⟩, ?_, fun m m0 m1 q => ?_, hXO.fr (ga _ _ (rs (by decide))) rfl⟩, by rw [gn _ _ (rl (by decide))]; exact hla⟩
  · unfold JI
    rw [gn 451 _ (rw' (by decide)), gn 452 _ (rw' (by decide)), gn 205 _ (rl (by decide)), ga 204 _ (rl (by decide))]
    exact hJ
  · unfold BDl
    rw [gn _ _ (rl (by decide)), ga _ _ (rl (by decide))]; exact hBD
  · unfold VCl VC at hV ⊢
    rw [gn 223 _ (rl (by decide)), gn 225 _ (rl (by decide)), gn 224 _ (rl (by decide)), ga _ _ (rs (by decide))]
    exact hV
  · rw [ga _ _ (rs (by decide))] at q
    rcases hHD m m0 m1 q with w | ⟨k, k1, k2⟩
    · exact Or.inl ((hl m).mpr w)
    · exact Or.inr ⟨k, by rw [gn _ _ (rl (by decide))]; exact k1, by rw [ga _ _ (rl (by decide))]; exact k2⟩
