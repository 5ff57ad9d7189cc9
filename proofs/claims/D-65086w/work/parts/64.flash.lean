/-! frames -/
def Fr (M : Nat → Int → Prop) (σ τ : St) : Prop := ∀ f o, ¬ M f o → gI τ f o = gI σ f o ∧ ∀ i, gA τ f o i = gA σ f o i
theorem Fr.rf (M : Nat → Int → Prop) (σ : St) : Fr M σ σ := fun _ _ _ => ⟨rfl, fun _ => rfl⟩
theorem Fr.tr {M : Nat → Int → Prop} {a b c : St} (h : Fr M a b) (k : Fr M b c) : Fr M a c := fun f o n => ⟨(k f o n).1.trans (h f o n).1, fun i => ((k f o n).2 i).trans ((h f o n).2 i)⟩
theorem Fr.mono {M N : Nat → Int → Prop} {a b : St} (h : Fr M a b) (hs : ∀ f o, M f o → N f o) : Fr N a b := fun f o n => h f o (fun q => n (hs f o q))
theorem Fr.sI {M : Nat → Int → Prop} {a b : St} (h : Fr M a b) {f : Nat} {o v : Int} (hm : M f o) : Fr M a (sI b f o v) := fun f' o' n => ⟨by rw [gI_sI, if_neg (fun q => n (by rw [q.1, q.2]; exact hm))]; exact (h f' o' n).1, fun i => (h f' o' n).2 i⟩
theorem Fr.sA {M : Nat → Int → Prop} {a b : St} (h : Fr M a b) {f : Nat} {o i v : Int} (hm : M f o) : Fr M a (sA b f o i v) := fun f' o' n => ⟨(h f' o' n).1, fun i' => by rw [gA_sA, if_neg (fun q => n (by rw [q.1, q.2.1]; exact hm))]; exact (h f' o' n).2 i'⟩
theorem Fr.sAr {M : Nat → Int → Prop} {a b : St} (h : Fr M a b) {f : Nat} {o : Int} {g : Int → Int} (hm : M f o) : Fr M a (sAr b f o g) := fun f' o' n => ⟨(h f' o' n).1, fun i' => by rw [gA_sAr, if_neg (fun q => n (by rw [q.1, q.2]; exact hm))]; exact (h f' o' n).2 i'⟩
theorem Fr.i {M : Nat → Int → Prop} {a b : St} (h : Fr M a b) (f : Nat) (o : Int) (n : ¬ M f o) : gI b f o = gI a f o := (h f o n).1
theorem Fr.a {M : Nat → Int → Prop} {a b : St} (h : Fr M a b) (f : Nat) (o : Int) (n : ¬ M f o) : gA b f o = gA a f o := funext (h f o n).2
/-! the flash: what its pages tell, a bit that turned put right -/
def PgI (σ : St) (lp : Int → Int → Int) (t : Int) : Prop := gA σ 131 0 t = gd (lp t) ∧ (∀ i, 0 ≤ i → i < 128 → rB (lp t i)) ∧ ((gA σ 132 0 t = 0 ∧ ∀ i, 0 ≤ i → i < 128 → gA σ 130 0 (128 * t + i) = lp t i) ∨ (¬ gA σ 132 0 t = 0 ∧ ∃ q, (0 ≤ q ∧ q < 1024) ∧ ∀ i, 0 ≤ i → i < 128 → gA σ 130 0 (128 * t + i) = flb (lp t) q i))
def FlI (cf : Cf) (σ : St) (lp : Int → Int → Int) : Prop := ∀ b, 0 ≤ b → b < cf.1 → (0 ≤ gA σ 133 0 b ∧ gA σ 133 0 b ≤ cf.2.1) ∧ ∀ p, 0 ≤ p → p < gA σ 133 0 b → PgI σ lp (b * cf.2.1 + p)
theorem PgI.fr {σ τ : St} {lp : Int → Int → Int} {t : Int} (h : PgI σ lp t) (e1 : gA τ 131 0 = gA σ 131 0) (e2 : gA τ 132 0 = gA σ 132 0) (e3 : gA τ 130 0 = gA σ 130 0) : PgI τ lp t := by
  unfold PgI at *; rw [e1, e2, e3]; exact h
theorem FlI.fr {cf : Cf} {σ τ : St} {lp : Int → Int → Int} {M : Nat → Int → Prop} (h : FlI cf σ lp) (f : Fr M σ τ) (n : ∀ f, 130 ≤ f → f ≤ 133 → ¬ M f 0) : FlI cf τ lp := by
  intro b h0 h1
  have e := f.a 133 0 (n _ (by decide) (by decide))
  rw [e]
  refine ⟨(h b h0 h1).1, fun p p0 p1 => ?_⟩
  exact ((h b h0 h1).2 p p0 p1).fr (f.a _ 0 (n _ (by decide) (by decide))) (f.a _ 0 (n _ (by decide) (by decide))) (f.a _ 0 (n _ (by decide) (by decide)))
/-- the number of a page -/
theorem pix {cf : Cf} (hc : CfOK cf) {b p : Int} (hb : 0 ≤ b ∧ b < cf.1) (hp : 0 ≤ p ∧ p < cf.2.1) : (0 ≤ b * cf.2.1 ∧ b * cf.2.1 + cf.2.1 ≤ cf.1 * cf.2.1 ∧ cf.1 * cf.2.1 ≤ 2048) ∧ w32 (w32 (b * cf.2.1) + p) = b * cf.2.1 + p := by
  obtain ⟨⟨h1, h2⟩, ⟨h3, h4⟩, h5, h6⟩ := hc
  have m1 : 0 ≤ b * cf.2.1 := Int.mul_nonneg hb.1 (by omega)
  have m2 : (b + 1) * cf.2.1 ≤ cf.1 * cf.2.1 := Int.mul_le_mul_of_nonneg_right (by omega) (by omega)
  have m3 : cf.1 * cf.2.1 ≤ 64 * 32 := Int.mul_le_mul h2 h4 (by omega) (by omega)
  rw [Int.add_mul, Int.one_mul] at m2
  refine ⟨⟨m1, m2, by omega⟩, ?_⟩
  rw [w32_id (x := b * cf.2.1) (by unfold rI; omega), w32_id (by unfold rI; omega)]
theorem pix_inj {cf : Cf} (hc : CfOK cf) {b p b' p' : Int} (hp : 0 ≤ p ∧ p < cf.2.1) (hp' : 0 ≤ p' ∧ p' < cf.2.1) (h : b * cf.2.1 + p = b' * cf.2.1 + p') : b = b' ∧ p = p' := by
  have hP : 0 < cf.2.1 := by obtain ⟨-, ⟨h3, -⟩, -⟩ := hc; omega
  have e1 : (b * cf.2.1 + p) / cf.2.1 = b := by rw [Int.add_comm, Int.add_mul_ediv_right _ _ (by omega), Int.ediv_eq_zero_of_lt hp.1 hp.2]; omega
  have e2 : (b' * cf.2.1 + p') / cf.2.1 = b' := by rw [Int.add_comm, Int.add_mul_ediv_right _ _ (by omega), Int.ediv_eq_zero_of_lt hp'.1 hp'.2]; omega
  rw [h, e2] at e1
  subst e1
  exact ⟨rfl, by omega⟩
theorem aln_cells (cf : Cf) : aln cf 130 0 = 128 * (cf.1 * cf.2.1) := rfl
theorem sp_flash_read {cf : Cf} {tv : Nat → Int} (hc : CfOK cf) {σ : St} {lp : Int → Int → Int} (hF : FlI cf σ lp) {b p a o : Int} {f : Nat} {Q : St → Prop} (hb : 0 ≤ b ∧ b < cf.1) (hp : 0 ≤ p ∧ p < gA σ 133 0 b) (hf : f < 130 ∨ 136 < f) (ha : 0 ≤ a) (hl : a + 128 ≤ aln cf f o) (hla : a + 128 < 2147483647)
    (hQ : ∀ τ, gA τ f o = (fun i => if a ≤ i ∧ i < a + 128 then lp (b * cf.2.1 + p) (i - a) else gA σ f o i) → Fr (fun f' o' => (f' = 135 ∧ o' = 0) ∨ (f' = f ∧ o' = o)) σ τ → Q τ) : wp_Flash_read cf tv b p f o a Q σ := by
  obtain ⟨hw, hpg⟩ := hF b hb.1 hb.2
  obtain ⟨⟨x1, x2, x3⟩, x4⟩ := pix hc hb ⟨hp.1, by omega⟩
  obtain ⟨g1, g2, g3⟩ := hpg p hp.1 hp.2
  generalize ht : b * cf.2.1 + p = t at *
  have hfn : ∀ k : Nat, 130 ≤ k → k ≤ 136 → ¬ k = f := fun k h1 h2 => by omega
  unfold wp_Flash_read
  intro y5 hy5
  rw [x4] at hy5
  have hy5 := hy5.symm
  subst hy5
  have e1 : w32 (t * 128) = 128 * t := by rw [w32_id (by unfold rI; omega)]; omega
  rw [e1]
  refine ⟨by omega, fun σ1 h1 => ?_⟩
  have r1 : gA σ1 f o = (fun i => if a ≤ i ∧ i < a + 128 then gA σ 130 0 (128 * t + (i - a)) else gA σ f o i) := by
    rw [h1, gA_sAr1]; rfl
  have fr1 : Fr (fun f' o' => (f' = 135 ∧ o' = 0) ∨ (f' = f ∧ o' = o)) σ σ1 := by rw [h1]; exact (Fr.rf _ σ).sAr (Or.inr ⟨rfl, rfl⟩)
  have k1 : ∀ k : Nat, 130 ≤ k → k ≤ 136 → k ≠ 135 → gA σ1 k 0 = gA σ k 0 := fun k h1 h2 h3 => fr1.a k 0 (fun q => by
    rcases q with q | q
    · exact h3 q.1
    · exact hfn k h1 h2 q.1)
  rw [k1 133 (by decide) (by decide) (by decide)]
  refine ⟨hb, fun _ => ⟨by omega, ?_⟩, fun h => absurd hp.2 h⟩
  have hrow : ∀ i, 0 ≤ i → i < 128 → gA σ1 f o (a + i) = gA σ 130 0 (128 * t + i) := by
    intro i i0 i1
    rw [r1]
    dsimp only
    rw [if_pos (by omega), show a + i - a = i by omega]
  refine sp_guard ha hl hla (fun _ _ => ?_)
  intro y6 hy6
  rw [k1 131 (by decide) (by decide) (by decide), g1] at hy6
  rcases g3 with ⟨-, g4⟩ | ⟨-, q, hq, g4⟩
  · have e2 : gd (fun i => gA σ1 f o (a + i)) = gd (lp t) := gd_ext (fun i i0 i1 => by rw [hrow i i0 i1, g4 i i0 i1])
    rw [e2, ixor_self] at hy6
    refine ⟨fun h => absurd hy6 h, fun _ => ?_⟩
    refine hQ σ1 ?_ fr1
    rw [r1]
    funext i
    by_cases hi : a ≤ i ∧ i < a + 128
    · rw [if_pos hi, if_pos hi, g4 _ (by omega) (by omega)]
    · rw [if_neg hi, if_neg hi]
  · have e2 : gd (fun i => gA σ1 f o (a + i)) = gd (flb (lp t) q) := gd_ext (fun i i0 i1 => by rw [hrow i i0 i1, g4 i i0 i1])
    rw [e2, gd_flip hq g2] at hy6
    refine ⟨fun _ => ?_, fun h => by omega⟩
    refine ⟨hb, fun σ2 h2 y7 hy7 => ?_⟩
    have e3 : y7 = q := by
      rw [hy7, hy6, iand2047, w32_id (by unfold rI; omega)]; omega
    subst e3
    rw [jdv_nn hq.1 (by omega) (by omega), jrm_nn hq.1 (by omega) (by omega), w32_id (x := a + y7 / 8) (by unfold rI; omega)]
    refine ⟨by omega, by omega, fun σ3 h3 => ?_⟩
    have r2 : gA σ2 f o = gA σ1 f o := by
      rw [h2]; funext i; rw [gA_sA, if_neg (fun z => hfn _ (by decide) (by decide) z.1.symm)]
    refine hQ σ3 ?_ ?_
    · rw [h3, sA_sAr, gA_sAr1, r2]
      funext i
      unfold upF
      by_cases hi : a ≤ i ∧ i < a + 128
      · rw [if_pos hi]
        have hfl := flb_flb (g := lp t) (q := y7) (i := i - a) hq.1 (g2 _ (by omega) (by omega))
        unfold flb at hfl
        by_cases hj : i = a + y7 / 8
        · rw [if_pos hj, r1]
          dsimp only
          rw [if_pos (by omega), g4 _ (by omega) (by omega)]
          rw [if_pos (by omega), if_pos (by omega)] at hfl
          rw [show a + y7 / 8 - a = y7 / 8 by omega]
          rw [show i - a = y7 / 8 by omega] at hfl ⊢
          unfold flb
          rw [if_pos rfl]
          exact hfl
        · rw [if_neg hj, r1]
          dsimp only
          rw [if_pos hi, g4 _ (by omega) (by omega)]
          unfold flb
          rw [if_neg (by omega)]
      · rw [if_neg hi, if_neg (by omega), r1]
        dsimp only
        rw [if_neg hi]
    · rw [h3]
      refine Fr.sA ?_ (Or.inr ⟨rfl, rfl⟩)
      rw [h2]
      exact fr1.sA (Or.inl ⟨rfl, rfl⟩)
theorem sp_fails {cf : Cf} {tv : Nat → Int} {σ : St} {Q : Int → St → Prop} (hr : RK σ) (hQ : ∀ r v, rZ r → rI v → (r = 1 → 0 ≤ gI σ 136 0 ∧ v < 0) → (r = 0 → (0 ≤ v ↔ 0 ≤ gI σ 136 0)) → Q r (sI σ 136 0 v)) : wp_Flash_fails cf tv Q σ := by
  have h0 := hr.i 136 0 rfl
  unfold rI at h0
  unfold wp_Flash_fails
  refine ⟨fun h => ?_, fun h => ?_⟩
  · intro σ1 h1
    have e : w32 (gI σ 136 0 - 1) = gI σ 136 0 - 1 := w32_id (by unfold rI; omega)
    rw [e] at h1
    subst h1
    rw [gI_sI1]
    by_cases hz : 0 ≤ gI σ 136 0 - 1
    · rw [if_pos hz]
      exact hQ 0 _ rZ_0 (by unfold rI; omega) (fun q => by omega) (fun _ => by omega)
    · rw [if_neg hz]
      exact hQ 1 _ rZ_1 (by unfold rI; omega) (fun _ => by omega) (fun q => by omega)
  · have e : sI σ 136 0 (gI σ 136 0) = σ := by
      unfold sI
      refine Prod.ext ?_ rfl
      funext f o
      show (if _ then _ else _) = _
      split
      · rename_i q; rw [q.1, q.2]; rfl
      · rfl
    have := hQ 0 (gI σ 136 0) rZ_0 (hr.i _ 0 rfl) (fun q => by omega) (fun _ => Iff.rfl)
    rw [e] at this
    exact this
