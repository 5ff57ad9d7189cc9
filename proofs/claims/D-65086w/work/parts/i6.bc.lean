/-! Store.beginCommit: the parts of it -/
/-- a number that is in use, and no head's, becomes USED -/
theorem SA.use1 {tv : Nat → Int} {cf : Cf} {σ τ : St} {dk : Int → Int} {db : Int → Int → Int} {L : List (Int × Int × Int × Int × Int × Int)} (h : SA tv cf σ dk db L) (fr : Fr (fun f o' => f = 323 ∧ o' = 0) σ τ) (rk : RK τ) (hu : ∀ k, gA τ 323 0 k = gA σ 323 0 k ∨ (gA τ 323 0 k = 1 ∧ gA σ 323 0 k ≠ 0 ∧ ¬ hld σ 0 k)) : SA tv cf τ dk db L := by
  obtain ⟨⟨w1, w2⟩, ⟨x1, x2, x3⟩, nm, wu, kn, ol, tb, l0⟩ := h
  have nwr : ∀ (f : Nat) (v : Int), (v = 0 ∨ v = 0 + 2 ∨ v = 0 + 4) → 450 ≤ f → f ≤ 452 → ¬ (f = 323 ∧ v = 0) := fun f v hv a b q => by omega
  have nk : ∀ f x, 576 ≤ f → f ≤ 587 → ¬ (f = 323 ∧ x = (0 : Int)) := fun f x a b q => by omega
  have nx : ∀ f, 385 ≤ f → f ≤ 390 → ¬ (f = 323 ∧ (0 : Int) = 0) := fun f a b q => by omega
  have ns : ∀ f, (f = 324 ∨ f = 325) → gA τ f 0 = gA σ f 0 := fun f hf => fr.a _ _ (fun q => by omega)
  have nt : ∀ f, (f = 214 ∨ f = 216) → gI τ f 0 = gI σ f 0 := fun f hf => fr.i _ _ (fun q => by omega)
  have nu : ∀ v, isW 0 v → gI τ 451 v = gI σ 451 v := fun v hv => fr.i _ _ (nwr _ v hv (by decide) (by decide))
  obtain ⟨kr, ko⟩ := krt_fr (o := 0) fr nk (nx _ (by decide) (by decide))
  have hh : ∀ m, hld τ 0 m ↔ hld σ 0 m := fun m => ⟨fun ⟨v, v1, v2⟩ => ⟨v, v1, by rw [← nu v v1]; exact v2⟩, fun ⟨v, v1, v2⟩ => ⟨v, v1, by rw [nu v v1]; exact v2⟩⟩
  have ee : eE τ 0 dk = eE σ 0 dk := funext (fun m => eE_fr fr nwr)
  have os : ∀ m, oS τ 0 m = oS σ 0 m := fun m => by
    unfold oS
    rw [fr.a 388 0 (nx _ (by decide) (by decide)), fr.a 389 0 (nx _ (by decide) (by decide)), fr.i 390 0 (nx _ (by decide) (by decide))]
  have ks : ∀ m, kS τ (krt τ 0) m = kS σ (krt σ 0) m := fun m => by rw [kr]; exact kS_ext (fun x _ => (ko x).2.z m)
  have tbe : ∀ m, tbS τ m = tbS σ m := fun m => by unfold tbS; rw [nt 214 (by omega), nt 216 (by omega)]
  refine ⟨⟨w1.fr fr nwr, rk⟩, ⟨⟨x1.1.fr fr nk nx, x1.2.1, by rw [ns 324 (by omega)]; exact x1.2.2⟩, x2, by rw [ee]; exact x3⟩, fun m m0 m1 => ?_, fun v hv nv => ?_, fun x hx hf => ?_, ?_, ?_, ?_⟩
  · obtain ⟨a1, a2, a3, a4, a5, a6, a7⟩ := nm m m0 m1
    unfold NM
    rw [ns 324 (by omega), ns 325 (by omega), ks, os, tbe, nt 214 (by omega), ee]
    have c1 : (hld σ 0 m → ∃ t, chn tv (db m) t 0 (eE σ 0 dk m)) ∧ (¬ hld σ 0 m → CN tv (db m) (lmF dk m) 0) → chM tv τ dk db m := fun w => ⟨fun y => by rw [ee]; exact w.1 ((hh m).mp y), fun y => w.2 (fun z => y ((hh m).mpr z))⟩
    rcases hu m with q | ⟨q1, q2, q3⟩
    · rw [q]
      exact ⟨a1, fun z => ⟨(a2 z).1, (a2 z).2.1, fun y => (a2 z).2.2 ((hh m).mp y)⟩, a3, a4, a5, a6, fun z => c1 (a7 z)⟩
    · rw [q1]
      exact ⟨by omega, fun z => absurd z (by omega), a3, a4, a5, a6, fun _ => c1 (a7 q2)⟩
  · rw [nu v hv] at nv ⊢
    rw [ns 325 (by omega)]
    have w := wu v hv nv
    rcases hu (gI σ 451 v) with q | ⟨q1, q2, q3⟩
    · rw [q]; exact w
    · exact absurd ⟨v, hv, rfl⟩ q3
  · rw [kr] at hx
    rw [(ko x).2.1] at hf
    obtain ⟨b1, b2⟩ := kn x hx hf
    rw [ns 325 (by omega), (ko x).2.2.1, ee]
    exact ⟨b1.fr (ko x) (fun k _ _ => Or.inr (ko _).2), b2⟩
  · rw [ns 325 (by omega), fr.a 388 0 (nx _ (by decide) (by decide)), fr.a 389 0 (nx _ (by decide) (by decide)), fr.i 390 0 (nx _ (by decide) (by decide))]
    exact ol
  · rw [nt 214 (by omega), nt 216 (by omega), ns 325 (by omega)]; exact tb
  · rw [ns 324 (by omega)]; exact l0
/-- nameless files into the sheet of a log -/
theorem sp_bcorp {tv : Nat → Int} {cf : Cf} {σ : St} {c n : Int} {Q : St → Prop} (hrk : RK σ) (hn : gI σ 218 0 = n) (n8 : 0 ≤ n ∧ n ≤ 8) (hat : gI σ 513 4 = 0) (hb : shB (gA σ 512 4) 7 c n)
    (hQ : ∀ τ K, shB (gA τ 512 4) 7 c n → (∀ j, 0 ≤ j → j < n → rI4 (gA τ 512 4) (32 + 4 * j) = gA σ 217 0 j) → gI τ 513 4 = 0 → Fr (mRb 4) σ τ → RK τ → wp_Store_beginCommit_L109 cf tv 0 Q K n τ) : lQ1 (wp_Store_beginCommit_L109 cf tv 0 Q) 0 σ := by
  refine lQ1_rule (fun y τ => (0 ≤ y ∧ y ≤ n) ∧ RK τ ∧ Fr (mRb 4) σ τ ∧ shB (gA τ 512 4) 7 c n ∧ (∀ j, 0 ≤ j → j < y → rI4 (gA τ 512 4) (32 + 4 * j) = gA σ 217 0 j)) (fun y _ => (n - y).toNat) ?_ 0 σ ⟨by omega, hrk, Fr.rf _ _, hb, fun j a b => absurd b (by omega)⟩
  intro K y τ hI hK
  obtain ⟨h1, rk, fr, h2, h3⟩ := hI
  have at' : gI τ 513 4 = 0 := by rw [fr.i _ _ (fun q => by unfold mRb at q; omega)]; exact hat
  by_cases e : y = n
  · rw [e] at h3 ⊢
    exact hQ τ K h2 h3 at' fr rk
  · unfold wp_Store_beginCommit_L109
    rw [show gI τ 218 0 = n by rw [fr.i _ _ (fun q => by unfold mRb at q; omega)]; exact hn]
    refine ⟨fun q => absurd q (by omega), fun _ => ⟨by omega, ?_⟩⟩
    rw [w32_id (x := 4 * y) (by unfold rI; omega), w32_id (x := 8 + 4 * y) (by unfold rI; omega), fr.a 217 0 (fun q => by unfold mRb at q; omega)]
    have r4 : rowL (0 + 4) = 128 := by decide
    refine sp_rput (a := 0) at' (by omega) (by omega) (by omega) (fun υ b f k _ y' ey => ?_)
    rw [w32_id (by unfold rI; omega)] at ey
    rw [ey]
    have b' : gA υ 512 4 = pI4 (gA τ 512 4) (0 + 24 + (8 + 4 * y)) (gA σ 217 0 y) := b
    refine hK _ _ ⟨by omega, k, fr.tr f, by rw [b']; exact h2.put (by omega), fun j j0 j1 => ?_⟩ (by omega)
    rw [b']
    by_cases q : j = y
    · rw [q, show 0 + 24 + (8 + 4 * y) = 32 + 4 * y by omega]
      exact rI4_p (hrk.ai _ _ _ (by decide))
    · rw [rI4_o (by omega)]; exact h3 j j0 (by omega)
/-- buds of the log before become USED, but for the head's -/
theorem sp_bcbuds {tv : Nat → Int} {cf : Cf} {σ : St} {n : Int} {Q : St → Prop} (hrk : RK σ) (hn : gI σ 211 0 = n) (n8 : 0 ≤ n ∧ n ≤ 8) (hb : ∀ k, 0 ≤ k → k < n → 0 ≤ gA σ 210 0 k ∧ gA σ 210 0 k < cf.1 - 6)
    (hQ : ∀ τ K, (∀ m, gA τ 323 0 m = gA σ 323 0 m ∨ (gA τ 323 0 m = 1 ∧ ∃ k, (0 ≤ k ∧ k < n) ∧ gA σ 210 0 k = m ∧ m ≠ gI σ 451 0)) → (∀ k, 0 ≤ k → k < n → gA σ 210 0 k ≠ gI σ 451 0 → gA τ 323 0 (gA σ 210 0 k) = 1) → Fr (fun f o' => f = 323 ∧ o' = 0) σ τ → RK τ → wp_Store_beginCommit_L182 cf tv 0 Q K n τ) : lQ1 (wp_Store_beginCommit_L182 cf tv 0 Q) 0 σ := by
  refine lQ1_rule (fun y τ => (0 ≤ y ∧ y ≤ n) ∧ RK τ ∧ Fr (fun f o' => f = 323 ∧ o' = 0) σ τ ∧ (∀ m, gA τ 323 0 m = gA σ 323 0 m ∨ (gA τ 323 0 m = 1 ∧ ∃ k, (0 ≤ k ∧ k < n) ∧ gA σ 210 0 k = m ∧ m ≠ gI σ 451 0)) ∧ (∀ k, 0 ≤ k → k < y → gA σ 210 0 k ≠ gI σ 451 0 → gA τ 323 0 (gA σ 210 0 k) = 1)) (fun y _ => (n - y).toNat) ?_ 0 σ ⟨by omega, hrk, Fr.rf _ _, fun m => Or.inl rfl, fun k a b => absurd b (by omega)⟩
  intro K y τ hI hK
  obtain ⟨h1, rk, fr, h2, h3⟩ := hI
  by_cases e : y = n
  · rw [e] at h3 ⊢
    exact hQ τ K h2 h3 fr rk
  · unfold wp_Store_beginCommit_L182
    rw [show gI τ 211 0 = n by rw [fr.i _ _ (fun q => by omega)]; exact hn, fr.a 210 0 (fun q => by omega), fr.i 451 0 (fun q => by omega)]
    have by' := hb y (by omega) (by omega)
    refine ⟨fun q => absurd q (by omega), fun _ => ⟨by omega, fun q => ?_, fun q => ⟨by omega, by omega, fun υ eυ => ?_⟩⟩⟩
    · intro y' ey
      rw [w32_id (by unfold rI; omega)] at ey
      rw [ey]
      refine hK _ _ ⟨by omega, rk, fr, h2, fun k k0 k1 ne => ?_⟩ (by omega)
      by_cases z : k = y
      · rw [z] at ne; exact absurd q ne
      · exact h3 k k0 (by omega) ne
    · intro y' ey
      rw [w32_id (by unfold rI; omega)] at ey
      rw [ey]
      have uu : ∀ m, gA υ 323 0 m = if m = gA σ 210 0 y then 1 else gA τ 323 0 m := fun m => by
        rw [eυ, gA_sA]
        by_cases z : m = gA σ 210 0 y
        · rw [if_pos z, if_pos ⟨rfl, rfl, z⟩]
        · rw [if_neg z, if_neg (fun w => z w.2.2)]
      refine hK _ _ ⟨by omega, by rw [eυ]; exact rk.sA (by show rI 1; unfold rI; omega), by rw [eυ]; exact fr.sA ⟨rfl, rfl⟩, fun m => ?_, fun k k0 k1 ne => ?_⟩ (by omega)
      · rw [uu]
        by_cases z : m = gA σ 210 0 y
        · rw [if_pos z]
          exact Or.inr ⟨rfl, y, by omega, z.symm, by rw [z]; exact q⟩
        · rw [if_neg z]; exact h2 m
      · rw [uu]
        by_cases z : gA σ 210 0 k = gA σ 210 0 y
        · rw [if_pos z]
        · rw [if_neg z]
          refine h3 k k0 ?_ ne
          have : k ≠ y := fun w => z (by rw [w])
          omega
