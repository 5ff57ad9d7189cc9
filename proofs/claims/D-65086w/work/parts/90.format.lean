/-! all blocks are erased -/
theorem BI.exr {tv : Nat → Int} {cf : Cf} {σ : St} {o : Int} {lp : Int → Int → Int} {vw : Int → Int} {vp : Int → Int → Int → Int} {Sp : Int → Int → (Int → Int → Int) → Prop} {T : Int} {E E' : Int → Prop} (h : BI tv cf σ o lp vw vp Sp T E) (hE : ∀ b, 0 ≤ b → b < cf.1 → E b → E' b) : BI tv cf σ o lp vw vp Sp T E' := by
  obtain ⟨h1, h2, h3, h4, h5, h6, h7, h8, h9, h10⟩ := h
  exact ⟨h1, fun b a c d => h2 b a c (fun q => d (hE b a c q)), fun b a c d => h3 b a c (fun q => d (hE b a c q)), h4, h5, fun b b' x1 x2 x3 x4 x5 x6 x7 => h6 b b' x1 x2 x3 x4 x5 (fun q => x6 (hE b x1 x2 q)) (fun q => x7 (hE b' x3 x4 q)), fun b a c d => h7 b a c (fun q => d (hE b a c q)), h8, h9, h10⟩
theorem sp_bformat {tv : Nat → Int} {cf : Cf} {σ : St} {o : Int} {Sp : Int → Int → (Int → Int → Int) → Prop} {Q : St → Prop} (hc : CfOK cf) (hrk : RK σ) (hw : ∀ b, 0 ≤ b → b < cf.1 → gA σ 133 0 b = 0) (hbr : ∀ b, 0 ≤ b → b < cf.1 → gA σ 134 0 b = 0) (hfi : gI σ 136 0 < 0)
    (hQ : ∀ τ lp, BI tv cf τ o lp (fun _ => -1) (fun _ _ _ => 0) Sp 64 NoE → Fr (mBl o) σ τ → RK τ → Q τ) : wp_Blocks_format cf tv o Q σ := by
  have hP : 8 ≤ cf.2.1 ∧ cf.2.1 ≤ 32 := hc.2.1
  have hB : 24 ≤ cf.1 ∧ cf.1 ≤ 64 := hc.1
  unfold wp_Blocks_format
  intro σ1 e1 σ2 e2
  have haln : aln cf 258 o = cf.1 - 6 := rfl
  rw [fill2_1]
  refine sp_fill1 (by rw [haln]; omega) (by rw [haln]; omega) (fun k0 => ?_)
  generalize e3 : sAr σ2 258 o (fun i => if 0 ≤ i ∧ i < aln cf 258 o then -1 else gA σ2 258 o i) = σ3 at k0 ⊢
  have f3 : Fr (fun f o' => (f = 261 ∨ f = 265 ∨ f = 258) ∧ o' = o) σ σ3 := by
    rw [← e3, e2, e1]
    exact (((Fr.rf _ _).sI ⟨by omega, rfl⟩).sI ⟨by omega, rfl⟩).sAr ⟨by omega, rfl⟩
  have m3 : gI σ3 265 o = -1 := by rw [← e3, gI_sAr, e2, gI_sI, if_pos ⟨rfl, rfl⟩]
  have s3 : gI σ3 261 o = 0 := by rw [← e3, gI_sAr, e2, gI_sI, if_neg (fun q => absurd q.1 (by decide)), e1, gI_sI, if_pos ⟨rfl, rfl⟩]
  have b3 : ∀ n, 0 ≤ n → n < cf.1 - 6 → gA σ3 258 o n = -1 := by
    intro n n0 n1
    rw [← e3, gA_sAr, if_pos ⟨rfl, rfl⟩, if_pos ⟨n0, by rw [haln]; exact n1⟩]
  clear e1 e2 e3
  have n3 : ∀ f o', f < 258 → ¬ ((f = 261 ∨ f = 265 ∨ f = 258) ∧ o' = o) := fun f o' a q => by omega
  refine lQ1_rule (fun y τ => (0 ≤ y ∧ y ≤ cf.1) ∧ Fr (fun f o' => (f = 260 ∨ f = 259) ∧ o' = o) σ3 τ ∧ RK τ ∧ ∀ b, 0 ≤ b → b < y → gA τ 260 o b = 0) (fun y _ => (cf.1 - y).toNat) ?_ 0 σ3 ⟨by omega, Fr.rf _ _, k0, fun b b0 b1 => by omega⟩
  intro K y τ hI hK
  obtain ⟨hy, fr, rk, ee⟩ := hI
  unfold wp_Blocks_format_L20
  refine ⟨fun q => ?_, fun q => ⟨by omega, fun σ4 e4 => ⟨by omega, fun σ5 e5 y' ey => ?_⟩⟩⟩
  rotate_left
  · rw [w32_id (by unfold rI; omega)] at ey
    rw [ey, e5, e4]
    refine hK _ _ ⟨by omega, (fr.sA ⟨by omega, rfl⟩).sA ⟨by omega, rfl⟩, (rk.sA (by show rI 0; unfold rI; omega)).sA (by show rI (-2); unfold rI; omega), fun b b0 b1 => ?_⟩ (by omega)
    rw [sA_of (by decide), sA_if]
    by_cases e : b = y
    · rw [if_pos e]
    · rw [if_neg e]; exact ee b b0 (by omega)
  · have n4 : ∀ f o', (f < 259 ∨ 260 < f) → ¬ ((f = 260 ∨ f = 259) ∧ o' = o) := fun f o' a q => by omega
    have w4 : gA τ 133 0 = gA σ 133 0 := (fr.a _ _ (n4 _ _ (by decide))).trans (f3.a _ _ (n3 _ _ (by decide)))
    have br4 : gA τ 134 0 = gA σ 134 0 := (fr.a _ _ (n4 _ _ (by decide))).trans (f3.a _ _ (n3 _ _ (by decide)))
    have i4 : gI τ 136 0 = gI σ 136 0 := (fr.i _ _ (n4 _ _ (by decide))).trans (f3.i _ _ (n3 _ _ (by decide)))
    have m4 : gI τ 265 o = -1 := (fr.i _ _ (n4 _ _ (by decide))).trans m3
    have s4 : gI τ 261 o = 0 := (fr.i _ _ (n4 _ _ (by decide))).trans s3
    have bo4 : ∀ n, 0 ≤ n → n < cf.1 - 6 → gA τ 258 o n = -1 := fun n n0 n1 => by rw [fr.a _ _ (n4 _ _ (by decide))]; exact b3 n n0 n1
    have fB : Fr (mBl o) σ τ := (f3.mono (fun f o' q => by unfold mBl; omega)).tr (fr.mono (fun f o' q => by unfold mBl; omega))
    have bk : brk τ cf.1.toNat = 0 := by
      have : brk τ cf.1.toNat ≤ cnt (fun _ => False) cf.1.toNat := cnt_le _ (fun i a b z => by rw [br4] at z; exact z (hbr i a (by omega)))
      have h0 : ∀ n, cnt (fun _ => False) n = 0 := by
        intro n
        induction n with
        | zero => rfl
        | succ n ih => show cnt (fun _ => False) n + _ = 0; rw [ih, if_neg (fun q => q)]
      rw [h0] at this
      omega
    have H0 : BI tv cf τ o (fun _ _ => 0) (fun _ => -1) (fun _ _ _ => 0) Sp 0 (fun b => 0 ≤ b) := by
      refine ⟨fun b b0 b1 => ?_, fun b b0 _ z => absurd b0 z, fun b b0 _ z => absurd b0 z, fun n n0 n1 => Or.inl (bo4 n n0 n1), Or.inl m4, fun b _ b0 _ _ _ _ z => absurd b0 z, fun b b0 _ z => absurd b0 z, fun n n0 n1 => ⟨fun _ => rfl, fun z => absurd (bo4 n n0 n1) z⟩, ?_, ?_⟩
      · rw [w4, hw b b0 b1]
        exact ⟨by omega, fun p p0 p1 => by omega⟩
      · unfold BF; rw [bk, i4, if_neg (by omega)]; omega
      · unfold BT; rw [s4]; omega
    have e4 : ∀ b, 0 ≤ b → b < cf.1 → gA τ 260 o b = 0 := fun b b0 b1 => ee b b0 (by omega)
    have br5 : ∀ b, 0 ≤ b → b < cf.1 → gA τ 134 0 b = 0 := fun b b0 b1 => by rw [br4]; exact hbr b b0 b1
    refine lQ1_rule (fun z υ => (0 ≤ z ∧ z ≤ cf.1) ∧ Fr (mSt o) τ υ ∧ RK υ ∧ (∃ lp, BI tv cf υ o lp (fun _ => -1) (fun _ _ _ => 0) Sp z (fun b => z ≤ b)) ∧ ∀ b, z ≤ b → b < cf.1 → gA υ 260 o b = 0 ∧ gA υ 134 0 b = 0) (fun z _ => (cf.1 - z).toNat) ?_ 0 τ ⟨by omega, Fr.rf _ _, rk, ⟨_, H0⟩, fun b b0 b1 => ⟨e4 b b0 b1, br5 b b0 b1⟩⟩
    clear hK ee q hy
    intro K' z υ hI hK
    obtain ⟨hz, fz, kz, ⟨lp, H⟩, ez⟩ := hI
    unfold wp_Blocks_format_L54
    refine ⟨fun q => ?_, fun q => ?_⟩
    · refine hQ υ lp ((H.exr (E' := NoE) (fun b b0 b1 w => by omega)).ex (fun _ w => w) (by omega) (by omega)) (fB.tr (fz.mono (fun f o' q => by unfold mSt at q; unfold mBl; omega))) kz
    · have bo5 : ∀ n, 0 ≤ n → n < cf.1 - 6 → gA υ 258 o n = -1 := fun n n0 n1 => by rw [fz.a _ _ (mSt_no o _ _ (by decide))]; exact bo4 n n0 n1
      have m5 : gI υ 265 o = -1 := by rw [fz.i _ _ (mSt_no o _ _ (by decide))]; exact m4
      refine sp_erase hc kz H (b := z) (E' := fun b => z + 1 ≤ b) (by omega) (Int.le_refl _) (fun b' x y w => x (by show z + 1 ≤ b'; have : z ≤ b' := w; omega)) (fun n n0 n1 => by rw [bo5 n n0 n1]; omega) (Or.inl m5) (by rw [(ez z (Int.le_refl _) (by omega)).1]; omega) (ez z (Int.le_refl _) (by omega)).2 (by omega) (fun υ' lp' H' c1 c2 c3 c4 c5 c6 c7 f' k' y ey => ?_)
      rw [w32_id (by unfold rI; omega)] at ey
      rw [ey]
      refine hK _ _ ⟨by omega, fz.tr f', k', ⟨lp', H'⟩, fun b b0 b1 => ?_⟩ (by omega)
      rw [c3 b (by omega), c2 b (by omega)]
      exact ez b (by omega) b1
