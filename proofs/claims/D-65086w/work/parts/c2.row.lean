/-! rows of bytes in which nodes are made and looked at -/
def mRb (r : Int) (f : Nat) (o' : Int) : Prop := f = 512 ∧ o' = r
def mRow (r : Int) (f : Nat) (o' : Int) : Prop := (f = 512 ∨ f = 513 ∨ f = 514) ∧ o' = r
theorem rowL_r (r : Int) : 128 ≤ rowL r ∧ rowL r ≤ 512 := by unfold rowL; split <;> first | omega | (split <;> first | omega | (split <;> omega))
theorem aln_row (cf : Cf) (r : Int) : aln cf 512 r = rowL r := rfl
theorem fr_rb {σ : St} {r : Int} {g : Int → Int} : Fr (mRb r) σ (sAr σ 512 r g) := (Fr.rf _ _).sAr ⟨rfl, rfl⟩
theorem sp_rclear {cf : Cf} {tv : Nat → Int} {σ : St} {r : Int} {Q : St → Prop} (hQ : ∀ τ, gI τ 513 r = 0 → gI τ 514 r = 0 → gA τ 512 r = gA σ 512 r → Fr (fun f o' => (f = 513 ∨ f = 514) ∧ o' = r) σ τ → Q τ) : wp_Row_clear cf tv r Q σ := by
  unfold wp_Row_clear
  intro σ3 e3 σ4 e4
  refine hQ σ4 ?_ ?_ ?_ ?_
  · rw [e4, gI_sI, if_neg (fun q => absurd q.1 (by decide)), e3, gI_sI1]
  · rw [e4, gI_sI1]
  · rw [e4, e3]; rfl
  · rw [e4, e3]; exact ((Fr.rf _ _).sI ⟨Or.inl rfl, rfl⟩).sI ⟨Or.inr rfl, rfl⟩
/-- the bytes of a node that is begun -/
def nBeg (g : Int → Int) (a ty n : Int) : Int → Int := pI4 (upF (pI4 (fun i => if a ≤ i ∧ i < a + n then 0 else g i) (a + 4) n) (a + 16) (b8 ty)) (a + 20) 1414677829
theorem sp_rbegin {cf : Cf} {tv : Nat → Int} {σ : St} {r a ty n : Int} {Q : St → Prop} (hrk : RK σ) (he : gI σ 514 r = a) (ha : 0 ≤ a) (hn : 24 ≤ n) (hl : a + n ≤ rowL r)
    (hQ : ∀ τ, gI τ 513 r = a → gI τ 514 r = a + n → gA τ 512 r = nBeg (gA σ 512 r) a ty n → Fr (mRow r) σ τ → Q τ) : wp_Row_begin cf tv r ty n Q σ := by
  have hr := rowL_r r
  unfold wp_Row_begin
  intro σ10 e10 σ11 e11
  rw [he] at e10
  have a10 : gI σ10 513 r = a := by rw [e10, gI_sI1]
  rw [a10, w32_id (by unfold rI; omega)] at e11
  have a11 : gI σ11 513 r = a := by rw [e11, gI_sI, if_neg (fun q => absurd q.1 (by decide))]; exact a10
  have b11 : gI σ11 514 r = a + n := by rw [e11, gI_sI1]
  have g11 : gA σ11 512 r = gA σ 512 r := by rw [e11, e10]; rfl
  have f11 : Fr (mRow r) σ σ11 := by rw [e11, e10]; exact ((Fr.rf _ _).sI ⟨by omega, rfl⟩).sI ⟨by omega, rfl⟩
  have k11 : RK σ11 := by rw [e11, e10]; exact (hrk.sI (by show rI a; unfold rI; omega)).sI (by show rI _; unfold rI; omega)
  clear e10 e11
  rw [a11, b11]
  refine sp_fill3 ha (by omega) (by rw [aln_row]; omega) (by omega) k11 (fun k12 => ?_)
  have a12 : gI (sAr σ11 512 r (fun i => if a ≤ i ∧ i < a + n then 0 else gA σ11 512 r i)) 513 r = a := a11
  rw [a12, w32_id (by unfold rI; omega)]
  refine sp_putInt (by omega) (by rw [aln_row]; omega) (by omega) (fun k15 => ?_)
  rw [gA_sAr1, sAr_sAr, g11]
  have a15 : gI (sAr σ11 512 r (pI4 (fun i => if a ≤ i ∧ i < a + n then 0 else gA σ 512 r i) (a + 4) n)) 513 r = a := a11
  rw [a15, w32_id (by unfold rI; omega)]
  refine ⟨by omega, fun σ16 e16 => ?_⟩
  rw [sA_sAr, sAr_sAr, gA_sAr1] at e16
  have a16 : gI σ16 513 r = a := by rw [e16]; exact a11
  rw [a16, w32_id (by unfold rI; omega)]
  refine sp_putInt (by omega) (by rw [aln_row]; omega) (by omega) (fun k18 => ?_)
  rw [e16, gA_sAr1, sAr_sAr]
  exact hQ _ a11 b11 (gA_sAr1 _ _ _ _) (f11.sAr ⟨Or.inl rfl, rfl⟩)
theorem sp_rput {cf : Cf} {tv : Nat → Int} {σ : St} {r a k v : Int} {Q : St → Prop} (he : gI σ 513 r = a) (ha : 0 ≤ a) (hk : 0 ≤ k) (hl : a + 24 + k + 4 ≤ rowL r)
    (hQ : ∀ τ, gA τ 512 r = pI4 (gA σ 512 r) (a + 24 + k) v → Fr (mRb r) σ τ → RK τ → Q τ) : wp_Row_put cf tv r k v Q σ := by
  have hr := rowL_r r
  unfold wp_Row_put
  rw [he, w32_id (x := a + 24) (by unfold rI; omega), w32_id (by unfold rI; omega)]
  exact sp_putInt (by omega) (by rw [aln_row]; omega) (by omega) (fun k => hQ _ (gA_sAr1 _ _ _ _) fr_rb k)
theorem sp_rputL {cf : Cf} {tv : Nat → Int} {σ : St} {r a k v : Int} {Q : St → Prop} (he : gI σ 513 r = a) (ha : 0 ≤ a) (hk : 0 ≤ k) (hl : a + 24 + k + 8 ≤ rowL r)
    (hQ : ∀ τ, gA τ 512 r = pL8 (gA σ 512 r) (a + 24 + k) v → Fr (mRb r) σ τ → RK τ → Q τ) : wp_Row_putLongAt cf tv r k v Q σ := by
  have hr := rowL_r r
  unfold wp_Row_putLongAt
  rw [he, w32_id (x := a + 24) (by unfold rI; omega), w32_id (by unfold rI; omega)]
  exact sp_putLong (by omega) (by rw [aln_row]; omega) (by omega) (fun k => hQ _ (gA_sAr1 _ _ _ _) fr_rb k)
theorem sp_rget {cf : Cf} {tv : Nat → Int} {σ : St} {r a k : Int} {Q : Int → St → Prop} (he : gI σ 513 r = a) (ha : 0 ≤ a) (hk : 0 ≤ k) (hl : a + 24 + k + 4 ≤ rowL r)
    (hQ : RK σ → Q (rI4 (gA σ 512 r) (a + 24 + k)) σ) : wp_Row_get cf tv r k Q σ := by
  have hr := rowL_r r
  unfold wp_Row_get
  rw [he, w32_id (x := a + 24) (by unfold rI; omega), w32_id (by unfold rI; omega)]
  exact sp_getInt (by omega) (by rw [aln_row]; omega) (by omega) (fun _ k => hQ k)
theorem sp_rgetL {cf : Cf} {tv : Nat → Int} {σ : St} {r a k : Int} {Q : Int → St → Prop} (he : gI σ 513 r = a) (ha : 0 ≤ a) (hk : 0 ≤ k) (hl : a + 24 + k + 8 ≤ rowL r)
    (hQ : RK σ → Q (rL8 (gA σ 512 r) (a + 24 + k)) σ) : wp_Row_getLongAt cf tv r k Q σ := by
  have hr := rowL_r r
  unfold wp_Row_getLongAt
  rw [he, w32_id (x := a + 24) (by unfold rI; omega), w32_id (by unfold rI; omega)]
  exact sp_getLong (by omega) (by rw [aln_row]; omega) (by omega) (fun _ k => hQ k)
theorem sp_rlen {cf : Cf} {tv : Nat → Int} {σ : St} {r a : Int} {Q : Int → St → Prop} (he : gI σ 513 r = a) (ha : 0 ≤ a) (hl : a + 8 ≤ rowL r)
    (hQ : RK σ → Q (rI4 (gA σ 512 r) (a + 4)) σ) : wp_Row_length cf tv r Q σ := by
  have hr := rowL_r r
  unfold wp_Row_length
  rw [he, w32_id (by unfold rI; omega)]
  exact sp_getInt (by omega) (by rw [aln_row]; omega) (by omega) (fun _ k => hQ k)
theorem sp_rser {cf : Cf} {tv : Nat → Int} {σ : St} {r a : Int} {Q : Int → St → Prop} (he : gI σ 513 r = a) (ha : 0 ≤ a) (hl : a + 16 ≤ rowL r)
    (hQ : RK σ → Q (rL8 (gA σ 512 r) (a + 8)) σ) : wp_Row_serial cf tv r Q σ := by
  have hr := rowL_r r
  unfold wp_Row_serial
  rw [he, w32_id (by unfold rI; omega)]
  exact sp_getLong (by omega) (by rw [aln_row]; omega) (by omega) (fun _ k => hQ k)
theorem sp_rtype {cf : Cf} {tv : Nat → Int} {σ : St} {r a : Int} {Q : Int → St → Prop} (he : gI σ 513 r = a) (ha : 0 ≤ a) (hl : a + 17 ≤ rowL r)
    (hQ : Q (gA σ 512 r (a + 16)) σ) : wp_Row_type cf tv r Q σ := by
  have hr := rowL_r r
  unfold wp_Row_type
  rw [he, w32_id (by unfold rI; omega)]
  exact ⟨by omega, hQ⟩
theorem sp_rlast {cf : Cf} {tv : Nat → Int} {σ : St} {r a : Int} {Q : Int → St → Prop} (he : gI σ 513 r = a) (ha : 0 ≤ a) (hl : a + 18 ≤ rowL r)
    (hQ : Q (if gA σ 512 r (a + 17) = 1 then 1 else 0) σ) : wp_Row_isLast cf tv r Q σ := by
  have hr := rowL_r r
  unfold wp_Row_isLast
  rw [he, w32_id (by unfold rI; omega)]
  exact ⟨by omega, hQ⟩
/-- the bytes of a node that is closed -/
def nSer (g : Int → Int) (a s l : Int) : Int → Int := upF (pL8 g (a + 8) s) (a + 17) (b8 (if l = 0 then (0 : Int) else (1 : Int)))
def nCls (tv : Nat → Int) (g : Int → Int) (a s l n : Int) : Int → Int := pI4 (nSer g a s l) a (ckf tv (nSer g a s l) (n - 4).toNat (a + 4) (-1))
theorem nSer_out {g : Int → Int} {a s l i : Int} (h : i < a + 8 ∨ a + 18 ≤ i ∨ i = a + 16) : nSer g a s l i = g i := by
  unfold nSer upF
  rw [if_neg (by omega), pL8_out (by omega)]
theorem nCls_out {tv : Nat → Int} {g : Int → Int} {a s l n i : Int} (h : i < a ∨ (a + 4 ≤ i ∧ i < a + 8) ∨ a + 18 ≤ i ∨ i = a + 16) : nCls tv g a s l n i = g i := by
  unfold nCls
  rw [pI4_out (by omega), nSer_out (by omega)]
theorem sp_rclose {cf : Cf} {tv : Nat → Int} {σ : St} {r a s l n : Int} {Q : St → Prop} (he : gI σ 513 r = a) (ha : 0 ≤ a) (hn : rI4 (gA σ 512 r) (a + 4) = n) (hn24 : 24 ≤ n) (hl : a + n ≤ rowL r)
    (hQ : ∀ τ, gA τ 512 r = nCls tv (gA σ 512 r) a s l n → Fr (mRb r) σ τ → RK τ → Q τ) : wp_Row_close cf tv r s l Q σ := by
  have hr := rowL_r r
  unfold wp_Row_close
  rw [he, w32_id (by unfold rI; omega)]
  refine sp_putLong (by omega) (by rw [aln_row]; omega) (by omega) (fun k11 => ?_)
  have a11 : gI (sAr σ 512 r (pL8 (gA σ 512 r) (a + 8) s)) 513 r = a := he
  rw [a11, w32_id (x := a + 17) (by unfold rI; omega)]
  refine ⟨by omega, fun σ12 e12 => ?_⟩
  rw [sA_sAr, sAr_sAr, gA_sAr1] at e12
  have a12 : gI σ12 513 r = a := by rw [e12]; exact he
  have g12 : gA σ12 512 r = nSer (gA σ 512 r) a s l := by rw [e12, gA_sAr1]; rfl
  have n12 : rI4 (nSer (gA σ 512 r) a s l) (a + 4) = n := by rw [← hn]; exact rI4_ext (fun i h1 h2 => nSer_out (by omega))
  refine sp_rlen a12 ha (by omega) (fun k12 _ _ => ?_)
  rw [g12, n12, a12, w32_id (x := a + 4) (by unfold rI; omega), w32_id (x := n - 4) (by unfold rI; omega)]
  refine sp_check (by omega) (by omega) (by rw [aln_row]; omega) (by omega) (fun _ _ => ?_)
  refine sp_putInt (by omega) (by rw [aln_row]; omega) (by omega) (fun k18 => ?_)
  refine hQ _ ?_ ?_ k18
  · rw [gA_sAr1, g12]; rfl
  · rw [e12, sAr_sAr]; exact fr_rb
/-- a whole node of n bytes begins at a -/
def whN (tv : Nat → Int) (g : Int → Int) (a n : Int) : Prop := (24 ≤ n ∧ n % 8 = 0) ∧ rI4 g (a + 4) = n ∧ rI4 g (a + 20) = 1414677829 ∧ rI4 g a = ckf tv g (n - 4).toNat (a + 4) (-1)
theorem whN.ext {tv : Nat → Int} {g h : Int → Int} {a b n : Int} (w : whN tv g a n) (e : ∀ i, 0 ≤ i → i < n → g (a + i) = h (b + i)) : whN tv h b n := by
  obtain ⟨w1, w2, w3, w4⟩ := w
  have r4 : ∀ k, 0 ≤ k → k + 4 ≤ n → rI4 g (a + k) = rI4 h (b + k) := by
    intro k k0 k1
    unfold rI4
    have e0 := e k k0 (by omega)
    have e1 := e (k + 1) (by omega) (by omega)
    have e2 := e (k + 2) (by omega) (by omega)
    have e3 := e (k + 3) (by omega) (by omega)
    rw [← Int.add_assoc, ← Int.add_assoc] at e1 e2 e3
    rw [e0, e1, e2, e3]
  refine ⟨w1, by rw [← r4 4 (by omega) (by omega)]; exact w2, by rw [← r4 20 (by omega) (by omega)]; exact w3, ?_⟩
  have z := r4 0 (by omega) (by omega)
  rw [Int.add_zero, Int.add_zero] at z
  rw [← z, w4]
  refine ckf_ext _ _ _ _ (fun i i0 i1 => ?_)
  rw [show a + 4 + i = a + (4 + i) by omega, show b + 4 + i = b + (4 + i) by omega]
  exact e _ (by omega) (by omega)
theorem ckf_r {tv : Nat → Int} {g : Int → Int} : ∀ (n : Nat) (a x : Int), rI x → rI (ckf tv g n a x)
  | 0, _, _, h => h
  | n + 1, a, x, _ => ckf_r n (a + 1) _ (ixor_r _ _)
theorem whN_cls {tv : Nat → Int} {g : Int → Int} {a s l n : Int} (hn : 24 ≤ n ∧ n % 8 = 0) (h1 : rI4 g (a + 4) = n) (h2 : rI4 g (a + 20) = 1414677829) : whN tv (nCls tv g a s l n) a n := by
  refine ⟨hn, ?_, ?_, ?_⟩
  · rw [← h1]; exact rI4_ext (fun i x y => nCls_out (by omega))
  · rw [← h2]; exact rI4_ext (fun i x y => nCls_out (by omega))
  · show rI4 (pI4 _ _ _) a = _
    rw [rI4_p (ckf_r _ _ _ (by unfold rI; omega))]
    exact ckf_ext _ _ _ _ (fun i i0 i1 => by unfold nCls; rw [pI4_out (by omega)])
theorem sp_rwhole {cf : Cf} {tv : Nat → Int} {σ : St} {r a m : Int} {Q : Int → St → Prop} (he : gI σ 513 r = a) (ha : 0 ≤ a) (hm : 0 ≤ m) (hl : a + m ≤ rowL r) (hl2 : a + 24 ≤ rowL r)
    (h0 : RK σ → ¬ (whN tv (gA σ 512 r) a (rI4 (gA σ 512 r) (a + 4)) ∧ rI4 (gA σ 512 r) (a + 4) ≤ m) → Q 0 σ)
    (h1 : RK σ → whN tv (gA σ 512 r) a (rI4 (gA σ 512 r) (a + 4)) → rI4 (gA σ 512 r) (a + 4) ≤ m → Q 1 σ) : wp_Row_isWhole cf tv r m Q σ := by
  have hr := rowL_r r
  unfold wp_Row_isWhole
  refine sp_rlen he ha (by omega) (fun rk _ _ => ?_)
  generalize hn : rI4 (gA σ 512 r) (a + 4) = n at h0 h1 ⊢
  refine ⟨fun q => h0 rk (fun z => by have := z.1.1; omega), fun q => ?_⟩
  rw [jrm_nn (by omega) (by omega) (by omega)]
  refine ⟨fun q2 => h0 rk (fun z => by have := z.1.1; omega), fun q2 => ⟨fun q3 => h0 rk (fun z => by have := z.2; omega), fun q3 => ?_⟩⟩
  rw [he, w32_id (x := a + 20) (by unfold rI; omega)]
  refine sp_getInt (by omega) (by rw [aln_row]; omega) (by omega) (fun _ _ => ⟨fun q4 => h0 rk (fun z => q4 z.1.2.2.1), fun q4 => ?_⟩)
  rw [he]
  refine sp_getInt (by omega) (by rw [aln_row]; omega) (by omega) (fun _ _ => ?_)
  rw [he, w32_id (x := a + 4) (by unfold rI; omega), w32_id (x := n - 4) (by unfold rI; omega)]
  refine sp_check (by omega) (by omega) (by rw [aln_row]; omega) (by omega) (fun _ _ => ⟨fun q5 => h0 rk (fun z => q5 z.1.2.2.2), fun q5 => h1 rk ⟨⟨by omega, q2⟩, hn, q4, q5⟩ (by omega)⟩)
