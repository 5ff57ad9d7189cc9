/-! filling, small leaves -/
theorem sp_fill3 {cf : Cf} {tv : Nat → Int} {f : Nat} {o a b v : Int} {Q : St → Prop} {σ : St} (ha : 0 ≤ a) (hab : a ≤ b) (hl : b ≤ aln cf f o) (hb : b < 2147483647) (hRK : RK σ) (hQ : Q (sAr σ f o (fun i => if a ≤ i ∧ i < b then v else gA σ f o i))) : wp_Arrays_fill_3 cf tv f o a b v Q σ := by
  unfold wp_Arrays_fill_3 wp_Arrays_rangeCheck
  refine ⟨fun _ => ⟨fun _ => ⟨fun _ => ?_, fun h => absurd hl h⟩, fun h => absurd ha h⟩, fun h => absurd hab h⟩
  intro _
  refine lQ1_rule (fun y τ => (a ≤ y ∧ y ≤ b) ∧ τ = sAr σ f o (fun i => if a ≤ i ∧ i < y then v else gA σ f o i)) (fun y _ => (b - y).toNat) ?_ a σ ⟨by omega, ?_⟩
  · intro K y τ hI hK
    obtain ⟨hy, rfl⟩ := hI
    unfold wp_Arrays_fill_3_L10
    refine ⟨fun h => ?_, fun h => ?_⟩
    · have : y = b := by omega
      subst this; exact hQ
    · refine ⟨by omega, fun σ1 h1 y1 h2 => ?_⟩
      rw [w32_id (by unfold rI; omega)] at h2
      subst h1; subst h2
      refine hK _ _ ⟨by omega, ?_⟩ (by omega)
      rw [sA_sAr, sAr_sAr, gA_sAr1]
      congr 1
      funext i
      unfold upF
      dsimp only
      by_cases hi : i = y
      · subst hi; rw [if_pos rfl, if_pos (by omega)]
      · rw [if_neg hi]
        by_cases h3 : a ≤ i ∧ i < y
        · rw [if_pos h3, if_pos (by omega)]
        · rw [if_neg h3, if_neg (by omega)]
  · have : (fun i => if a ≤ i ∧ i < a then v else gA σ f o i) = gA σ f o := by
      funext i; rw [if_neg (by omega)]
    rw [this, sAr_self]
theorem fill4_3 : wp_Arrays_fill_4 = wp_Arrays_fill_3 := rfl
theorem fill5_3 : wp_Arrays_fill_5 = wp_Arrays_fill_3 := rfl
theorem sp_fill1 {cf : Cf} {tv : Nat → Int} {f : Nat} {o v : Int} {Q : St → Prop} {σ : St} (h0 : 0 ≤ aln cf f o) (hb : aln cf f o < 2147483647) (hQ : Q (sAr σ f o (fun i => if 0 ≤ i ∧ i < aln cf f o then v else gA σ f o i))) : wp_Arrays_fill cf tv f o v Q σ := by
  unfold wp_Arrays_fill
  intro n hn
  subst hn
  refine lQ2_rule (fun y z τ => (0 ≤ y ∧ y ≤ aln cf f o) ∧ z = aln cf f o ∧ τ = sAr σ f o (fun i => if 0 ≤ i ∧ i < y then v else gA σ f o i)) (fun y _ _ => (aln cf f o - y).toNat) ?_ 0 _ σ ⟨by omega, rfl, ?_⟩
  · intro K y z τ hI hK
    obtain ⟨hy, rfl, rfl⟩ := hI
    unfold wp_Arrays_fill_L5
    refine ⟨fun h => ?_, fun h => ?_⟩
    · have : y = aln cf f o := by omega
      subst this; exact hQ
    · refine ⟨by omega, fun σ1 h1 y1 h2 => ?_⟩
      rw [w32_id (by unfold rI; omega)] at h2
      subst h1; subst h2
      refine hK _ _ _ ⟨by omega, rfl, ?_⟩ (by omega)
      rw [sA_sAr, sAr_sAr, gA_sAr1]
      congr 1
      funext i
      unfold upF
      dsimp only
      by_cases hi : i = y
      · subst hi; rw [if_pos rfl, if_pos (by omega)]
      · rw [if_neg hi]
        by_cases h3 : 0 ≤ i ∧ i < y
        · rw [if_pos h3, if_pos (by omega)]
        · rw [if_neg h3, if_neg (by omega)]
  · have : (fun i => if 0 ≤ i ∧ i < 0 then v else gA σ f o i) = gA σ f o := by
      funext i; rw [if_neg (by omega)]
    rw [this, sAr_self]
theorem fill2_1 : wp_Arrays_fill_2 = wp_Arrays_fill := rfl
theorem fill6_1 : wp_Arrays_fill_6 = wp_Arrays_fill := rfl
/-! division, remainder, masks -/
theorem jdv_nn {x k : Int} (hx : 0 ≤ x) (hk : 0 < k) (hr : x < 2147483648) : jdv x k = x / k := by
  unfold jdv
  rw [Int.tdiv_eq_ediv_of_nonneg hx, w32_id]
  have h1 : 0 ≤ x / k := Int.ediv_nonneg hx (Int.le_of_lt hk)
  have h2 : x / k ≤ x := Int.ediv_le_self _ hx
  unfold rI; omega
theorem jrm_nn {x k : Int} (hx : 0 ≤ x) (hk : 0 < k) (hr : k ≤ 2147483648) : jrm x k = x % k := by
  unfold jrm
  rw [Int.tmod_eq_emod_of_nonneg hx, w32_id]
  have h1 := Int.emod_nonneg x (show k ≠ 0 by omega)
  have h2 := Int.emod_lt_of_pos x hk
  unfold rI; omega
theorem iand_mask (x : Int) (n : Nat) (hn : n ≤ 30) : iand x (2 ^ n - 1) = x % 2 ^ n := by
  have hp : (1 : Int) ≤ 2 ^ n := by exact_mod_cast Nat.one_le_two_pow
  have hle : (2 : Int) ^ n ≤ 2 ^ 30 := by
    have : (2 : Nat) ^ n ≤ 2 ^ 30 := Nat.pow_le_pow_right (by omega) hn
    exact_mod_cast this
  have hpn : ((2 : Int) ^ n) = ((2 ^ n : Nat) : Int) := by norm_cast
  unfold iand
  have h : (oI x &&& oI (2 ^ n - 1)) = oI (x % 2 ^ n) := by
    refine oI_ext ?_
    have e1 : (oI x &&& oI (2 ^ n - 1)).toBitVec = BitVec.ofInt 32 (x % 2 ^ n) := by
      show (BitVec.ofInt 32 x &&& BitVec.ofInt 32 (2 ^ n - 1)) = _
      apply BitVec.eq_of_toNat_eq
      rw [BitVec.toNat_and]
      have e2 : (BitVec.ofInt 32 (2 ^ n - 1)).toNat = 2 ^ n - 1 := by
        rw [BitVec.toNat_ofInt, Int.emod_eq_of_lt (by omega) (by rw [hpn] at hle ⊢; omega)]
        rw [hpn]; omega
      rw [e2, Nat.and_two_pow_sub_one_eq_mod]
      simp only [BitVec.toNat_ofInt]
      have hdvd : ((2 : Int) ^ n) ∣ ((2 ^ 32 : Nat) : Int) := by
        refine ⟨2 ^ (32 - n), ?_⟩
        rw [← Int.pow_add]
        have : n + (32 - n) = 32 := by omega
        rw [this]; rfl
      have a1 : (x % ((2 ^ 32 : Nat) : Int)).toNat % 2 ^ n = ((x % ((2 ^ 32 : Nat) : Int)) % 2 ^ n).toNat := by
        have : 0 ≤ x % ((2 ^ 32 : Nat) : Int) := Int.emod_nonneg _ (by decide)
        obtain ⟨m, hm⟩ := Int.eq_ofNat_of_zero_le this
        rw [hm, hpn]; norm_cast
      rw [a1, Int.emod_emod_of_dvd _ hdvd]
      have b1 := Int.emod_nonneg x (show (2 : Int) ^ n ≠ 0 by omega)
      have b2 := Int.emod_lt_of_pos x (show (0 : Int) < 2 ^ n by omega)
      rw [Int.emod_eq_of_lt (a := x % 2 ^ n) b1 (by rw [hpn] at *; omega)]
    show (oI x &&& oI (2 ^ n - 1)).toBitVec.toInt = (BitVec.ofInt 32 (x % 2 ^ n)).toInt
    rw [e1]
  rw [h, oI_i]
  have b1 := Int.emod_nonneg x (show (2 : Int) ^ n ≠ 0 by omega)
  have b2 := Int.emod_lt_of_pos x (show (0 : Int) < 2 ^ n by omega)
  unfold rI; omega
theorem iand1 (x : Int) : iand x 1 = x % 2 := iand_mask x 1 (by omega)
theorem iand2047 (x : Int) : iand x 2047 = x % 2048 := iand_mask x 11 (by omega)
theorem iand1023 (x : Int) : iand x 1023 = x % 1024 := iand_mask x 10 (by omega)
theorem iand_m8 {x : Int} (h : 0 ≤ x) (h2 : x < 2147483640) : iand (w32 (x + 7)) (-8) = (x + 7) / 8 * 8 := by
  rw [w32_id (by unfold rI; omega)]
  have e : iand (x + 7) (-8) = (x + 7) - iand (x + 7) 7 := by
    have h7 : iand (x + 7) 7 = (x + 7) % 8 := iand_mask _ 3 (by omega)
    rw [h7]
    unfold iand
    have hh : (oI (x + 7) &&& oI (-8)) = oI ((x + 7) / 8 * 8) := by
      refine oI_ext ?_
      have e1 : (oI (x + 7) &&& oI (-8)).toBitVec = BitVec.ofInt 32 ((x + 7) / 8 * 8) := by
        show (BitVec.ofInt 32 (x + 7) &&& BitVec.ofInt 32 (-8)) = _
        have e2 : BitVec.ofInt 32 (-8) = ~~~ (BitVec.ofInt 32 7) := by decide
        rw [e2]
        apply BitVec.eq_of_toNat_eq
        have e3 : (BitVec.ofInt 32 (x + 7) &&& ~~~ (BitVec.ofInt 32 7)) = BitVec.ofInt 32 (x + 7) - (BitVec.ofInt 32 (x + 7) &&& BitVec.ofInt 32 7) := by
          generalize BitVec.ofInt 32 (x + 7) = X
          generalize BitVec.ofInt 32 7 = Y
          have := BitVec.add_eq_or_of_and_eq_zero (X &&& ~~~ Y) (X &&& Y) (by ext i hi; simp; cases X[i] <;> simp)
          have h2 : (X &&& ~~~ Y) ||| (X &&& Y) = X := by ext i hi; simp; cases X[i] <;> simp
          rw [h2] at this
          have h3 := congrArg (fun z => z - (X &&& Y)) this
          rw [BitVec.add_sub_cancel] at h3
          exact h3
        rw [e3]
        have e4 : (BitVec.ofInt 32 (x + 7) &&& BitVec.ofInt 32 7) = BitVec.ofInt 32 ((x + 7) % 8) := by
          apply BitVec.eq_of_toNat_eq
          rw [BitVec.toNat_and]
          have : (BitVec.ofInt 32 7).toNat = 2 ^ 3 - 1 := by decide
          rw [this, Nat.and_two_pow_sub_one_eq_mod]
          simp only [BitVec.toNat_ofInt]
          omega
        rw [e4]
        simp only [BitVec.toNat_sub, BitVec.toNat_ofInt]
        omega
      show (oI (x + 7) &&& oI (-8)).toBitVec.toInt = (BitVec.ofInt 32 ((x + 7) / 8 * 8)).toInt
      rw [e1]
    rw [hh, oI_i (by unfold rI; omega)]
    omega
  rw [e, show (7 : Int) = 2 ^ 3 - 1 by decide, iand_mask _ 3 (by omega)]
  omega
