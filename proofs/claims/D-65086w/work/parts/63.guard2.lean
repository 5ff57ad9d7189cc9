theorem or_shl11 {m p : Nat} (hm : m < 2) (hp : p < 2048) : ior (ishl m 11) p = 2048 * (m : Int) + p := by
  rcases (show m = 0 ∨ m = 1 by omega) with rfl | rfl
  · have : ishl ((0 : Nat) : Int) 11 = 0 := by decide
    rw [this]
    have h : ior 0 p = p := by
      unfold ior
      have : oI 0 ||| oI p = oI p := by
        show (0 : Int32) ||| oI p = oI p
        simp
      rw [this, oI_i (by unfold rI; omega)]
    rw [h]; omega
  · have : ishl ((1 : Nat) : Int) 11 = 2048 := by decide
    rw [this]
    unfold ior
    have h : (oI 2048 ||| oI p) = oI ((2048 + p : Nat) : Int) := by
      refine oI_ext ?_
      have e1 : (oI 2048 ||| oI p).toBitVec = BitVec.ofInt 32 ((2048 + p : Nat) : Int) := by
        show (BitVec.ofInt 32 2048 ||| BitVec.ofInt 32 p) = _
        apply BitVec.eq_of_toNat_eq
        rw [BitVec.toNat_or]
        simp only [BitVec.toNat_ofInt]
        have a1 : ((2048 : Int) % ((2 ^ 32 : Nat) : Int)).toNat = 2 ^ 11 * 1 := by decide
        have a2 : ((p : Int) % ((2 ^ 32 : Nat) : Int)).toNat = p := by omega
        rw [a1, a2, ← Nat.two_pow_add_eq_or_of_lt (by omega)]
        omega
      show (oI 2048 ||| oI p).toBitVec.toInt = (BitVec.ofInt 32 ((2048 + p : Nat) : Int)).toInt
      rw [e1]
    rw [h, oI_i (by unfold rI; omega)]
    omega
theorem sp_guard {cf : Cf} {tv : Nat → Int} {f : Nat} {o a : Int} {Q : Int → St → Prop} {σ : St} (ha : 0 ≤ a) (hl : a + 128 ≤ aln cf f o) (hb : a + 128 < 2147483647) (hQ : Q (gd (fun i => gA σ f o (a + i))) σ) : wp_Flash_guard cf tv f o a Q σ := by
  unfold wp_Flash_guard
  refine lQ3_rule (fun y3 y4 y5 τ => τ = σ ∧ ∃ k : Nat, k ≤ 128 ∧ y5 = k ∧ y3 = ((xs (fun k => xs (bitP k (u8 (gA σ f o (a + k))).toNat) 8) k : Nat) : Int) ∧ y4 = ((xs (fun k => xs (bitM (u8 (gA σ f o (a + k))).toNat) 8) k : Nat) : Int)) (fun _ _ y5 _ => (128 - y5).toNat) ?_ 0 0 0 σ ⟨rfl, 0, by omega, rfl, rfl, rfl⟩
  intro K y3 y4 y5 τ hI hK
  obtain ⟨rfl, k, hk, rfl, rfl, rfl⟩ := hI
  unfold wp_Flash_guard_L8
  have l1 : xs (fun k => xs (bitP k (u8 (gA τ f o (a + k))).toNat) 8) k < 2 ^ 11 := xs_lt (m := 11) k (fun k hk => xs_lt 8 (fun i hi => by unfold bitP; split <;> omega))
  have l2 : xs (fun k => xs (bitM (u8 (gA τ f o (a + k))).toNat) 8) k < 2 ^ 1 := xs_lt (m := 1) k (fun k hk => xs_lt 8 (fun i hi => by unfold bitM; split <;> omega))
  refine ⟨fun h => ?_, fun h => ?_⟩
  · have : k = 128 := by omega
    subst this
    rw [or_shl11 (by omega) (by omega)]
    exact hQ
  · rw [w32_id (by unfold rI; omega)]
    refine ⟨by omega, fun z hz => ?_⟩
    rw [iand255] at hz
    have hu := u8_r (gA τ f o (a + k))
    have hz : z = ((u8 (gA τ f o (a + k))).toNat : Int) := by omega
    subst hz
    refine sp_guard_in k _ (by omega) (by omega) _ _ (by omega) (by omega) ?_
    exact hK _ _ _ _ ⟨rfl, k + 1, by omega, rfl, rfl, rfl⟩ (by omega)
/-- one bit turned -/
def flb (g : Int → Int) (q : Int) : Int → Int := fun i => if i = q / 8 then b8 (ixor (g i) (b8 (ishl 1 (q % 8)))) else g i
theorem u8_flip (x : Int) (i : Nat) (hi : i < 8) (hx : rB x) : (u8 (b8 (ixor x (b8 (ishl 1 i))))).toNat = (u8 x).toNat ^^^ 2 ^ i := by
  have key : ∀ (X : BitVec 32) (i : Nat), i < 8 → ((X ^^^ (BitVec.signExtend 32 (BitVec.ofNat 8 (2 ^ i)))).toNat % 256) = (X.toNat % 256) ^^^ 2 ^ i := by
    intro X i hi
    rw [BitVec.toNat_xor]
    have hm : ∀ a b : Nat, (a ^^^ b) % 256 = (a % 256) ^^^ (b % 256) := fun a b => Nat.xor_mod_two_pow (n := 8)
    rw [hm]
    congr 1
    rcases (show i = 0 ∨ i = 1 ∨ i = 2 ∨ i = 3 ∨ i = 4 ∨ i = 5 ∨ i = 6 ∨ i = 7 by omega) with rfl | rfl | rfl | rfl | rfl | rfl | rfl | rfl <;> decide
  have e1 : u8 (b8 (ixor x (b8 (ishl 1 i)))) = u8 (ixor x (b8 (ishl 1 i))) := by unfold u8 b8; omega
  have e2 : ∀ y : Int, u8 y = (((oI y).toBitVec.toNat % 256 : Nat) : Int) := by
    intro y
    show u8 y = (((BitVec.ofInt 32 y).toNat % 256 : Nat) : Int)
    rw [BitVec.toNat_ofInt]
    unfold u8; omega
  rw [e1, e2, e2 x]
  have e3 : oI (ixor x (b8 (ishl 1 i))) = oI x ^^^ oI (b8 (ishl 1 i)) := by unfold ixor; rw [oI_toI]
  have e4 : (oI (b8 (ishl 1 i))).toBitVec = BitVec.signExtend 32 (BitVec.ofNat 8 (2 ^ i)) := by
    rcases (show i = 0 ∨ i = 1 ∨ i = 2 ∨ i = 3 ∨ i = 4 ∨ i = 5 ∨ i = 6 ∨ i = 7 by omega) with rfl | rfl | rfl | rfl | rfl | rfl | rfl | rfl <;> decide
  rw [e3]
  show (((((oI x).toBitVec ^^^ (oI (b8 (ishl 1 i))).toBitVec).toNat % 256 : Nat) : Int)).toNat = _
  rw [e4, key _ i hi]
  simp only [Int.toNat_natCast]
theorem gd_flip {g : Int → Int} {q : Int} (hq : 0 ≤ q ∧ q < 1024) (hg : ∀ i, 0 ≤ i → i < 128 → rB (g i)) : ixor (gd g) (gd (flb g q)) = 2048 + q + 1 := by
  obtain ⟨Q, rfl⟩ := Int.eq_ofNat_of_zero_le hq.1
  have hk : (Q / 8 : Nat) < 128 := by omega
  have hi : Q % 8 < 8 := by omega
  have hne : ∀ k : Nat, k ≠ Q / 8 → flb g (Q : Int) k = g k := by
    intro k h; unfold flb; rw [if_neg (by omega)]
  have heq : (u8 (flb g (Q : Int) ((Q / 8 : Nat) : Int))).toNat = (u8 (g ((Q / 8 : Nat) : Int))).toNat ^^^ 2 ^ (Q % 8) := by
    unfold flb
    rw [if_pos (by omega), show ((Q : Int) % 8) = ((Q % 8 : Nat) : Int) by omega]
    exact u8_flip _ _ hi (hg _ (by omega) (by omega))
  have tb : ∀ j, ((u8 (g ((Q / 8 : Nat) : Int))).toNat ^^^ 2 ^ (Q % 8)).testBit j = (((u8 (g ((Q / 8 : Nat) : Int))).toNat.testBit j) ^^ decide (Q % 8 = j)) := by
    intro j; rw [Nat.testBit_xor, Nat.testBit_two_pow]
  have hP : gdP (flb g (Q : Int)) = gdP g ^^^ (8 * (Q / 8) + Q % 8 + 1) := by
    unfold gdP
    rw [xs_one (f := fun k => xs (bitP k (u8 (g k)).toNat) 8) (k := Q / 8) 128 hk (fun i _ hn => by rw [hne i hn])]
    congr 1
    rw [heq]
    have hin : xs (bitP (Q / 8) ((u8 (g ((Q / 8 : Nat) : Int))).toNat ^^^ 2 ^ (Q % 8))) 8 = xs (bitP (Q / 8) (u8 (g ((Q / 8 : Nat) : Int))).toNat) 8 ^^^ (bitP (Q / 8) (u8 (g ((Q / 8 : Nat) : Int))).toNat (Q % 8) ^^^ bitP (Q / 8) ((u8 (g ((Q / 8 : Nat) : Int))).toNat ^^^ 2 ^ (Q % 8)) (Q % 8)) := xs_one 8 hi (fun j _ hn => by unfold bitP; rw [tb]; rw [show decide (Q % 8 = j) = false by simpa using Ne.symm hn]; simp)
    rw [hin]
    rw [← Nat.xor_assoc, Nat.xor_self, Nat.zero_xor]
    unfold bitP
    rw [tb]
    rw [show decide (Q % 8 = Q % 8) = true by simp]
    cases (u8 (g ((Q / 8 : Nat) : Int))).toNat.testBit (Q % 8) <;> simp
  have hM : gdM (flb g (Q : Int)) = gdM g ^^^ 1 := by
    unfold gdM
    rw [xs_one (f := fun k => xs (bitM (u8 (g k)).toNat) 8) (k := Q / 8) 128 hk (fun i _ hn => by rw [hne i hn])]
    congr 1
    rw [heq]
    have hin : xs (bitM ((u8 (g ((Q / 8 : Nat) : Int))).toNat ^^^ 2 ^ (Q % 8))) 8 = xs (bitM (u8 (g ((Q / 8 : Nat) : Int))).toNat) 8 ^^^ (bitM (u8 (g ((Q / 8 : Nat) : Int))).toNat (Q % 8) ^^^ bitM ((u8 (g ((Q / 8 : Nat) : Int))).toNat ^^^ 2 ^ (Q % 8)) (Q % 8)) := xs_one 8 hi (fun j _ hn => by unfold bitM; rw [tb]; rw [show decide (Q % 8 = j) = false by simpa using Ne.symm hn]; simp)
    rw [hin]
    rw [← Nat.xor_assoc, Nat.xor_self, Nat.zero_xor]
    unfold bitM
    rw [tb]
    rw [show decide (Q % 8 = Q % 8) = true by simp]
    cases (u8 (g ((Q / 8 : Nat) : Int))).toNat.testBit (Q % 8) <;> simp
  have l1 := gdP_lt g
  have l2 := gdM_lt g
  have l3 : 8 * (Q / 8) + Q % 8 + 1 < 2 ^ 11 := by omega
  unfold gd
  rw [hP, hM]
  have a1 : 2048 * (gdM g : Int) + gdP g = ((2 ^ 11 * gdM g + gdP g : Nat) : Int) := by omega
  have a2 : 2048 * ((gdM g ^^^ 1 : Nat) : Int) + ((gdP g ^^^ (8 * (Q / 8) + Q % 8 + 1) : Nat) : Int) = ((2 ^ 11 * (gdM g ^^^ 1) + (gdP g ^^^ (8 * (Q / 8) + Q % 8 + 1)) : Nat) : Int) := by omega
  have x1 : gdP g ^^^ (8 * (Q / 8) + Q % 8 + 1) < 2 ^ 11 := Nat.xor_lt_two_pow (by omega) l3
  have x2 : gdM g ^^^ 1 < 2 ^ 1 := Nat.xor_lt_two_pow (by omega) (by omega)
  rw [a1, a2, ixorN (by omega) (by omega)]
  rw [Nat.two_pow_add_eq_or_of_lt (by omega), Nat.two_pow_add_eq_or_of_lt x1]
  have e : (2 ^ 11 * gdM g ||| gdP g) ^^^ (2 ^ 11 * (gdM g ^^^ 1) ||| (gdP g ^^^ (8 * (Q / 8) + Q % 8 + 1))) = 2 ^ 11 * 1 ||| (8 * (Q / 8) + Q % 8 + 1) := by
    apply Nat.eq_of_testBit_eq
    intro j
    simp only [Nat.testBit_xor, Nat.testBit_or, Nat.testBit_two_pow_mul]
    by_cases hj : 11 ≤ j
    · have z1 : (gdP g).testBit j = false := Nat.testBit_lt_two_pow (Nat.lt_of_lt_of_le (by omega : gdP g < 2 ^ 11) (Nat.pow_le_pow_right (by omega) hj))
      have z2 : (8 * (Q / 8) + Q % 8 + 1).testBit j = false := Nat.testBit_lt_two_pow (Nat.lt_of_lt_of_le l3 (Nat.pow_le_pow_right (by omega) hj))
      rw [z1, z2]
      simp [hj]
    · simp [hj]
  rw [e, ← Nat.two_pow_add_eq_or_of_lt l3]
  omega
theorem gd_ext {g h : Int → Int} (e : ∀ i, 0 ≤ i → i < 128 → g i = h i) : gd g = gd h := by
  have h1 : gdM g = gdM h := xs_congr 128 (fun k hk => by show xs (bitM (u8 (g k)).toNat) 8 = xs (bitM (u8 (h k)).toNat) 8; rw [e k (by omega) (by omega)])
  have h2 : gdP g = gdP h := xs_congr 128 (fun k hk => by show xs (bitP k (u8 (g k)).toNat) 8 = xs (bitP k (u8 (h k)).toNat) 8; rw [e k (by omega) (by omega)])
  unfold gd; rw [h1, h2]
theorem ixor_self (x : Int) : ixor x x = 0 := by
  unfold ixor; rw [Int32.xor_self]; rfl
theorem flb_flb {g : Int → Int} {q i : Int} (hq : 0 ≤ q) (hi : rB (g i)) : flb (flb g q) q i = g i := by
  unfold flb
  by_cases h : i = q / 8
  · rw [if_pos h, if_pos h]
    generalize b8 (ishl 1 (q % 8)) = m
    have hm : b8 (ixor (b8 (ixor (g i) m)) m) = b8 (ixor (ixor (g i) m) m) := by
      have e2 : ∀ y : Int, b8 y = b8 (((oI y).toBitVec.toNat : Nat) : Int) := by
        intro y
        show b8 y = b8 ((((BitVec.ofInt 32 y).toNat : Nat)) : Int)
        rw [BitVec.toNat_ofInt]
        unfold b8; omega
      have e3 : ∀ a b : Int, b8 a = b8 b → b8 (ixor a m) = b8 (ixor b m) := by
        intro a b hab
        rw [e2 (ixor a m), e2 (ixor b m)]
        unfold ixor
        rw [oI_toI, oI_toI]
        show b8 ((((oI a).toBitVec ^^^ (oI m).toBitVec).toNat : Nat) : Int) = b8 ((((oI b).toBitVec ^^^ (oI m).toBitVec).toNat : Nat) : Int)
        rw [BitVec.toNat_xor, BitVec.toNat_xor]
        have hmod : ∀ x y : Nat, (x ^^^ y) % 256 = (x % 256) ^^^ (y % 256) := fun x y => Nat.xor_mod_two_pow (n := 8)
        have hh : (oI a).toBitVec.toNat % 256 = (oI b).toBitVec.toNat % 256 := by
          have h1 := e2 a; have h2 := e2 b
          rw [h1, h2] at hab
          unfold b8 at hab
          omega
        have h3 := hmod (oI a).toBitVec.toNat (oI m).toBitVec.toNat
        have h4 := hmod (oI b).toBitVec.toNat (oI m).toBitVec.toNat
        rw [hh] at h3
        unfold b8
        omega
      exact e3 _ _ (b8_id (b8_r _))
    rw [hm]
    have : ixor (ixor (g i) m) m = g i := by
      unfold ixor
      rw [oI_toI, Int32.xor_assoc, Int32.xor_self, Int32.xor_zero, oI_i hi.i]
    rw [this, b8_id hi]
  · rw [if_neg h, if_neg h]
