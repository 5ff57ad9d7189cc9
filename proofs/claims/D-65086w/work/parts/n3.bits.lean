/-! bytes of longs -/
theorem pw8 {k : Int} (h : 0 ≤ k ∧ k < 8) : k = 0 ∨ k = 1 ∨ k = 2 ∨ k = 3 ∨ k = 4 ∨ k = 5 ∨ k = 6 ∨ k = 7 := by omega
theorem lushr8 (v : Int) {k : Int} (hk : 0 ≤ k ∧ k < 8) : lushr v (8 * k) = w64 (v % 18446744073709551616 / 256 ^ k.toNat) := by
  unfold lushr
  have e1 : ((oL v).toUInt64 >>> ((oI (8 * k)).toInt64.toUInt64 &&& Int64.toUInt64 63)).toInt64 = oL (v % 18446744073709551616 / 256 ^ k.toNat) := by
    have : ((oL v).toUInt64 >>> ((oI (8 * k)).toInt64.toUInt64 &&& Int64.toUInt64 63)).toInt64.toBitVec = (oL (v % 18446744073709551616 / 256 ^ k.toNat)).toBitVec := by
      show (BitVec.ofInt 64 v) >>> (((oI (8 * k)).toInt64.toUInt64 &&& Int64.toUInt64 63).toBitVec % 64) = BitVec.ofInt 64 _
      have hs : ((oI (8 * k)).toInt64.toUInt64 &&& Int64.toUInt64 63).toBitVec % 64 = BitVec.ofInt 64 (8 * k) := by
        rcases pw8 hk with rfl | rfl | rfl | rfl | rfl | rfl | rfl | rfl <;> decide
      rw [hs]
      apply BitVec.eq_of_toNat_eq
      rw [BitVec.ushiftRight_eq', BitVec.toNat_ushiftRight, Nat.shiftRight_eq_div_pow]
      simp only [BitVec.toNat_ofInt]
      rcases pw8 hk with rfl | rfl | rfl | rfl | rfl | rfl | rfl | rfl
      · show _ / 2 ^ 0 = (v % 18446744073709551616 / 1 % _).toNat; omega
      · show _ / 2 ^ 8 = (v % 18446744073709551616 / 256 % _).toNat; omega
      · show _ / 2 ^ 16 = (v % 18446744073709551616 / 65536 % _).toNat; omega
      · show _ / 2 ^ 24 = (v % 18446744073709551616 / 16777216 % _).toNat; omega
      · show _ / 2 ^ 32 = (v % 18446744073709551616 / 4294967296 % _).toNat; omega
      · show _ / 2 ^ 40 = (v % 18446744073709551616 / 1099511627776 % _).toNat; omega
      · show _ / 2 ^ 48 = (v % 18446744073709551616 / 281474976710656 % _).toNat; omega
      · show _ / 2 ^ 56 = (v % 18446744073709551616 / 72057594037927936 % _).toNat; omega
    exact Int64.toBitVec_inj.mp this
  rw [e1, oL_t]
theorem lshr8 {v : Int} (hv : rJ v) {k : Int} (hk : 0 ≤ k ∧ k < 8) : lshr v (8 * k) = v / 256 ^ k.toNat := by
  unfold lshr
  have e1 : (oL v >>> ((oI (8 * k)).toInt64 &&& 63)).toBitVec = (oL v).toBitVec.sshiftRight (8 * k).toNat := by
    show BitVec.sshiftRight' (BitVec.ofInt 64 v) (((oI (8 * k)).toInt64 &&& 63).toBitVec.smod 64) = _
    have hs : ((oI (8 * k)).toInt64 &&& 63).toBitVec.smod 64 = BitVec.ofInt 64 (8 * k) := by
      rcases pw8 hk with rfl | rfl | rfl | rfl | rfl | rfl | rfl | rfl <;> decide
    rw [hs]
    rcases pw8 hk with rfl | rfl | rfl | rfl | rfl | rfl | rfl | rfl <;> rfl
  show (oL v >>> ((oI (8 * k)).toInt64 &&& 63)).toBitVec.toInt = _
  rw [e1, BitVec.toInt_sshiftRight]
  have e2 : (oL v).toBitVec.toInt = v := oL_i hv
  rw [e2, Int.shiftRight_eq_div_pow]
  rcases pw8 hk with rfl | rfl | rfl | rfl | rfl | rfl | rfl | rfl <;> rfl
theorem land255 (x : Int) : land x 255 = x % 256 := by
  unfold land
  have h : (oL x &&& oL 255) = oL (x % 256) := by
    refine oL_ext ?_
    have e1 : (oL x &&& oL 255).toBitVec = BitVec.ofInt 64 (x % 256) := by
      show (BitVec.ofInt 64 x &&& BitVec.ofInt 64 255) = _
      apply BitVec.eq_of_toNat_eq
      rw [BitVec.toNat_and]
      have : (BitVec.ofInt 64 255).toNat = 2 ^ 8 - 1 := by decide
      rw [this, Nat.and_two_pow_sub_one_eq_mod]
      simp only [BitVec.toNat_ofInt]
      omega
    show (oL x &&& oL 255).toBitVec.toInt = (BitVec.ofInt 64 (x % 256)).toInt
    rw [e1]
  rw [h, oL_i]
  unfold rJ; omega
/-- byte k of a name, as both sides read it -/
theorem bt_r (x k : Int) : 0 ≤ bt x k ∧ bt x k < 256 := by unfold bt; omega
theorem bt_h {x k : Int} (hk : 0 ≤ k ∧ k < 8) : iand (w32 (lushr x (w32 (8 * k)))) 255 = bt x k := by
  rw [w32_id (x := 8 * k) (by unfold rI; omega), lushr8 x hk, iand255]
  unfold u8 bt w32 w64
  rcases pw8 hk with rfl | rfl | rfl | rfl | rfl | rfl | rfl | rfl
  · show (((x % 18446744073709551616 / 1 + 9223372036854775808) % 18446744073709551616 - 9223372036854775808 + 2147483648) % 4294967296 - 2147483648) % 256 = x / 1 % 256; omega
  · show (((x % 18446744073709551616 / 256 + 9223372036854775808) % 18446744073709551616 - 9223372036854775808 + 2147483648) % 4294967296 - 2147483648) % 256 = x / 256 % 256; omega
  · show (((x % 18446744073709551616 / 65536 + 9223372036854775808) % 18446744073709551616 - 9223372036854775808 + 2147483648) % 4294967296 - 2147483648) % 256 = x / 65536 % 256; omega
  · show (((x % 18446744073709551616 / 16777216 + 9223372036854775808) % 18446744073709551616 - 9223372036854775808 + 2147483648) % 4294967296 - 2147483648) % 256 = x / 16777216 % 256; omega
  · show (((x % 18446744073709551616 / 4294967296 + 9223372036854775808) % 18446744073709551616 - 9223372036854775808 + 2147483648) % 4294967296 - 2147483648) % 256 = x / 4294967296 % 256; omega
  · show (((x % 18446744073709551616 / 1099511627776 + 9223372036854775808) % 18446744073709551616 - 9223372036854775808 + 2147483648) % 4294967296 - 2147483648) % 256 = x / 1099511627776 % 256; omega
  · show (((x % 18446744073709551616 / 281474976710656 + 9223372036854775808) % 18446744073709551616 - 9223372036854775808 + 2147483648) % 4294967296 - 2147483648) % 256 = x / 281474976710656 % 256; omega
  · show (((x % 18446744073709551616 / 72057594037927936 + 9223372036854775808) % 18446744073709551616 - 9223372036854775808 + 2147483648) % 4294967296 - 2147483648) % 256 = x / 72057594037927936 % 256; omega
theorem bt_l {x k : Int} (hk : 0 ≤ k ∧ k < 8) : land (lushr x (w32 (8 * k))) 255 = bt x k := by
  rw [w32_id (x := 8 * k) (by unfold rI; omega), lushr8 x hk, land255]
  unfold bt w64
  rcases pw8 hk with rfl | rfl | rfl | rfl | rfl | rfl | rfl | rfl
  · show ((x % 18446744073709551616 / 1 + 9223372036854775808) % 18446744073709551616 - 9223372036854775808) % 256 = x / 1 % 256; omega
  · show ((x % 18446744073709551616 / 256 + 9223372036854775808) % 18446744073709551616 - 9223372036854775808) % 256 = x / 256 % 256; omega
  · show ((x % 18446744073709551616 / 65536 + 9223372036854775808) % 18446744073709551616 - 9223372036854775808) % 256 = x / 65536 % 256; omega
  · show ((x % 18446744073709551616 / 16777216 + 9223372036854775808) % 18446744073709551616 - 9223372036854775808) % 256 = x / 16777216 % 256; omega
  · show ((x % 18446744073709551616 / 4294967296 + 9223372036854775808) % 18446744073709551616 - 9223372036854775808) % 256 = x / 4294967296 % 256; omega
  · show ((x % 18446744073709551616 / 1099511627776 + 9223372036854775808) % 18446744073709551616 - 9223372036854775808) % 256 = x / 1099511627776 % 256; omega
  · show ((x % 18446744073709551616 / 281474976710656 + 9223372036854775808) % 18446744073709551616 - 9223372036854775808) % 256 = x / 281474976710656 % 256; omega
  · show ((x % 18446744073709551616 / 72057594037927936 + 9223372036854775808) % 18446744073709551616 - 9223372036854775808) % 256 = x / 72057594037927936 % 256; omega
theorem bt_b {x k : Int} (hk : 0 ≤ k ∧ k < 8) : b8 (w32 (lushr x (w32 (8 * k)))) = b8 (bt x k) := by
  rw [← bt_h hk, iand255]
  unfold u8 b8
  omega
theorem bt_m {x k : Int} (hx : rJ x) (hk : 0 ≤ k ∧ k < 8) : iand (w32 (lshr x (w32 (8 * k)))) 255 = bt x k := by
  rw [w32_id (x := 8 * k) (by unfold rI; omega), lshr8 hx hk, iand255]
  unfold u8 bt w32
  omega
theorem bt_mb {x k : Int} (hx : rJ x) (hk : 0 ≤ k ∧ k < 8) : b8 (w32 (lshr x (w32 (8 * k)))) = b8 (bt x k) := by
  rw [← bt_m hx hk, iand255]
  unfold u8 b8
  omega
theorem bt0 (x : Int) : land x 255 = bt x 0 := by
  rw [land255]
  unfold bt
  show x % 256 = x / 256 ^ 0 % 256
  rw [show ((256 : Int) ^ 0) = 1 from rfl]
  omega
/-- a long is its bytes -/
theorem bt_sum {x : Int} : x % 18446744073709551616 = bt x 0 + 256 * bt x 1 + 65536 * bt x 2 + 16777216 * bt x 3 + 4294967296 * bt x 4 + 1099511627776 * bt x 5 + 281474976710656 * bt x 6 + 72057594037927936 * bt x 7 := by
  unfold bt
  show x % 18446744073709551616 = x / 1 % 256 + 256 * (x / 256 % 256) + 65536 * (x / 65536 % 256) + 16777216 * (x / 16777216 % 256) + 4294967296 * (x / 4294967296 % 256) + 1099511627776 * (x / 1099511627776 % 256) + 281474976710656 * (x / 281474976710656 % 256) + 72057594037927936 * (x / 72057594037927936 % 256)
  omega
theorem bt_inj {x y : Int} (hx : rJ x) (hy : rJ y) (h : ∀ k, 0 ≤ k → k < 8 → bt x k = bt y k) : x = y := by
  have a := bt_sum (x := x)
  have b := bt_sum (x := y)
  rw [h 0 (by omega) (by omega), h 1 (by omega) (by omega), h 2 (by omega) (by omega), h 3 (by omega) (by omega), h 4 (by omega) (by omega), h 5 (by omega) (by omega), h 6 (by omega) (by omega), h 7 (by omega) (by omega), ← b] at a
  unfold rJ at hx hy
  omega
theorem shl8L (v : Int) : lshl v 8 = w64 (v * 256) := by
  unfold lshl
  have h : oL v <<< ((oI 8).toInt64 &&& 63) = oL (v * 256) := by
    refine oL_ext ?_
    have e1 : (oL v <<< ((oI 8).toInt64 &&& 63)).toBitVec = BitVec.ofInt 64 (v * 256) := by
      show (BitVec.ofInt 64 v) <<< (((oI 8).toInt64 &&& 63).toBitVec.smod 64) = _
      have : ((oI 8).toInt64 &&& 63).toBitVec.smod 64 = 8#64 := by decide
      rw [this]
      apply BitVec.eq_of_toNat_eq
      rw [BitVec.shiftLeft_eq', BitVec.toNat_shiftLeft, Nat.shiftLeft_eq]
      simp only [BitVec.toNat_ofInt]
      have : (8#64).toNat = 8 := rfl
      rw [this]
      omega
    show (oL v <<< ((oI 8).toInt64 &&& 63)).toBitVec.toInt = (BitVec.ofInt 64 (v * 256)).toInt
    rw [e1]
  rw [h, oL_t]
theorem or_loL (v b : Int) (hb : 0 ≤ b ∧ b < 256) : lor (lshl v 8) b = w64 (v * 256 + b) := by
  rw [shl8L]
  unfold lor
  have h : (oL (w64 (v * 256)) ||| oL b) = oL (v * 256 + b) := by
    rw [oL_w]
    refine oL_ext ?_
    have e1 : (oL (v * 256) ||| oL b).toBitVec = BitVec.ofInt 64 (v * 256 + b) := by
      show (BitVec.ofInt 64 (v * 256) ||| BitVec.ofInt 64 b) = _
      apply BitVec.eq_of_toNat_eq
      rw [BitVec.toNat_or]
      simp only [BitVec.toNat_ofInt]
      have hx : ((v * 256) % ((2 ^ 64 : Nat) : Int)).toNat = (v % 72057594037927936).toNat * 2 ^ 8 := by omega
      have hy : (b % ((2 ^ 64 : Nat) : Int)).toNat = b.toNat := by omega
      rw [hx, hy, Nat.mul_comm, ← Nat.two_pow_add_eq_or_of_lt (by omega)]
      omega
    show (oL (v * 256) ||| oL b).toBitVec.toInt = (BitVec.ofInt 64 (v * 256 + b)).toInt
    rw [e1]
  rw [h, oL_t]
theorem lshl8 (v : Int) {k : Int} (hk : 0 ≤ k ∧ k < 8) : lshl v (w32 (8 * k)) = w64 (v * 256 ^ k.toNat) := by
  rw [w32_id (x := 8 * k) (by unfold rI; omega)]
  unfold lshl
  have h : oL v <<< ((oI (8 * k)).toInt64 &&& 63) = oL (v * 256 ^ k.toNat) := by
    refine oL_ext ?_
    have e1 : (oL v <<< ((oI (8 * k)).toInt64 &&& 63)).toBitVec = BitVec.ofInt 64 (v * 256 ^ k.toNat) := by
      show (BitVec.ofInt 64 v) <<< (((oI (8 * k)).toInt64 &&& 63).toBitVec.smod 64) = _
      have hs : ((oI (8 * k)).toInt64 &&& 63).toBitVec.smod 64 = BitVec.ofInt 64 (8 * k) := by
        rcases pw8 hk with rfl | rfl | rfl | rfl | rfl | rfl | rfl | rfl <;> decide
      rw [hs]
      apply BitVec.eq_of_toNat_eq
      rw [BitVec.shiftLeft_eq', BitVec.toNat_shiftLeft, Nat.shiftLeft_eq]
      simp only [BitVec.toNat_ofInt]
      rcases pw8 hk with rfl | rfl | rfl | rfl | rfl | rfl | rfl | rfl
      · show _ * 2 ^ 0 % _ = (v * 1 % _).toNat; omega
      · show _ * 2 ^ 8 % _ = (v * 256 % _).toNat; omega
      · show _ * 2 ^ 16 % _ = (v * 65536 % _).toNat; omega
      · show _ * 2 ^ 24 % _ = (v * 16777216 % _).toNat; omega
      · show _ * 2 ^ 32 % _ = (v * 4294967296 % _).toNat; omega
      · show _ * 2 ^ 40 % _ = (v * 1099511627776 % _).toNat; omega
      · show _ * 2 ^ 48 % _ = (v * 281474976710656 % _).toNat; omega
      · show _ * 2 ^ 56 % _ = (v * 72057594037927936 % _).toNat; omega
    show (oL v <<< ((oI (8 * k)).toInt64 &&& 63)).toBitVec.toInt = (BitVec.ofInt 64 (v * 256 ^ k.toNat)).toInt
    rw [e1]
  rw [h, oL_t]
/-- a byte put above others -/
theorem or_hiL {v b k : Int} (hk : 0 ≤ k ∧ k < 8) (hb : 0 ≤ b ∧ b < 256) (hv : 0 ≤ v ∧ v < 256 ^ k.toNat) : lor v (lshl b (w32 (8 * k))) = w64 (v + b * 256 ^ k.toNat) := by
  rw [lshl8 b hk]
  unfold lor
  have h : (oL v ||| oL (w64 (b * 256 ^ k.toNat))) = oL (v + b * 256 ^ k.toNat) := by
    rw [oL_w]
    refine oL_ext ?_
    have e1 : (oL v ||| oL (b * 256 ^ k.toNat)).toBitVec = BitVec.ofInt 64 (v + b * 256 ^ k.toNat) := by
      show (BitVec.ofInt 64 v ||| BitVec.ofInt 64 (b * 256 ^ k.toNat)) = _
      apply BitVec.eq_of_toNat_eq
      rw [BitVec.toNat_or]
      simp only [BitVec.toNat_ofInt]
      rcases pw8 hk with rfl | rfl | rfl | rfl | rfl | rfl | rfl | rfl
      · have hv' : v < 1 := hv.2
        show (v % ((2 ^ 64 : Nat) : Int)).toNat ||| (b * 1 % ((2 ^ 64 : Nat) : Int)).toNat = ((v + b * 1) % ((2 ^ 64 : Nat) : Int)).toNat
        have hx : (v % ((2 ^ 64 : Nat) : Int)).toNat = v.toNat := by omega
        have hy : (b * 1 % ((2 ^ 64 : Nat) : Int)).toNat = b.toNat * 2 ^ 0 := by omega
        rw [hx, hy, Nat.or_comm, Nat.mul_comm, ← Nat.two_pow_add_eq_or_of_lt (by omega)]
        omega
      · have hv' : v < 256 := hv.2
        show (v % ((2 ^ 64 : Nat) : Int)).toNat ||| (b * 256 % ((2 ^ 64 : Nat) : Int)).toNat = ((v + b * 256) % ((2 ^ 64 : Nat) : Int)).toNat
        have hx : (v % ((2 ^ 64 : Nat) : Int)).toNat = v.toNat := by omega
        have hy : (b * 256 % ((2 ^ 64 : Nat) : Int)).toNat = b.toNat * 2 ^ 8 := by omega
        rw [hx, hy, Nat.or_comm, Nat.mul_comm, ← Nat.two_pow_add_eq_or_of_lt (by omega)]
        omega
      · have hv' : v < 65536 := hv.2
        show (v % ((2 ^ 64 : Nat) : Int)).toNat ||| (b * 65536 % ((2 ^ 64 : Nat) : Int)).toNat = ((v + b * 65536) % ((2 ^ 64 : Nat) : Int)).toNat
        have hx : (v % ((2 ^ 64 : Nat) : Int)).toNat = v.toNat := by omega
        have hy : (b * 65536 % ((2 ^ 64 : Nat) : Int)).toNat = b.toNat * 2 ^ 16 := by omega
        rw [hx, hy, Nat.or_comm, Nat.mul_comm, ← Nat.two_pow_add_eq_or_of_lt (by omega)]
        omega
      · have hv' : v < 16777216 := hv.2
        show (v % ((2 ^ 64 : Nat) : Int)).toNat ||| (b * 16777216 % ((2 ^ 64 : Nat) : Int)).toNat = ((v + b * 16777216) % ((2 ^ 64 : Nat) : Int)).toNat
        have hx : (v % ((2 ^ 64 : Nat) : Int)).toNat = v.toNat := by omega
        have hy : (b * 16777216 % ((2 ^ 64 : Nat) : Int)).toNat = b.toNat * 2 ^ 24 := by omega
        rw [hx, hy, Nat.or_comm, Nat.mul_comm, ← Nat.two_pow_add_eq_or_of_lt (by omega)]
        omega
      · have hv' : v < 4294967296 := hv.2
        show (v % ((2 ^ 64 : Nat) : Int)).toNat ||| (b * 4294967296 % ((2 ^ 64 : Nat) : Int)).toNat = ((v + b * 4294967296) % ((2 ^ 64 : Nat) : Int)).toNat
        have hx : (v % ((2 ^ 64 : Nat) : Int)).toNat = v.toNat := by omega
        have hy : (b * 4294967296 % ((2 ^ 64 : Nat) : Int)).toNat = b.toNat * 2 ^ 32 := by omega
        rw [hx, hy, Nat.or_comm, Nat.mul_comm, ← Nat.two_pow_add_eq_or_of_lt (by omega)]
        omega
      · have hv' : v < 1099511627776 := hv.2
        show (v % ((2 ^ 64 : Nat) : Int)).toNat ||| (b * 1099511627776 % ((2 ^ 64 : Nat) : Int)).toNat = ((v + b * 1099511627776) % ((2 ^ 64 : Nat) : Int)).toNat
        have hx : (v % ((2 ^ 64 : Nat) : Int)).toNat = v.toNat := by omega
        have hy : (b * 1099511627776 % ((2 ^ 64 : Nat) : Int)).toNat = b.toNat * 2 ^ 40 := by omega
        rw [hx, hy, Nat.or_comm, Nat.mul_comm, ← Nat.two_pow_add_eq_or_of_lt (by omega)]
        omega
      · have hv' : v < 281474976710656 := hv.2
        show (v % ((2 ^ 64 : Nat) : Int)).toNat ||| (b * 281474976710656 % ((2 ^ 64 : Nat) : Int)).toNat = ((v + b * 281474976710656) % ((2 ^ 64 : Nat) : Int)).toNat
        have hx : (v % ((2 ^ 64 : Nat) : Int)).toNat = v.toNat := by omega
        have hy : (b * 281474976710656 % ((2 ^ 64 : Nat) : Int)).toNat = b.toNat * 2 ^ 48 := by omega
        rw [hx, hy, Nat.or_comm, Nat.mul_comm, ← Nat.two_pow_add_eq_or_of_lt (by omega)]
        omega
      · have hv' : v < 72057594037927936 := hv.2
        show (v % ((2 ^ 64 : Nat) : Int)).toNat ||| (b * 72057594037927936 % ((2 ^ 64 : Nat) : Int)).toNat = ((v + b * 72057594037927936) % ((2 ^ 64 : Nat) : Int)).toNat
        have hx : (v % ((2 ^ 64 : Nat) : Int)).toNat = v.toNat := by omega
        have hy : (b * 72057594037927936 % ((2 ^ 64 : Nat) : Int)).toNat = b.toNat * 2 ^ 56 := by omega
        rw [hx, hy, Nat.or_comm, Nat.mul_comm, ← Nat.two_pow_add_eq_or_of_lt (by omega)]
        omega
    show (oL v ||| oL (b * 256 ^ k.toNat)).toBitVec.toInt = (BitVec.ofInt 64 (v + b * 256 ^ k.toNat)).toInt
    rw [e1]
  rw [h, oL_t]
theorem iushr16 {v : Int} (hv : 0 ≤ v ∧ v < 2147483648) : iushr v 16 = v / 65536 := by
  unfold iushr
  have e1 : ((oI v).toUInt32 >>> ((oI 16).toUInt32 &&& Int32.toUInt32 31)).toInt32 = oI (v / 65536) := by
    have : ((oI v).toUInt32 >>> ((oI 16).toUInt32 &&& Int32.toUInt32 31)).toInt32.toBitVec = (oI (v / 65536)).toBitVec := by
      show (BitVec.ofInt 32 v) >>> (((oI 16).toUInt32 &&& Int32.toUInt32 31).toBitVec % 32) = BitVec.ofInt 32 _
      have : ((oI 16).toUInt32 &&& Int32.toUInt32 31).toBitVec % 32 = 16#32 := by decide
      rw [this]
      apply BitVec.eq_of_toNat_eq
      rw [BitVec.ushiftRight_eq', BitVec.toNat_ushiftRight, Nat.shiftRight_eq_div_pow]
      simp only [BitVec.toNat_ofInt]
      have : (16#32).toNat = 16 := rfl
      rw [this]
      omega
    exact Int32.toBitVec_inj.mp this
  rw [e1, oI_i]
  unfold rI; omega
/-- k and a length in one int -/
theorem ior_kl {k n : Int} (hk : 0 ≤ k ∧ k < 65536) (hn : 0 ≤ n ∧ n < 32768) : ior k (ishl n 16) = k + 65536 * n := by
  unfold ior ishl
  have h : (oI k ||| oI ((oI n <<< (oI 16 &&& 31)).toInt)) = oI (k + 65536 * n) := by
    rw [oI_toI]
    refine oI_ext ?_
    have e1 : (oI k ||| (oI n <<< (oI 16 &&& 31))).toBitVec = BitVec.ofInt 32 (k + 65536 * n) := by
      show (BitVec.ofInt 32 k ||| ((BitVec.ofInt 32 n) <<< ((oI 16 &&& 31).toBitVec.smod 32))) = _
      have : (oI 16 &&& 31).toBitVec.smod 32 = 16#32 := by decide
      rw [this]
      apply BitVec.eq_of_toNat_eq
      rw [BitVec.toNat_or, BitVec.shiftLeft_eq', BitVec.toNat_shiftLeft, Nat.shiftLeft_eq]
      simp only [BitVec.toNat_ofInt]
      have e16 : (16#32).toNat = 16 := rfl
      rw [e16]
      have hx : (k % ((2 ^ 32 : Nat) : Int)).toNat = k.toNat := by omega
      have hy : (n % ((2 ^ 32 : Nat) : Int)).toNat * 2 ^ 16 % 2 ^ 32 = n.toNat * 2 ^ 16 := by omega
      rw [hx, hy, Nat.or_comm, Nat.mul_comm, ← Nat.two_pow_add_eq_or_of_lt (by omega)]
      omega
    show (oI k ||| (oI n <<< (oI 16 &&& 31))).toBitVec.toInt = (BitVec.ofInt 32 (k + 65536 * n)).toInt
    rw [e1]
  rw [h, oI_i]
  unfold rI; omega
