/-! bytes turned round -/
def rvX (B : BitVec 64) : BitVec 64 := ((B &&& 71777214294589695#64) <<< 8) ||| ((B >>> 8) &&& 71777214294589695#64)
def rvB (Y : BitVec 64) : BitVec 64 := (((Y <<< 48) ||| ((Y &&& 4294901760#64) <<< 16)) ||| ((Y >>> 16) &&& 4294901760#64)) ||| (Y >>> 48)
theorem oL_or (x y : Int) : (oL (lor x y)).toBitVec = (oL x).toBitVec ||| (oL y).toBitVec := by unfold lor; rw [oL_toI]; rfl
theorem oL_and (x y : Int) : (oL (land x y)).toBitVec = (oL x).toBitVec &&& (oL y).toBitVec := by unfold land; rw [oL_toI]; rfl
theorem oL_shl8 (x : Int) : (oL (lshl x 8)).toBitVec = (oL x).toBitVec <<< 8 := by
  unfold lshl
  rw [oL_toI]
  show (oL x).toBitVec <<< (((oI 8).toInt64 &&& 63).toBitVec.smod 64) = _
  have : ((oI 8).toInt64 &&& 63).toBitVec.smod 64 = 8#64 := by decide
  rw [this, BitVec.shiftLeft_eq']
  rfl
theorem oL_ushr8 (x : Int) : (oL (lushr x 8)).toBitVec = (oL x).toBitVec >>> 8 := by
  unfold lushr
  rw [oL_toI]
  show (oL x).toBitVec >>> (((oI 8).toInt64.toUInt64 &&& Int64.toUInt64 63).toBitVec % 64) = _
  have : ((oI 8).toInt64.toUInt64 &&& Int64.toUInt64 63).toBitVec % 64 = 8#64 := by decide
  rw [this, BitVec.ushiftRight_eq']
  rfl
theorem oL_shl16 (x : Int) : (oL (lshl x 16)).toBitVec = (oL x).toBitVec <<< 16 := by
  unfold lshl
  rw [oL_toI]
  show (oL x).toBitVec <<< (((oI 16).toInt64 &&& 63).toBitVec.smod 64) = _
  have : ((oI 16).toInt64 &&& 63).toBitVec.smod 64 = 16#64 := by decide
  rw [this, BitVec.shiftLeft_eq']
  rfl
theorem oL_ushr16 (x : Int) : (oL (lushr x 16)).toBitVec = (oL x).toBitVec >>> 16 := by
  unfold lushr
  rw [oL_toI]
  show (oL x).toBitVec >>> (((oI 16).toInt64.toUInt64 &&& Int64.toUInt64 63).toBitVec % 64) = _
  have : ((oI 16).toInt64.toUInt64 &&& Int64.toUInt64 63).toBitVec % 64 = 16#64 := by decide
  rw [this, BitVec.ushiftRight_eq']
  rfl
theorem oL_shl48 (x : Int) : (oL (lshl x 48)).toBitVec = (oL x).toBitVec <<< 48 := by
  unfold lshl
  rw [oL_toI]
  show (oL x).toBitVec <<< (((oI 48).toInt64 &&& 63).toBitVec.smod 64) = _
  have : ((oI 48).toInt64 &&& 63).toBitVec.smod 64 = 48#64 := by decide
  rw [this, BitVec.shiftLeft_eq']
  rfl
theorem oL_ushr48 (x : Int) : (oL (lushr x 48)).toBitVec = (oL x).toBitVec >>> 48 := by
  unfold lushr
  rw [oL_toI]
  show (oL x).toBitVec >>> (((oI 48).toInt64.toUInt64 &&& Int64.toUInt64 63).toBitVec % 64) = _
  have : ((oI 48).toInt64.toUInt64 &&& Int64.toUInt64 63).toBitVec % 64 = 48#64 := by decide
  rw [this, BitVec.ushiftRight_eq']
  rfl
theorem rev_bv (x : Int) : (oL (rev x)).toBitVec = rvB (rvX (oL x).toBitVec) := by
  have m1 : (oL 71777214294589695).toBitVec = 71777214294589695#64 := by decide
  have m2 : (oL 4294901760).toBitVec = 4294901760#64 := by decide
  unfold rev rvB rvX
  rw [oL_or, oL_or, oL_or, oL_shl48, oL_shl16, oL_and, oL_and, oL_ushr16, oL_ushr48, oL_or, oL_shl8, oL_and, oL_and, oL_ushr8, m1, m2]
theorem bt_ex {x k : Int} (hk : 0 ≤ k ∧ k < 8) : bt x k = (((oL x).toBitVec.extractLsb' (8 * k).toNat 8).toNat : Int) := by
  rw [BitVec.extractLsb'_toNat, Nat.shiftRight_eq_div_pow]
  show _ = (((BitVec.ofInt 64 x).toNat / 2 ^ (8 * k).toNat % 2 ^ 8 : Nat) : Int)
  rw [BitVec.toNat_ofInt]
  unfold bt
  rcases pw8 hk with rfl | rfl | rfl | rfl | rfl | rfl | rfl | rfl
  · show x / 1 % 256 = (((x % ((2 ^ 64 : Nat) : Int)).toNat / 1 % 256 : Nat) : Int); omega
  · show x / 256 % 256 = (((x % ((2 ^ 64 : Nat) : Int)).toNat / 256 % 256 : Nat) : Int); omega
  · show x / 65536 % 256 = (((x % ((2 ^ 64 : Nat) : Int)).toNat / 65536 % 256 : Nat) : Int); omega
  · show x / 16777216 % 256 = (((x % ((2 ^ 64 : Nat) : Int)).toNat / 16777216 % 256 : Nat) : Int); omega
  · show x / 4294967296 % 256 = (((x % ((2 ^ 64 : Nat) : Int)).toNat / 4294967296 % 256 : Nat) : Int); omega
  · show x / 1099511627776 % 256 = (((x % ((2 ^ 64 : Nat) : Int)).toNat / 1099511627776 % 256 : Nat) : Int); omega
  · show x / 281474976710656 % 256 = (((x % ((2 ^ 64 : Nat) : Int)).toNat / 281474976710656 % 256 : Nat) : Int); omega
  · show x / 72057594037927936 % 256 = (((x % ((2 ^ 64 : Nat) : Int)).toNat / 72057594037927936 % 256 : Nat) : Int); omega
theorem rv_bit (B : BitVec 64) : ∀ k i : Nat, k < 8 → i < 8 → (rvB (rvX B)).getLsbD (8 * k + i) = B.getLsbD (8 * (7 - k) + i)
  | 0, 0, _, _ => by simp [rvB, rvX]
  | 0, 1, _, _ => by simp [rvB, rvX]
  | 0, 2, _, _ => by simp [rvB, rvX]
  | 0, 3, _, _ => by simp [rvB, rvX]
  | 0, 4, _, _ => by simp [rvB, rvX]
  | 0, 5, _, _ => by simp [rvB, rvX]
  | 0, 6, _, _ => by simp [rvB, rvX]
  | 0, 7, _, _ => by simp [rvB, rvX]
  | 1, 0, _, _ => by simp [rvB, rvX]
  | 1, 1, _, _ => by simp [rvB, rvX]
  | 1, 2, _, _ => by simp [rvB, rvX]
  | 1, 3, _, _ => by simp [rvB, rvX]
  | 1, 4, _, _ => by simp [rvB, rvX]
  | 1, 5, _, _ => by simp [rvB, rvX]
  | 1, 6, _, _ => by simp [rvB, rvX]
  | 1, 7, _, _ => by simp [rvB, rvX]
  | 2, 0, _, _ => by simp [rvB, rvX]
  | 2, 1, _, _ => by simp [rvB, rvX]
  | 2, 2, _, _ => by simp [rvB, rvX]
  | 2, 3, _, _ => by simp [rvB, rvX]
  | 2, 4, _, _ => by simp [rvB, rvX]
  | 2, 5, _, _ => by simp [rvB, rvX]
  | 2, 6, _, _ => by simp [rvB, rvX]
  | 2, 7, _, _ => by simp [rvB, rvX]
  | 3, 0, _, _ => by simp [rvB, rvX]
  | 3, 1, _, _ => by simp [rvB, rvX]
  | 3, 2, _, _ => by simp [rvB, rvX]
  | 3, 3, _, _ => by simp [rvB, rvX]
  | 3, 4, _, _ => by simp [rvB, rvX]
  | 3, 5, _, _ => by simp [rvB, rvX]
  | 3, 6, _, _ => by simp [rvB, rvX]
  | 3, 7, _, _ => by simp [rvB, rvX]
  | 4, 0, _, _ => by simp [rvB, rvX]
  | 4, 1, _, _ => by simp [rvB, rvX]
  | 4, 2, _, _ => by simp [rvB, rvX]
  | 4, 3, _, _ => by simp [rvB, rvX]
  | 4, 4, _, _ => by simp [rvB, rvX]
  | 4, 5, _, _ => by simp [rvB, rvX]
  | 4, 6, _, _ => by simp [rvB, rvX]
  | 4, 7, _, _ => by simp [rvB, rvX]
  | 5, 0, _, _ => by simp [rvB, rvX]
  | 5, 1, _, _ => by simp [rvB, rvX]
  | 5, 2, _, _ => by simp [rvB, rvX]
  | 5, 3, _, _ => by simp [rvB, rvX]
  | 5, 4, _, _ => by simp [rvB, rvX]
  | 5, 5, _, _ => by simp [rvB, rvX]
  | 5, 6, _, _ => by simp [rvB, rvX]
  | 5, 7, _, _ => by simp [rvB, rvX]
  | 6, 0, _, _ => by simp [rvB, rvX]
  | 6, 1, _, _ => by simp [rvB, rvX]
  | 6, 2, _, _ => by simp [rvB, rvX]
  | 6, 3, _, _ => by simp [rvB, rvX]
  | 6, 4, _, _ => by simp [rvB, rvX]
  | 6, 5, _, _ => by simp [rvB, rvX]
  | 6, 6, _, _ => by simp [rvB, rvX]
  | 6, 7, _, _ => by simp [rvB, rvX]
  | 7, 0, _, _ => by simp [rvB, rvX]
  | 7, 1, _, _ => by simp [rvB, rvX]
  | 7, 2, _, _ => by simp [rvB, rvX]
  | 7, 3, _, _ => by simp [rvB, rvX]
  | 7, 4, _, _ => by simp [rvB, rvX]
  | 7, 5, _, _ => by simp [rvB, rvX]
  | 7, 6, _, _ => by simp [rvB, rvX]
  | 7, 7, _, _ => by simp [rvB, rvX]
  | k + 8, _, h, _ => by omega
  | _, i + 8, _, h => by omega
theorem bt_rev {x k : Int} (hk : 0 ≤ k ∧ k < 8) : bt (rev x) k = bt x (7 - k) := by
  rw [bt_ex hk, bt_ex (show 0 ≤ 7 - k ∧ 7 - k < 8 by omega), rev_bv]
  congr 2
  refine BitVec.eq_of_getLsbD_eq (fun i hi => ?_)
  rw [BitVec.getLsbD_extractLsb', BitVec.getLsbD_extractLsb']
  have h := rv_bit (oL x).toBitVec k.toNat i (by omega) hi
  rw [show (8 * k).toNat + i = 8 * k.toNat + i by omega, show (8 * (7 - k)).toNat + i = 8 * (7 - k.toNat) + i by omega, h]
theorem rev_rev {x : Int} (hx : rJ x) : rev (rev x) = x := bt_inj (rev_r _) hx (fun k k0 k1 => by rw [bt_rev ⟨k0, k1⟩, bt_rev (by omega)]; congr 1; omega)
theorem rev_inj {x y : Int} (hx : rJ x) (hy : rJ y) (h : rev x = rev y) : x = y := by rw [← rev_rev hx, h, rev_rev hy]
/-- the place of a name in the order -/
def ur (x : Int) : Int := rev x % 18446744073709551616
theorem ur_sum (x : Int) : ur x = bt x 7 + 256 * bt x 6 + 65536 * bt x 5 + 16777216 * bt x 4 + 4294967296 * bt x 3 + 1099511627776 * bt x 2 + 281474976710656 * bt x 1 + 72057594037927936 * bt x 0 := by
  unfold ur
  rw [bt_sum, bt_rev (by omega), bt_rev (by omega), bt_rev (by omega), bt_rev (by omega), bt_rev (by omega), bt_rev (by omega), bt_rev (by omega), bt_rev (by omega)]
  rfl
theorem ur_inj {x y : Int} (hx : rJ x) (hy : rJ y) (h : ur x = ur y) : x = y := by
  refine rev_inj hx hy ?_
  have a := rev_r x
  have b := rev_r y
  unfold ur at h
  unfold rJ at a b
  omega
theorem sp_cmpU {tv : Nat → Int} {cf : Cf} {σ : St} {x y : Int} {Q : Int → St → Prop} (hx : rJ x) (hy : rJ y) (h1 : x % 18446744073709551616 < y % 18446744073709551616 → Q (-1) σ) (h2 : x = y → Q 0 σ) (h3 : y % 18446744073709551616 < x % 18446744073709551616 → Q 1 σ) : wp_Long_compareUnsigned cf tv x y Q σ := by
  unfold wp_Long_compareUnsigned wp_Long_compare
  unfold rJ at hx hy
  have ex : w64 (x + (-9223372036854775808)) = x % 18446744073709551616 - 9223372036854775808 := by unfold w64; omega
  have ey : w64 (y + (-9223372036854775808)) = y % 18446744073709551616 - 9223372036854775808 := by unfold w64; omega
  rw [ex, ey]
  exact ⟨fun a => ⟨fun b _ _ => h3 (by omega), fun b _ _ => h2 (by omega)⟩, fun a _ _ => h1 (by omega)⟩
