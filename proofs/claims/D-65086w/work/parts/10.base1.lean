/-! pure numbers -/
abbrev oI (x : Int) : Int32 := Int32.ofInt x
abbrev oL (x : Int) : Int64 := Int64.ofInt x
def w32 (x : Int) : Int := (x + 2147483648) % 4294967296 - 2147483648
def w64 (x : Int) : Int := (x + 9223372036854775808) % 18446744073709551616 - 9223372036854775808
def b8 (x : Int) : Int := (x + 128) % 256 - 128
def rI (x : Int) : Prop := -2147483648 ≤ x ∧ x < 2147483648
def rJ (x : Int) : Prop := -9223372036854775808 ≤ x ∧ x < 9223372036854775808
def rB (x : Int) : Prop := -128 ≤ x ∧ x < 128
def rZ (x : Int) : Prop := 0 ≤ x ∧ x < 2
def rK (x : Int) : Prop := -1 ≤ x ∧ x < 640
theorem rZ.i {x : Int} (h : rZ x) : rI x := by unfold rZ at h; unfold rI; omega
theorem rB.i {x : Int} (h : rB x) : rI x := by unfold rB at h; unfold rI; omega
theorem rI.j {x : Int} (h : rI x) : rJ x := by unfold rI at h; unfold rJ; omega
theorem w32_r (x : Int) : rI (w32 x) := by unfold rI w32; omega
theorem w64_r (x : Int) : rJ (w64 x) := by unfold rJ w64; omega
theorem b8_r (x : Int) : rB (b8 x) := by unfold rB b8; omega
theorem w32_id {x : Int} (h : rI x) : w32 x = x := by unfold rI at h; unfold w32; omega
theorem w64_id {x : Int} (h : rJ x) : w64 x = x := by unfold rJ at h; unfold w64; omega
theorem b8_id {x : Int} (h : rB x) : b8 x = x := by unfold rB at h; unfold b8; omega
theorem w32_bmod (x : Int) : Int.bmod x 4294967296 = w32 x := by
  unfold w32; rw [Int.bmod_def]; split <;> omega
theorem w64_bmod (x : Int) : Int.bmod x 18446744073709551616 = w64 x := by
  unfold w64; rw [Int.bmod_def]; split <;> omega
theorem b8_bmod (x : Int) : Int.bmod x 256 = b8 x := by
  unfold b8; rw [Int.bmod_def]; split <;> omega
theorem oI_t (x : Int) : (oI x).toInt = w32 x := by rw [Int32.toInt_ofInt]; exact w32_bmod x
theorem oL_t (x : Int) : (oL x).toInt = w64 x := by rw [Int64.toInt_ofInt]; exact w64_bmod x
theorem oI_i {x : Int} (h : rI x) : (oI x).toInt = x := by rw [oI_t, w32_id h]
theorem oL_i {x : Int} (h : rJ x) : (oL x).toInt = x := by rw [oL_t, w64_id h]
theorem oI_toI (a : Int32) : oI a.toInt = a := Int32.ofInt_toInt a
theorem oL_toI (a : Int64) : oL a.toInt = a := Int64.ofInt_toInt a
theorem toI_r (a : Int32) : rI a.toInt := by rw [← oI_toI a, oI_t]; exact w32_r _
theorem toL_r (a : Int64) : rJ a.toInt := by rw [← oL_toI a, oL_t]; exact w64_r _
theorem oI_ext {a b : Int32} (h : a.toInt = b.toInt) : a = b := Int32.toInt_inj.mp h
theorem oL_ext {a b : Int64} (h : a.toInt = b.toInt) : a = b := Int64.toInt_inj.mp h
theorem oI_w (x : Int) : oI (w32 x) = oI x := oI_ext (by rw [oI_t, oI_t, w32_id (w32_r x)])
theorem oL_w (x : Int) : oL (w64 x) = oL x := oL_ext (by rw [oL_t, oL_t, w64_id (w64_r x)])
theorem oI_eq {x y : Int} (hx : rI x) (hy : rI y) : oI x = oI y ↔ x = y := ⟨fun h => by rw [← oI_i hx, ← oI_i hy, h], fun h => by rw [h]⟩
theorem oL_eq {x y : Int} (hx : rJ x) (hy : rJ y) : oL x = oL y ↔ x = y := ⟨fun h => by rw [← oL_i hx, ← oL_i hy, h], fun h => by rw [h]⟩
theorem oI_lt {x y : Int} (hx : rI x) (hy : rI y) : oI x < oI y ↔ x < y := by rw [Int32.lt_iff_toInt_lt, oI_i hx, oI_i hy]
theorem oI_le {x y : Int} (hx : rI x) (hy : rI y) : oI x ≤ oI y ↔ x ≤ y := by rw [Int32.le_iff_toInt_le, oI_i hx, oI_i hy]
theorem oL_lt {x y : Int} (hx : rJ x) (hy : rJ y) : oL x < oL y ↔ x < y := by rw [Int64.lt_iff_toInt_lt, oL_i hx, oL_i hy]
theorem oI_add (x y : Int) : oI x + oI y = oI (w32 (x + y)) := by rw [oI_w]; exact (Int32.ofInt_add x y).symm
theorem oI_sub (x y : Int) : oI x - oI y = oI (w32 (x - y)) := by rw [oI_w]; exact (Int32.ofInt_sub x y).symm
theorem oI_mul (x y : Int) : oI x * oI y = oI (w32 (x * y)) := by rw [oI_w]; exact (Int32.ofInt_mul x y).symm
theorem oL_add (x y : Int) : oL x + oL y = oL (w64 (x + y)) := by rw [oL_w]; exact (Int64.ofInt_add x y).symm
theorem oL_sub (x y : Int) : oL x - oL y = oL (w64 (x - y)) := by rw [oL_w]; exact (Int64.ofInt_sub x y).symm
theorem oL_mul (x y : Int) : oL x * oL y = oL (w64 (x * y)) := by rw [oL_w]; exact (Int64.ofInt_mul x y).symm
def jdv (x y : Int) : Int := w32 (Int.tdiv x y)
def jrm (x y : Int) : Int := w32 (Int.tmod x y)
def jdl (x y : Int) : Int := w64 (Int.tdiv x y)
def jrl (x y : Int) : Int := w64 (Int.tmod x y)
theorem oI_div {x y : Int} (hx : rI x) (hy : rI y) : oI x / oI y = oI (jdv x y) := oI_ext (by
  rw [Int32.toInt_div, oI_i hx, oI_i hy, oI_t, jdv, w32_id (w32_r _)]; exact w32_bmod _)
theorem oL_div {x y : Int} (hx : rJ x) (hy : rJ y) : oL x / oL y = oL (jdl x y) := oL_ext (by
  rw [Int64.toInt_div, oL_i hx, oL_i hy, oL_t, jdl, w64_id (w64_r _)]; exact w64_bmod _)
theorem oI_rem {x y : Int} (hx : rI x) (hy : rI y) : oI x - oI x / oI y * oI y = oI (jrm x y) := by
  rw [oI_div hx hy, jdv, oI_w, ← Int32.ofInt_mul, ← Int32.ofInt_sub, jrm, oI_w, Int.tmod_def, Int.mul_comm]
theorem oL_rem {x y : Int} (hx : rJ x) (hy : rJ y) : oL x - oL x / oL y * oL y = oL (jrl x y) := by
  rw [oL_div hx hy, jdl, oL_w, ← Int64.ofInt_mul, ← Int64.ofInt_sub, jrl, oL_w, Int.tmod_def, Int.mul_comm]
theorem jdv_r (x y : Int) : rI (jdv x y) := w32_r _
theorem jrm_r (x y : Int) : rI (jrm x y) := w32_r _
theorem jdl_r (x y : Int) : rJ (jdl x y) := w64_r _
theorem jrl_r (x y : Int) : rJ (jrl x y) := w64_r _
def iand (x y : Int) : Int := (oI x &&& oI y).toInt
def ior (x y : Int) : Int := (oI x ||| oI y).toInt
def ixor (x y : Int) : Int := (oI x ^^^ oI y).toInt
def ishl (x y : Int) : Int := (oI x <<< (oI y &&& 31)).toInt
def ishr (x y : Int) : Int := (oI x >>> (oI y &&& 31)).toInt
def iushr (x y : Int) : Int := ((oI x).toUInt32 >>> ((oI y).toUInt32 &&& Int32.toUInt32 31)).toInt32.toInt
def land (x y : Int) : Int := (oL x &&& oL y).toInt
def lor (x y : Int) : Int := (oL x ||| oL y).toInt
def lxor (x y : Int) : Int := (oL x ^^^ oL y).toInt
def lshl (x y : Int) : Int := (oL x <<< ((oI y).toInt64 &&& 63)).toInt
def lshr (x y : Int) : Int := (oL x >>> ((oI y).toInt64 &&& 63)).toInt
def lushr (x y : Int) : Int := ((oL x).toUInt64 >>> ((oI y).toInt64.toUInt64 &&& Int64.toUInt64 63)).toInt64.toInt
theorem iand_r (x y : Int) : rI (iand x y) := toI_r _
theorem ior_r (x y : Int) : rI (ior x y) := toI_r _
theorem ixor_r (x y : Int) : rI (ixor x y) := toI_r _
theorem ishl_r (x y : Int) : rI (ishl x y) := toI_r _
theorem ishr_r (x y : Int) : rI (ishr x y) := toI_r _
theorem iushr_r (x y : Int) : rI (iushr x y) := toI_r _
theorem land_r (x y : Int) : rJ (land x y) := toL_r _
theorem lor_r (x y : Int) : rJ (lor x y) := toL_r _
theorem lxor_r (x y : Int) : rJ (lxor x y) := toL_r _
theorem lshl_r (x y : Int) : rJ (lshl x y) := toL_r _
theorem lshr_r (x y : Int) : rJ (lshr x y) := toL_r _
theorem lushr_r (x y : Int) : rJ (lushr x y) := toL_r _
theorem oI_b8 (x : Int) : (oI x).toInt8.toInt32 = oI (b8 x) := oI_ext (by
  rw [Int8.toInt_toInt32, Int32.toInt_toInt8, oI_t, oI_t, w32_id (b8_r x).i]
  rw [show ((2 : Nat) ^ 8) = 256 from rfl, b8_bmod]
  unfold w32 b8; omega)
theorem oI_j {x : Int} (h : rI x) : (oI x).toInt64 = oL x := oL_ext (by
  rw [Int32.toInt_toInt64, oI_i h, oL_i h.j])
theorem oL_i32 (x : Int) : (oL x).toInt32 = oI (w32 x) := oI_ext (by
  rw [Int64.toInt_toInt32, oL_t, oI_t, w32_id (w32_r x)]
  rw [show ((2 : Nat) ^ 32) = 4294967296 from rfl, w32_bmod]
  unfold w32 w64; omega)
theorem oI_in {i n : Int} (h : 0 ≤ i ∧ i < n) (hn : n < 2147483648) : vp_in (oI i) n.toNat := by
  have hr : rI i := by unfold rI; omega
  unfold vp_in
  rw [show (0 : Int32) = oI 0 from rfl, oI_lt hr (by unfold rI; omega)]
  show ¬ (_ ∨ n.toNat ≤ (oI i).toInt.toNat)
  rw [oI_i hr]
  omega
theorem oI_cl {i : Int} (h : 0 ≤ i) (hr : rI i) : (oI i).toNatClampNeg = i.toNat := by
  show (oI i).toInt.toNat = _
  rw [oI_i hr]
/-! the pure state -/
abbrev St : Type := (Nat → Int → Int) × (Nat → Int → Int → Int)
def gI (σ : St) (f : Nat) (o : Int) : Int := σ.1 f o
def gA (σ : St) (f : Nat) (o i : Int) : Int := σ.2 f o i
def sI (σ : St) (f : Nat) (o v : Int) : St := (fun f' o' => if f' = f ∧ o' = o then v else σ.1 f' o', σ.2)
def sA (σ : St) (f : Nat) (o i v : Int) : St := (σ.1, fun f' o' i' => if f' = f ∧ o' = o ∧ i' = i then v else σ.2 f' o' i')
def sAr (σ : St) (f : Nat) (o : Int) (g : Int → Int) : St := (σ.1, fun f' o' i' => if f' = f ∧ o' = o then g i' else σ.2 f' o' i')
def cpy (g h : Int → Int) (sp dp n : Int) : Int → Int := fun i => if dp ≤ i ∧ i < dp + n then g (sp + (i - dp)) else h i
theorem gI_sI (σ : St) (f f' : Nat) (o o' v : Int) : gI (sI σ f o v) f' o' = if f' = f ∧ o' = o then v else gI σ f' o' := rfl
theorem gA_sI (σ : St) (f f' : Nat) (o o' v i : Int) : gA (sI σ f o v) f' o' i = gA σ f' o' i := rfl
theorem gI_sA (σ : St) (f f' : Nat) (o o' v i : Int) : gI (sA σ f o i v) f' o' = gI σ f' o' := rfl
theorem gA_sA (σ : St) (f f' : Nat) (o o' v i i' : Int) : gA (sA σ f o i v) f' o' i' = if f' = f ∧ o' = o ∧ i' = i then v else gA σ f' o' i' := rfl
theorem gI_sAr (σ : St) (f f' : Nat) (o o' : Int) (g : Int → Int) : gI (sAr σ f o g) f' o' = gI σ f' o' := rfl
theorem gA_sAr (σ : St) (f f' : Nat) (o o' i' : Int) (g : Int → Int) : gA (sAr σ f o g) f' o' i' = if f' = f ∧ o' = o then g i' else gA σ f' o' i' := rfl
