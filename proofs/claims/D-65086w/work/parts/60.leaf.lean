/-! arrays as whole functions -/
def upF (g : Int → Int) (i v : Int) : Int → Int := fun j => if j = i then v else g j
theorem sA_sAr (σ : St) (f : Nat) (o i v : Int) : sA σ f o i v = sAr σ f o (upF (gA σ f o) i v) := by
  unfold sA sAr upF
  refine Prod.ext rfl ?_
  funext f' o' i'
  show (if _ then _ else _) = (if _ then _ else _)
  by_cases h : f' = f ∧ o' = o
  · obtain ⟨rfl, rfl⟩ := h
    by_cases h2 : i' = i
    · subst h2; simp
    · simp [h2]; rfl
  · rw [if_neg (fun q => h ⟨q.1, q.2.1⟩), if_neg h]
theorem gA_sAr1 (σ : St) (f : Nat) (o : Int) (g : Int → Int) : gA (sAr σ f o g) f o = g := by
  funext i; rw [gA_sAr, if_pos ⟨rfl, rfl⟩]
theorem sAr_sAr (σ : St) (f : Nat) (o : Int) (g h : Int → Int) : sAr (sAr σ f o g) f o h = sAr σ f o h := by
  unfold sAr
  refine Prod.ext rfl ?_
  funext f' o' i'
  show (if _ then _ else (if _ then _ else _)) = (if _ then _ else _)
  by_cases h : f' = f ∧ o' = o
  · rw [if_pos h, if_pos h]
  · rw [if_neg h, if_neg h, if_neg h]
theorem sAr_self (σ : St) (f : Nat) (o : Int) : sAr σ f o (gA σ f o) = σ := by
  unfold sAr
  refine Prod.ext rfl ?_
  funext f' o' i'
  show (if _ then _ else _) = _
  by_cases h : f' = f ∧ o' = o
  · obtain ⟨rfl, rfl⟩ := h; rw [if_pos ⟨rfl, rfl⟩]; rfl
  · rw [if_neg h]
theorem sI_sI (σ : St) (f : Nat) (o v u : Int) : sI (sI σ f o v) f o u = sI σ f o u := by
  unfold sI
  refine Prod.ext ?_ rfl
  funext f' o'
  show (if _ then _ else (if _ then _ else _)) = (if _ then _ else _)
  by_cases h : f' = f ∧ o' = o
  · rw [if_pos h, if_pos h]
  · rw [if_neg h, if_neg h, if_neg h]
theorem gI_sI1 (σ : St) (f : Nat) (o v : Int) : gI (sI σ f o v) f o = v := by rw [gI_sI, if_pos ⟨rfl, rfl⟩]
/-! bytes and words -/
/-- an int in four bytes -/
def pI4 (g : Int → Int) (a v : Int) : Int → Int := fun i => if a ≤ i ∧ i < a + 4 then b8 (iushr v (8 * (i - a))) else g i
def u8 (x : Int) : Int := x % 256
def rI4 (g : Int → Int) (a : Int) : Int := w32 (u8 (g a) + 256 * u8 (g (a + 1)) + 65536 * u8 (g (a + 2)) + 16777216 * u8 (g (a + 3)))
theorem u8_r (x : Int) : 0 ≤ u8 x ∧ u8 x < 256 := by unfold u8; omega
theorem iand255 (x : Int) : iand x 255 = u8 x := by
  unfold iand u8
  have h : (oI x &&& oI 255) = oI (x % 256) := by
    refine oI_ext ?_
    have e1 : (oI x &&& oI 255).toBitVec = BitVec.ofInt 32 (x % 256) := by
      show (BitVec.ofInt 32 x &&& BitVec.ofInt 32 255) = _
      apply BitVec.eq_of_toNat_eq
      rw [BitVec.toNat_and]
      have : (BitVec.ofInt 32 255).toNat = 2 ^ 8 - 1 := by decide
      rw [this, Nat.and_two_pow_sub_one_eq_mod]
      simp only [BitVec.toNat_ofInt]
      omega
    show (oI x &&& oI 255).toBitVec.toInt = (BitVec.ofInt 32 (x % 256)).toInt
    rw [e1]
  rw [h, oI_i]
  unfold rI; omega
theorem shl8 (v : Int) : ishl v 8 = w32 (v * 256) := by
  unfold ishl
  have h : oI v <<< (oI 8 &&& 31) = oI (v * 256) := by
    refine oI_ext ?_
    have e1 : (oI v <<< (oI 8 &&& 31)).toBitVec = BitVec.ofInt 32 (v * 256) := by
      show (BitVec.ofInt 32 v) <<< ((oI 8 &&& 31).toBitVec.smod 32) = _
      have : (oI 8 &&& 31).toBitVec.smod 32 = 8#32 := by decide
      rw [this]
      apply BitVec.eq_of_toNat_eq
      rw [BitVec.shiftLeft_eq', BitVec.toNat_shiftLeft, Nat.shiftLeft_eq]
      simp only [BitVec.toNat_ofInt]
      have : (8#32).toNat = 8 := rfl
      rw [this]
      omega
    show (oI v <<< (oI 8 &&& 31)).toBitVec.toInt = (BitVec.ofInt 32 (v * 256)).toInt
    rw [e1]
  rw [h, oI_t]
theorem or_lo (v b : Int) (hb : 0 ≤ b ∧ b < 256) : ior (ishl v 8) b = w32 (v * 256 + b) := by
  rw [shl8]
  unfold ior
  have h : (oI (w32 (v * 256)) ||| oI b) = oI (v * 256 + b) := by
    rw [oI_w]
    refine oI_ext ?_
    have e1 : (oI (v * 256) ||| oI b).toBitVec = BitVec.ofInt 32 (v * 256 + b) := by
      show (BitVec.ofInt 32 (v * 256) ||| BitVec.ofInt 32 b) = _
      apply BitVec.eq_of_toNat_eq
      rw [BitVec.toNat_or]
      simp only [BitVec.toNat_ofInt]
      have hx : ((v * 256) % ((2 ^ 32 : Nat) : Int)).toNat = (v % 16777216).toNat * 2 ^ 8 := by omega
      have hy : (b % ((2 ^ 32 : Nat) : Int)).toNat = b.toNat := by omega
      rw [hx, hy, Nat.mul_comm, ← Nat.two_pow_add_eq_or_of_lt (by omega)]
      omega
    show (oI (v * 256) ||| oI b).toBitVec.toInt = (BitVec.ofInt 32 (v * 256 + b)).toInt
    rw [e1]
  rw [h, oI_t]
theorem ushr8 (v : Int) (k : Int) (hk : 0 ≤ k ∧ k < 4) : b8 (iushr v (8 * k)) = b8 (v % 4294967296 / 2 ^ (8 * k).toNat) := by
  unfold iushr
  have hsh : ((oI (8 * k)).toUInt32 &&& Int32.toUInt32 31).toBitVec % 32 = BitVec.ofInt 32 (8 * k) := by
    rcases (show k = 0 ∨ k = 1 ∨ k = 2 ∨ k = 3 by omega) with rfl | rfl | rfl | rfl <;> decide
  have e1 : ((oI v).toUInt32 >>> ((oI (8 * k)).toUInt32 &&& Int32.toUInt32 31)).toInt32.toInt = w32 (v % 4294967296 / 2 ^ (8 * k).toNat) := by
    rw [← oI_t]
    congr 1
    have : ((oI v).toUInt32 >>> ((oI (8 * k)).toUInt32 &&& Int32.toUInt32 31)).toInt32.toBitVec = (oI (v % 4294967296 / 2 ^ (8 * k).toNat)).toBitVec := by
      show (BitVec.ofInt 32 v) >>> (((oI (8 * k)).toUInt32 &&& Int32.toUInt32 31).toBitVec % 32) = BitVec.ofInt 32 _
      rw [hsh]
      apply BitVec.eq_of_toNat_eq
      rw [BitVec.ushiftRight_eq', BitVec.toNat_ushiftRight, Nat.shiftRight_eq_div_pow]
      simp only [BitVec.toNat_ofInt]
      rcases (show k = 0 ∨ k = 1 ∨ k = 2 ∨ k = 3 by omega) with rfl | rfl | rfl | rfl
      · show _ / 2 ^ 0 = (v % 4294967296 / 2 ^ 0 % _).toNat; omega
      · show _ / 2 ^ 8 = (v % 4294967296 / 2 ^ 8 % _).toNat; omega
      · show _ / 2 ^ 16 = (v % 4294967296 / 2 ^ 16 % _).toNat; omega
      · show _ / 2 ^ 24 = (v % 4294967296 / 2 ^ 24 % _).toNat; omega
    exact Int32.toBitVec_inj.mp this
  rw [e1]
  unfold b8 w32
  omega
theorem rI4_p {g : Int → Int} {a v : Int} (hv : rI v) : rI4 (pI4 g a v) a = v := by
  unfold rI4 pI4
  rw [if_pos (by omega), if_pos (by omega), if_pos (by omega), if_pos (by omega)]
  rw [show a - a = 0 by omega, show a + 1 - a = 1 by omega, show a + 2 - a = 2 by omega, show a + 3 - a = 3 by omega]
  rw [ushr8 v 0 (by omega), ushr8 v 1 (by omega), ushr8 v 2 (by omega), ushr8 v 3 (by omega)]
  show w32 (u8 (b8 (v % 4294967296 / 2 ^ 0)) + 256 * u8 (b8 (v % 4294967296 / 2 ^ 8)) + 65536 * u8 (b8 (v % 4294967296 / 2 ^ 16)) + 16777216 * u8 (b8 (v % 4294967296 / 2 ^ 24))) = v
  unfold rI at hv
  unfold w32 u8 b8
  omega
theorem rI4_ext {g h : Int → Int} {a : Int} (e : ∀ i, a ≤ i → i < a + 4 → g i = h i) : rI4 g a = rI4 h a := by
  unfold rI4
  rw [e a (by omega) (by omega), e (a + 1) (by omega) (by omega), e (a + 2) (by omega) (by omega), e (a + 3) (by omega) (by omega)]
theorem pI4_out {g : Int → Int} {a v i : Int} (h : i < a ∨ a + 4 ≤ i) : pI4 g a v i = g i := by unfold pI4; rw [if_neg (by omega)]
theorem rI4_o {g : Int → Int} {a b v : Int} (h : b + 4 ≤ a ∨ a + 4 ≤ b) : rI4 (pI4 g a v) b = rI4 g b := rI4_ext (fun i h1 h2 => pI4_out (by omega))
theorem rI4_r (g : Int → Int) (a : Int) : rI (rI4 g a) := w32_r _
theorem sp_putInt {cf : Cf} {tv : Nat → Int} {f : Nat} {o a v : Int} {Q : St → Prop} {σ : St} (ha : 0 ≤ a) (hl : a + 4 ≤ aln cf f o) (hb : a + 4 < 2147483648) (hQ : Q (sAr σ f o (pI4 (gA σ f o) a v))) : wp_House_putInt cf tv f o a v Q σ := by
  unfold wp_House_putInt
  refine lQ1_rule (fun y τ => (0 ≤ y ∧ y ≤ 4) ∧ τ = sAr σ f o (fun i => if a ≤ i ∧ i < a + y then b8 (iushr v (8 * (i - a))) else gA σ f o i)) (fun y _ => (4 - y).toNat) ?_ 0 σ ⟨by omega, ?_⟩
  · intro K y τ hI hK
    obtain ⟨hy, rfl⟩ := hI
    unfold wp_House_putInt_L2
    refine ⟨fun h => ?_, fun h => ?_⟩
    · have : y = 4 := by omega
      subst this
      exact hQ
    · have e1 : w32 (a + y) = a + y := w32_id (by unfold rI; omega)
      have e2 : w32 (y + 1) = y + 1 := w32_id (by unfold rI; omega)
      have e3 : w32 (8 * y) = 8 * y := w32_id (by unfold rI; omega)
      rw [e1, e2, e3]
      refine ⟨by omega, fun σ1 h1 y1 h2 => ?_⟩
      subst h1; subst h2
      refine hK _ _ ⟨by omega, ?_⟩ (by omega)
      rw [sA_sAr, sAr_sAr, gA_sAr1]
      congr 1
      funext i
      unfold upF
      by_cases hi : i = a + y
      · subst hi
        rw [if_pos rfl, if_pos (by omega), show a + y - a = y by omega]
      · rw [if_neg hi]
        dsimp only
        by_cases h3 : a ≤ i ∧ i < a + y
        · rw [if_pos h3, if_pos (by omega)]
        · rw [if_neg h3, if_neg (by omega)]
  · have : (fun i => if a ≤ i ∧ i < a + 0 then b8 (iushr v (8 * (i - a))) else gA σ f o i) = gA σ f o := by
      funext i; rw [if_neg (by omega)]
    rw [this, sAr_self]
theorem sp_getInt {cf : Cf} {tv : Nat → Int} {f : Nat} {o a : Int} {Q : Int → St → Prop} {σ : St} (ha : 0 ≤ a) (hl : a + 4 ≤ aln cf f o) (hb : a + 4 < 2147483648) (hQ : Q (rI4 (gA σ f o) a) σ) : wp_House_getInt cf tv f o a Q σ := by
  unfold wp_House_getInt
  have step : ∀ (y3 v : Int), 0 ≤ y3 → y3 ≤ 3 → ∀ K : Int → Int → St → Prop, K (w32 (v * 256 + u8 (gA σ f o (a + y3)))) (y3 - 1) σ → wp_House_getInt_L4 cf tv f o a Q K v y3 σ := by
    intro y3 v h0 h3 K hK
    unfold wp_House_getInt_L4
    refine ⟨fun h => by omega, fun h => ?_⟩
    have e1 : w32 (a + y3) = a + y3 := w32_id (by unfold rI; omega)
    have e2 : w32 (y3 + (-1)) = y3 - 1 := w32_id (by unfold rI; omega)
    rw [e1, e2, iand255, or_lo _ _ (u8_r _)]
    refine ⟨by omega, fun z hz y hy => ?_⟩
    subst hz; subst hy; exact hK
  refine ⟨5, ?_⟩
  refine step 3 0 (by omega) (by omega) _ (step 2 _ (by omega) (by omega) _ (step 1 _ (by omega) (by omega) _ (step 0 _ (by omega) (by omega) _ ?_)))
  refine ⟨fun _ => ?_, fun h => absurd (by omega) h⟩
  have e : w32 (w32 (w32 (w32 (0 * 256 + u8 (gA σ f o (a + 3))) * 256 + u8 (gA σ f o (a + 2))) * 256 + u8 (gA σ f o (a + 1))) * 256 + u8 (gA σ f o (a + 0))) = rI4 (gA σ f o) a := by
    unfold rI4
    rw [show a + 0 = a by omega]
    have h0 := u8_r (gA σ f o a)
    have h1 := u8_r (gA σ f o (a + 1))
    have h2 := u8_r (gA σ f o (a + 2))
    have h3 := u8_r (gA σ f o (a + 3))
    unfold w32
    omega
  show Q (w32 (w32 (w32 (w32 (0 * 256 + u8 (gA σ f o (a + 3))) * 256 + u8 (gA σ f o (a + 2))) * 256 + u8 (gA σ f o (a + 1))) * 256 + u8 (gA σ f o (a + 0)))) σ
  rw [e]; exact hQ
/-- the check of n bytes from a on, going on from x -/
def ckf (tv : Nat → Int) (g : Int → Int) : Nat → Int → Int → Int
  | 0, _, x => x
  | n + 1, a, x => ckf tv g n (a + 1) (ixor (iushr x 8) (tv (Int.toNat (u8 (ixor x (g a))))))
theorem ckf_ext {tv : Nat → Int} {g h : Int → Int} : ∀ (n : Nat) (a b x : Int), (∀ i : Int, 0 ≤ i → i < n → g (a + i) = h (b + i)) → ckf tv g n a x = ckf tv h n b x
  | 0, _, _, _, _ => rfl
  | n + 1, a, b, x, e => by
    show ckf tv g n (a + 1) _ = ckf tv h n (b + 1) _
    have e0 := e 0 (by omega) (by omega)
    rw [show a + 0 = a by omega, show b + 0 = b by omega] at e0
    rw [e0]
    refine ckf_ext n _ _ _ (fun i h1 h2 => ?_)
    have := e (i + 1) (by omega) (by omega)
    rw [show a + 1 + i = a + (i + 1) by omega, show b + 1 + i = b + (i + 1) by omega]
    exact this
theorem ckf_snoc {tv : Nat → Int} {g : Int → Int} : ∀ (n : Nat) (a x : Int), ckf tv g (n + 1) a x = ixor (iushr (ckf tv g n a x) 8) (tv (Int.toNat (u8 (ixor (ckf tv g n a x) (g (a + n))))))
  | 0, a, x => by
    show ixor _ _ = ixor _ _
    rw [show a + ((0 : Nat) : Int) = a by omega]; rfl
  | n + 1, a, x => by
    show ckf tv g (n + 1) (a + 1) _ = _
    rw [ckf_snoc n (a + 1)]
    rw [show a + 1 + (n : Int) = a + ((n + 1 : Nat) : Int) by omega]
    rfl
theorem ckf_app {tv : Nat → Int} {g : Int → Int} : ∀ (n m : Nat) (a x : Int), ckf tv g (n + m) a x = ckf tv g m (a + n) (ckf tv g n a x)
  | 0, m, a, x => by rw [Nat.zero_add, show a + ((0 : Nat) : Int) = a by omega]; rfl
  | n + 1, m, a, x => by
    rw [show n + 1 + m = (n + m) + 1 by omega]
    show ckf tv g (n + m) (a + 1) _ = _
    rw [ckf_app n m (a + 1), show a + 1 + (n : Int) = a + ((n + 1 : Nat) : Int) by omega]
    rfl
theorem sp_check {cf : Cf} {tv : Nat → Int} {f : Nat} {o x a n : Int} {Q : Int → St → Prop} {σ : St} (ha : 0 ≤ a) (hn : 0 ≤ n) (hl : a + n ≤ aln cf f o) (hb : a + n < 2147483647) (hQ : Q (ckf tv (gA σ f o) n.toNat a x) σ) : wp_House_check cf tv x f o a n Q σ := by
  unfold wp_House_check
  refine lQ2_rule (fun y4 y5 τ => τ = σ ∧ ∃ k : Nat, y5 = a + k ∧ (k : Int) ≤ n ∧ y4 = ckf tv (gA σ f o) k a x) (fun _ y5 _ => (a + n - y5).toNat) ?_ x a σ ⟨rfl, 0, by omega, by omega, rfl⟩
  intro K y4 y5 τ hI hK
  obtain ⟨rfl, k, rfl, hk, rfl⟩ := hI
  unfold wp_House_check_L6
  rw [w32_id (show rI (a + n) by unfold rI; omega)]
  refine ⟨fun h => ?_, fun h => ?_⟩
  · have : n.toNat = k := by omega
    rw [← this]; exact hQ
  · rw [iand255]
    refine ⟨by omega, u8_r _, fun z hz y hy => ?_⟩
    rw [w32_id (show rI (a + k + 1) by unfold rI; omega)] at hy
    subst hz; subst hy
    refine hK _ _ _ ⟨rfl, k + 1, by omega, by omega, ?_⟩ (by omega)
    rw [ckf_snoc]
/-! longs -/
theorem mkL (x y : Int) : lor (lshl x 32) (land y 4294967295) = w64 (x * 4294967296 + y % 4294967296) := by
  unfold lor
  have h1 : oL (lshl x 32) = oL (x * 4294967296) := by
    unfold lshl
    rw [oL_toI]
    refine oL_ext ?_
    have e1 : (oL x <<< ((oI 32).toInt64 &&& 63)).toBitVec = BitVec.ofInt 64 (x * 4294967296) := by
      show (BitVec.ofInt 64 x) <<< (((oI 32).toInt64 &&& 63).toBitVec.smod 64) = _
      have : ((oI 32).toInt64 &&& 63).toBitVec.smod 64 = 32#64 := by decide
      rw [this]
      apply BitVec.eq_of_toNat_eq
      rw [BitVec.shiftLeft_eq', BitVec.toNat_shiftLeft, Nat.shiftLeft_eq]
      simp only [BitVec.toNat_ofInt]
      have : (32#64).toNat = 32 := rfl
      rw [this]
      omega
    show (oL x <<< ((oI 32).toInt64 &&& 63)).toBitVec.toInt = (BitVec.ofInt 64 (x * 4294967296)).toInt
    rw [e1]
  have h2 : oL (land y 4294967295) = oL (y % 4294967296) := by
    unfold land
    rw [oL_toI]
    refine oL_ext ?_
    have e1 : (oL y &&& oL 4294967295).toBitVec = BitVec.ofInt 64 (y % 4294967296) := by
      show (BitVec.ofInt 64 y &&& BitVec.ofInt 64 4294967295) = _
      apply BitVec.eq_of_toNat_eq
      rw [BitVec.toNat_and]
      have : (BitVec.ofInt 64 4294967295).toNat = 2 ^ 32 - 1 := by decide
      rw [this, Nat.and_two_pow_sub_one_eq_mod]
      simp only [BitVec.toNat_ofInt]
      omega
    show (oL y &&& oL 4294967295).toBitVec.toInt = (BitVec.ofInt 64 (y % 4294967296)).toInt
    rw [e1]
  rw [h1, h2]
  have h : (oL (x * 4294967296) ||| oL (y % 4294967296)) = oL (x * 4294967296 + y % 4294967296) := by
    refine oL_ext ?_
    have e1 : (oL (x * 4294967296) ||| oL (y % 4294967296)).toBitVec = BitVec.ofInt 64 (x * 4294967296 + y % 4294967296) := by
      show (BitVec.ofInt 64 (x * 4294967296) ||| BitVec.ofInt 64 (y % 4294967296)) = _
      apply BitVec.eq_of_toNat_eq
      rw [BitVec.toNat_or]
      simp only [BitVec.toNat_ofInt]
      have hx : ((x * 4294967296) % ((2 ^ 64 : Nat) : Int)).toNat = (x % 4294967296).toNat * 2 ^ 32 := by omega
      have hy : ((y % 4294967296) % ((2 ^ 64 : Nat) : Int)).toNat = (y % 4294967296).toNat := by omega
      rw [hx, hy, Nat.mul_comm, ← Nat.two_pow_add_eq_or_of_lt (by omega)]
      omega
    show (oL (x * 4294967296) ||| oL (y % 4294967296)).toBitVec.toInt = (BitVec.ofInt 64 (x * 4294967296 + y % 4294967296)).toInt
    rw [e1]
  rw [h, oL_t]
theorem lushr32 (v : Int) : w32 (lushr v 32) = w32 (v % 18446744073709551616 / 4294967296) := by
  unfold lushr
  have e1 : ((oL v).toUInt64 >>> ((oI 32).toInt64.toUInt64 &&& Int64.toUInt64 63)).toInt64 = oL (v % 18446744073709551616 / 4294967296) := by
    have : ((oL v).toUInt64 >>> ((oI 32).toInt64.toUInt64 &&& Int64.toUInt64 63)).toInt64.toBitVec = (oL (v % 18446744073709551616 / 4294967296)).toBitVec := by
      show (BitVec.ofInt 64 v) >>> (((oI 32).toInt64.toUInt64 &&& Int64.toUInt64 63).toBitVec % 64) = BitVec.ofInt 64 _
      have : ((oI 32).toInt64.toUInt64 &&& Int64.toUInt64 63).toBitVec % 64 = 32#64 := by decide
      rw [this]
      apply BitVec.eq_of_toNat_eq
      rw [BitVec.ushiftRight_eq', BitVec.toNat_ushiftRight, Nat.shiftRight_eq_div_pow]
      simp only [BitVec.toNat_ofInt]
      have : (32#64).toNat = 32 := rfl
      rw [this]
      omega
    exact Int64.toBitVec_inj.mp this
  rw [e1, oL_t]
  unfold w32 w64
  omega
def pL8 (g : Int → Int) (a v : Int) : Int → Int := pI4 (pI4 g a (w32 v)) (a + 4) (w32 (lushr v 32))
def rL8 (g : Int → Int) (a : Int) : Int := w64 (rI4 g (a + 4) * 4294967296 + rI4 g a % 4294967296)
theorem rL8_r (g : Int → Int) (a : Int) : rJ (rL8 g a) := w64_r _
theorem rL8_p {g : Int → Int} {a v : Int} (hv : rJ v) : rL8 (pL8 g a v) a = v := by
  unfold rL8 pL8
  rw [rI4_p (w32_r _), rI4_o (by omega), rI4_p (w32_r _), lushr32]
  unfold rJ at hv
  unfold w64 w32
  omega
theorem rL8_ext {g h : Int → Int} {a : Int} (e : ∀ i, a ≤ i → i < a + 8 → g i = h i) : rL8 g a = rL8 h a := by
  unfold rL8
  rw [rI4_ext (fun i h1 h2 => e i (by omega) (by omega)), rI4_ext (a := a) (fun i h1 h2 => e i (by omega) (by omega))]
theorem pL8_out {g : Int → Int} {a v i : Int} (h : i < a ∨ a + 8 ≤ i) : pL8 g a v i = g i := by
  unfold pL8; rw [pI4_out (by omega), pI4_out (by omega)]
theorem sp_putLong {cf : Cf} {tv : Nat → Int} {f : Nat} {o a v : Int} {Q : St → Prop} {σ : St} (ha : 0 ≤ a) (hl : a + 8 ≤ aln cf f o) (hb : a + 8 < 2147483648) (hQ : Q (sAr σ f o (pL8 (gA σ f o) a v))) : wp_House_putLong cf tv f o a v Q σ := by
  unfold wp_House_putLong
  refine sp_putInt ha (by omega) (by omega) (fun _ => ?_)
  rw [w32_id (show rI (a + 4) by unfold rI; omega)]
  refine sp_putInt (by omega) (by omega) (by omega) (fun _ => ?_)
  rw [gA_sAr1, sAr_sAr]
  exact hQ
theorem sp_getLong {cf : Cf} {tv : Nat → Int} {f : Nat} {o a : Int} {Q : Int → St → Prop} {σ : St} (ha : 0 ≤ a) (hl : a + 8 ≤ aln cf f o) (hb : a + 8 < 2147483648) (hQ : Q (rL8 (gA σ f o) a) σ) : wp_House_getLong cf tv f o a Q σ := by
  unfold wp_House_getLong
  rw [w32_id (show rI (a + 4) by unfold rI; omega)]
  refine sp_getInt (by omega) (by omega) (by omega) (fun _ _ => ?_)
  refine sp_getInt (by omega) (by omega) (by omega) (fun _ _ => ?_)
  rw [mkL]
  exact hQ
