/-! the guard of a page -/
/-- exclusive or of f 0 .. f (n - 1) -/
def xs (f : Nat → Nat) : Nat → Nat
  | 0 => 0
  | n + 1 => xs f n ^^^ f n
theorem xs_congr {f g : Nat → Nat} : ∀ n, (∀ i, i < n → f i = g i) → xs f n = xs g n
  | 0, _ => rfl
  | n + 1, h => by
    show xs f n ^^^ f n = xs g n ^^^ g n
    rw [xs_congr n (fun i hi => h i (by omega)), h n (by omega)]
theorem xs_one {f g : Nat → Nat} {k : Nat} : ∀ n, k < n → (∀ i, i < n → i ≠ k → f i = g i) → xs g n = xs f n ^^^ (f k ^^^ g k)
  | 0, h, _ => by omega
  | n + 1, h, e => by
    show xs g n ^^^ g n = (xs f n ^^^ f n) ^^^ (f k ^^^ g k)
    by_cases hk : k = n
    · subst hk
      rw [xs_congr (f := f) (g := g) k (fun i hi => e i (by omega) (by omega))]
      rw [Nat.xor_assoc, ← Nat.xor_assoc (f k) (f k), Nat.xor_self, Nat.zero_xor]
    · rw [xs_one n (by omega) (fun i hi hne => e i (by omega) hne), e n (by omega) (by omega)]
      generalize f k ^^^ g k = A
      rw [Nat.xor_assoc, Nat.xor_comm A, ← Nat.xor_assoc]
theorem xs_lt {f : Nat → Nat} {m : Nat} : ∀ n, (∀ i, i < n → f i < 2 ^ m) → xs f n < 2 ^ m
  | 0, _ => Nat.two_pow_pos m
  | n + 1, h => Nat.xor_lt_two_pow (xs_lt n (fun i hi => h i (by omega))) (h n (by omega))
def bitP (k u i : Nat) : Nat := if u.testBit i then 8 * k + i + 1 else 0
def bitM (u i : Nat) : Nat := if u.testBit i then 1 else 0
def gdP (g : Int → Int) : Nat := xs (fun k => xs (bitP k (u8 (g k)).toNat) 8) 128
def gdM (g : Int → Int) : Nat := xs (fun k => xs (bitM (u8 (g k)).toNat) 8) 128
def gd (g : Int → Int) : Int := 2048 * (gdM g : Int) + gdP g
theorem ixorN {x y : Nat} (hx : x < 2147483648) (hy : y < 2147483648) : ixor x y = ((x ^^^ y : Nat) : Int) := by
  unfold ixor
  have hl : x ^^^ y < 2 ^ 31 := Nat.xor_lt_two_pow (by omega) (by omega)
  have h : (oI x ^^^ oI y) = oI ((x ^^^ y : Nat) : Int) := by
    refine oI_ext ?_
    have e1 : (oI x ^^^ oI y).toBitVec = BitVec.ofInt 32 ((x ^^^ y : Nat) : Int) := by
      show (BitVec.ofInt 32 x ^^^ BitVec.ofInt 32 y) = _
      apply BitVec.eq_of_toNat_eq
      rw [BitVec.toNat_xor]
      simp only [BitVec.toNat_ofInt]
      have a1 : ((x : Int) % ((2 ^ 32 : Nat) : Int)).toNat = x := by omega
      have a2 : ((y : Int) % ((2 ^ 32 : Nat) : Int)).toNat = y := by omega
      have a3 : (((x ^^^ y : Nat) : Int) % ((2 ^ 32 : Nat) : Int)).toNat = x ^^^ y := by omega
      rw [a1, a2, a3]
    show (oI x ^^^ oI y).toBitVec.toInt = (BitVec.ofInt 32 ((x ^^^ y : Nat) : Int)).toInt
    rw [e1]
  rw [h, oI_i]
  unfold rI; omega
theorem ishrN {x : Nat} (hx : x < 2147483648) : ishr x 1 = ((x / 2 : Nat) : Int) := by
  unfold ishr
  have h : oI x >>> (oI 1 &&& 31) = oI ((x / 2 : Nat) : Int) := by
    refine oI_ext ?_
    rw [pk_shr (oI x) (oI 1 &&& 31) 1 (by decide), oI_i (by unfold rI; omega), oI_i (by unfold rI; omega)]
    rw [Int.shiftRight_eq_div_pow]
    omega
  rw [h, oI_i]
  unfold rI; omega
theorem testBit_shift (u i : Nat) : (u / 2 ^ i) % 2 = 1 ↔ u.testBit i = true := by
  rw [Nat.testBit_eq_decide_div_mod_eq]; simp
theorem gst_e (k i : Nat) (hk : k < 128) (hi : i < 8) : w32 ((w32 ((w32 (8 * (k : Int))) + i)) + 1) = ((8 * k + i + 1 : Nat) : Int) := by
  rw [w32_id (x := 8 * (k : Int)) (by unfold rI; omega), w32_id (x := 8 * (k : Int) + i) (by unfold rI; omega), w32_id (by unfold rI; omega)]
  omega
theorem gst_i (i : Nat) (hi : i < 8) : w32 ((i : Int) + 1) = ((i + 1 : Nat) : Int) := by
  rw [w32_id (by unfold rI; omega)]; omega
theorem gst_1 {cf : Cf} {tv : Nat → Int} {f : Nat} {o a : Int} {Q : Int → St → Prop} {K8 : Int → Int → Int → St → Prop} {K : Int → Int → Int → Int → Int → St → Prop} {σ : St} {A M k v i : Nat} (hA : A < 2048) (hM : M < 2) (hk : k < 128) (hv : v < 256) (hi : i < 8) (hb : v % 2 = 1) (h : K ((A ^^^ (8 * k + i + 1) : Nat) : Int) ((M ^^^ 1 : Nat) : Int) k ((v / 2 : Nat) : Int) ((i + 1 : Nat) : Int) σ) : wp_Flash_guard_L31 cf tv f o a Q K8 K A M k v i σ := by
  unfold wp_Flash_guard_L31
  refine ⟨fun h0 => by omega, fun _ => ?_⟩
  rw [iand1]
  refine ⟨fun h0 => by omega, fun _ => ?_⟩
  intro b1 g1 b2 g2
  unfold wp_Flash_guard_b63
  intro a1 h1 a2 h2
  rw [gst_i i hi] at h1
  rw [ishrN (by omega)] at h2
  rw [gst_e k i hk hi, ixorN (by omega) (by omega)] at g1
  rw [show ixor (M : Int) 1 = ((M ^^^ 1 : Nat) : Int) from ixorN (y := 1) (by omega) (by omega)] at g2
  rw [g1, g2, h1, h2]; exact h
theorem gst_0 {cf : Cf} {tv : Nat → Int} {f : Nat} {o a : Int} {Q : Int → St → Prop} {K8 : Int → Int → Int → St → Prop} {K : Int → Int → Int → Int → Int → St → Prop} {σ : St} {A M k v i : Nat} (hv : v < 256) (hi : i < 8) (h0 : v ≠ 0) (hb : v % 2 = 0) (h : K A M k ((v / 2 : Nat) : Int) ((i + 1 : Nat) : Int) σ) : wp_Flash_guard_L31 cf tv f o a Q K8 K A M k v i σ := by
  unfold wp_Flash_guard_L31
  refine ⟨fun h0 => by omega, fun _ => ?_⟩
  rw [iand1]
  refine ⟨fun _ => ?_, fun h0 => by omega⟩
  unfold wp_Flash_guard_b63
  intro a1 h1 a2 h2
  rw [gst_i i hi] at h1
  rw [ishrN (by omega)] at h2
  rw [h1, h2]; exact h
theorem gst_e0 {cf : Cf} {tv : Nat → Int} {f : Nat} {o a : Int} {Q : Int → St → Prop} {K8 : Int → Int → Int → St → Prop} {K : Int → Int → Int → Int → Int → St → Prop} {σ : St} {A M k : Nat} {i : Int} (hk : k < 128) (h : K8 A M ((k + 1 : Nat) : Int) σ) : wp_Flash_guard_L31 cf tv f o a Q K8 K A M k ((0 : Nat) : Int) i σ := by
  unfold wp_Flash_guard_L31
  refine ⟨fun _ => ?_, fun h0 => absurd rfl h0⟩
  intro y hy
  rw [w32_id (by unfold rI; omega)] at hy
  rw [hy]; exact h
theorem xs_tail {F : Nat → Nat} {i : Nat} : ∀ n, (∀ j, i ≤ j → j < i + n → F j = 0) → xs F (i + n) = xs F i
  | 0, _ => rfl
  | n + 1, h => by
    show xs F (i + n) ^^^ F (i + n) = _
    rw [xs_tail n (fun j h1 h2 => h j h1 (by omega)), h (i + n) (by omega) (by omega), Nat.xor_zero]
theorem bit_hi {u i j : Nat} (hz : u / 2 ^ i = 0) (h : i ≤ j) : u.testBit j = false := by
  apply Nat.testBit_lt_two_pow
  have := Nat.lt_of_div_eq_zero (Nat.two_pow_pos i) hz
  exact Nat.lt_of_lt_of_le this (Nat.pow_le_pow_right (by omega) h)
theorem bitP_lt {k u i : Nat} (hk : k < 128) (hi : i < 8) : bitP k u i < 2 ^ 11 := by unfold bitP; split <;> omega
theorem bitM_lt {u i : Nat} : bitM u i < 2 ^ 1 := by unfold bitM; split <;> omega
/-- the inner loop: the ones of a byte -/
theorem sp_guard_in {cf : Cf} {tv : Nat → Int} {f : Nat} {o a : Int} {Q : Int → St → Prop} {K8 : Int → Int → Int → St → Prop} {σ : St} (k u : Nat) (hk : k < 128) (hu : u < 256) (p0 m0 : Nat) (hp : p0 < 2048) (hm : m0 < 2) (hK : K8 ((p0 ^^^ xs (bitP k u) 8 : Nat) : Int) ((m0 ^^^ xs (bitM u) 8 : Nat) : Int) ((k + 1 : Nat) : Int) σ) : lQ5 (wp_Flash_guard_L31 cf tv f o a Q K8) p0 m0 k u 0 σ := by
  have main : ∀ n i : Nat, i + n = 8 → lq5 (wp_Flash_guard_L31 cf tv f o a Q K8) (n + 1) ((p0 ^^^ xs (bitP k u) i : Nat) : Int) ((m0 ^^^ xs (bitM u) i : Nat) : Int) k ((u / 2 ^ i : Nat) : Int) i σ := by
    intro n
    induction n with
    | zero =>
      intro i hi
      have : i = 8 := by omega
      subst this
      have hz : u / 2 ^ 8 = 0 := Nat.div_eq_of_lt hu
      rw [hz]
      exact gst_e0 hk hK
    | succ n ih =>
      intro i hi
      by_cases hz : u / 2 ^ i = 0
      · have t1 : xs (bitP k u) 8 = xs (bitP k u) i := by
          have := xs_tail (F := bitP k u) (i := i) (8 - i) (fun j h1 _ => by unfold bitP; rw [bit_hi hz h1]; rfl)
          rwa [show i + (8 - i) = 8 by omega] at this
        have t2 : xs (bitM u) 8 = xs (bitM u) i := by
          have := xs_tail (F := bitM u) (i := i) (8 - i) (fun j h1 _ => by unfold bitM; rw [bit_hi hz h1]; rfl)
          rwa [show i + (8 - i) = 8 by omega] at this
        rw [t1, t2] at hK
        rw [hz]
        exact gst_e0 hk hK
      · have hlt : u / 2 ^ i < 256 := Nat.lt_of_le_of_lt (Nat.div_le_self _ _) hu
        have hdd : u / 2 ^ i / 2 = u / 2 ^ (i + 1) := by rw [Nat.div_div_eq_div_mul, Nat.pow_succ]
        have x1 : p0 ^^^ xs (bitP k u) i < 2 ^ 11 := Nat.xor_lt_two_pow hp (xs_lt i (fun j hj => bitP_lt hk (by omega)))
        have x2 : m0 ^^^ xs (bitM u) i < 2 ^ 1 := Nat.xor_lt_two_pow hm (xs_lt i (fun j hj => bitM_lt))
        have next := ih (i + 1) (by omega)
        cases hb : u.testBit i with
        | true =>
          have e1 : p0 ^^^ xs (bitP k u) (i + 1) = (p0 ^^^ xs (bitP k u) i) ^^^ (8 * k + i + 1) := by
            show p0 ^^^ (xs (bitP k u) i ^^^ bitP k u i) = _
            rw [show bitP k u i = 8 * k + i + 1 by unfold bitP; rw [hb]; rfl, Nat.xor_assoc]
          have e2 : m0 ^^^ xs (bitM u) (i + 1) = (m0 ^^^ xs (bitM u) i) ^^^ 1 := by
            show m0 ^^^ (xs (bitM u) i ^^^ bitM u i) = _
            rw [show bitM u i = 1 by unfold bitM; rw [hb]; rfl, Nat.xor_assoc]
          rw [e1, e2, ← hdd] at next
          exact gst_1 x1 x2 hk hlt (by omega) ((testBit_shift u i).mpr hb) next
        | false =>
          have e1 : p0 ^^^ xs (bitP k u) (i + 1) = p0 ^^^ xs (bitP k u) i := by
            show p0 ^^^ (xs (bitP k u) i ^^^ bitP k u i) = _
            rw [show bitP k u i = 0 by unfold bitP; rw [hb]; rfl, Nat.xor_zero]
          have e2 : m0 ^^^ xs (bitM u) (i + 1) = m0 ^^^ xs (bitM u) i := by
            show m0 ^^^ (xs (bitM u) i ^^^ bitM u i) = _
            rw [show bitM u i = 0 by unfold bitM; rw [hb]; rfl, Nat.xor_zero]
          rw [e1, e2, ← hdd] at next
          have h2 : u / 2 ^ i % 2 = 0 := by
            rcases Nat.mod_two_eq_zero_or_one (u / 2 ^ i) with q | q
            · exact q
            · rw [(testBit_shift u i).mp q] at hb; cases hb
          exact gst_0 hlt (by omega) hz h2 next
  have := main 8 0 rfl
  refine ⟨9, ?_⟩
  rw [show (p0 ^^^ xs (bitP k u) 0) = p0 from Nat.xor_zero _, show (m0 ^^^ xs (bitM u) 0) = m0 from Nat.xor_zero _, show u / 2 ^ 0 = u by simp] at this
  exact this
theorem gdP_lt (g : Int → Int) : gdP g < 2048 := xs_lt (m := 11) 128 (fun k hk => xs_lt 8 (fun i hi => by unfold bitP; split <;> omega))
theorem gdM_lt (g : Int → Int) : gdM g < 2 := xs_lt (m := 1) 128 (fun k hk => xs_lt 8 (fun i hi => by unfold bitM; split <;> omega))
