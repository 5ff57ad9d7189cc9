/-! room for a bud: how many numbers, how often -/
theorem cnt_dis {p q r : Int → Prop} [DecidablePred p] [DecidablePred q] [DecidablePred r] : ∀ n : Nat, (∀ i : Int, 0 ≤ i → i < n → p i → ¬ q i) → (∀ i : Int, 0 ≤ i → i < n → p i ∨ q i → r i) → cnt p n + cnt q n ≤ cnt r n
  | 0, _, _ => Nat.le_refl _
  | n + 1, h1, h2 => by
    have ih := cnt_dis n (fun i a b => h1 i a (by omega)) (fun i a b => h2 i a (by omega))
    have a := h1 n (by omega) (by omega)
    have b := h2 n (by omega) (by omega)
    show cnt p n + (if p n then 1 else 0) + (cnt q n + if q n then 1 else 0) ≤ cnt r n + if r n then 1 else 0
    by_cases x : p n
    · rw [if_pos x, if_neg (a x), if_pos (b (Or.inl x))]; omega
    · rw [if_neg x]
      by_cases y : q n
      · rw [if_pos y, if_pos (b (Or.inr y))]; omega
      · rw [if_neg y]; omega
theorem cnt_ge {a : Int} (a0 : 0 ≤ a) : ∀ n : Nat, (cnt (fun k => a ≤ k) n : Int) = max 0 (n - a)
  | 0 => by show ((0 : Nat) : Int) = _; omega
  | n + 1 => by
    have ih := cnt_ge a0 n
    show ((cnt (fun k => a ≤ k) n + (if a ≤ (n : Int) then 1 else 0) : Nat) : Int) = _
    by_cases q : a ≤ (n : Int)
    · rw [if_pos q]; omega
    · rw [if_neg q]; omega
/-- how many numbers may be picked -/
def pkN (cf : Cf) (u x v : Int → Int) : Int := (cnt (fun k => 4 + cf.2.2 ≤ k ∧ u k = 1 ∧ x k = 0 ∧ v k ≤ (cf.2.1 - 2) * 128 - 256) (cf.1 - 6).toNat : Nat)
def wst (σ : St) : Int := if gI σ 451 2 = -1 then 0 else gI σ 452 2 - gA σ 324 0 (gI σ 451 2)
def jw (w : Int) : Int := if w ≤ 0 then 0 else if w ≤ 127 then 1 else 2
def Phi (cf : Cf) (σ : St) : Int := 2 * pkN cf (gA σ 323 0) (gA σ 325 0) (gA σ 324 0) + jw (wst σ)
theorem jw_r (w : Int) : 0 ≤ jw w ∧ jw w ≤ 2 := by unfold jw; split <;> (try split) <;> omega
theorem jw_127 {w w' : Int} (h : w' ≤ w + 127) : jw w' ≤ jw w + 1 := by
  unfold jw
  by_cases a : w' ≤ 0
  · rw [if_pos a]; split <;> (try split) <;> omega
  · rw [if_neg a]
    by_cases b : w' ≤ 127
    · rw [if_pos b]; split <;> (try split) <;> omega
    · rw [if_neg b, if_neg (show ¬ w ≤ 0 by omega)]; split <;> omega
theorem pk_rmy {cf : Cf} (hc : CfOK cf) (u x v : Int → Int) : rmy cf u x + pkN cf u x v ≤ cf.1 - 10 - cf.2.2 := by
  have hB : 24 ≤ cf.1 ∧ cf.1 ≤ 64 := hc.1
  have hR : 0 ≤ cf.2.2 ∧ cf.2.2 ≤ 4 := hc.2.2
  have a := cnt_dis (p := fun k => 4 + cf.2.2 ≤ k ∧ (u k = 0 ∨ x k ≠ 0)) (q := fun k => 4 + cf.2.2 ≤ k ∧ u k = 1 ∧ x k = 0 ∧ v k ≤ (cf.2.1 - 2) * 128 - 256) (r := fun k => 4 + cf.2.2 ≤ k) (cf.1 - 6).toNat (fun i _ _ y z => by omega) (fun i _ _ y => by
    rcases y with y | y
    · exact y.1
    · exact y.1)
  have b := cnt_ge (a := 4 + cf.2.2) (by omega) (cf.1 - 6).toNat
  unfold rmy pkN
  omega
/-- bytes of keys that lie in numbers below n -/
def lSn (L : List (Int × Int × Int × Int × Int × Int)) (n : Nat) : Int := (L.map (fun e => if 0 ≤ e.2.2.1 ∧ e.2.2.1 < (n : Int) then e.2.2.2.2.1 else (0 : Int))).sum
theorem lSn_S (n : Nat) : ∀ L : List (Int × Int × Int × Int × Int × Int), lSn L (n + 1) = lSn L n + lS L n
  | [] => rfl
  | e :: L => by
    have ih := lSn_S n L
    rw [lS_cons]
    unfold lSn at ih ⊢
    rw [List.map_cons, List.map_cons, List.sum_cons, List.sum_cons, ih]
    by_cases q : e.2.2.1 = n
    · rw [if_pos q, if_pos (by omega), if_neg (by omega)]; omega
    · rw [if_neg q]
      by_cases w : 0 ≤ e.2.2.1 ∧ e.2.2.1 < n
      · rw [if_pos w, if_pos (by omega)]; omega
      · rw [if_neg w, if_neg (by omega)]; omega
theorem lSn_le (n : Nat) : ∀ L : List (Int × Int × Int × Int × Int × Int), (∀ e, e ∈ L → 0 ≤ e.2.2.2.2.1) → 0 ≤ lSn L n ∧ lSn L n ≤ (L.map (fun e => e.2.2.2.2.1)).sum
  | [], _ => ⟨Int.le_refl _, Int.le_refl _⟩
  | e :: L, h => by
    have ih := lSn_le n L (fun x hx => h x (List.mem_cons_of_mem _ hx))
    have a := h e List.mem_cons_self
    unfold lSn at ih ⊢
    rw [List.map_cons, List.map_cons, List.sum_cons, List.sum_cons]
    split <;> omega
theorem cnt_lS {L : List (Int × Int × Int × Int × Int × Int)} {p : Int → Prop} [DecidablePred p] {c : Int} (hz : ∀ e, e ∈ L → 0 ≤ e.2.2.2.2.1) (h0 : ∀ m, 0 ≤ lS L m) : ∀ n : Nat, (∀ i : Int, 0 ≤ i → i < n → p i → c ≤ lS L i) → c * (cnt p n : Int) ≤ lSn L n
  | 0, _ => by
    have := (lSn_le 0 L hz).1
    show c * ((0 : Nat) : Int) ≤ _
    rw [show ((0 : Nat) : Int) = 0 from rfl, Int.mul_zero]
    exact this
  | n + 1, h => by
    have ih := cnt_lS hz h0 n (fun i a b => h i a (by omega))
    rw [lSn_S]
    show c * ((cnt p n + (if p n then 1 else 0) : Nat) : Int) ≤ _
    by_cases q : p n
    · have := h n (by omega) (by omega) q
      rw [if_pos q, show ((cnt p n + 1 : Nat) : Int) = (cnt p n : Int) + 1 by omega, Int.mul_add, Int.mul_one]
      omega
    · have := h0 n
      rw [if_neg q, Nat.add_zero]
      omega
/-- a third of the numbers is more than all items take -/
theorem whl_N {cf : Cf} (hc : CfOK cf) : 2 * whl cf + 4 + 1 + (cf.1 - 10 - cf.2.2 - 8) / 3 ≤ cf.1 - 10 - cf.2.2 := by
  have hB : 24 ≤ cf.1 ∧ cf.1 ≤ 64 := hc.1
  have hP : 8 ≤ cf.2.1 ∧ cf.2.1 ≤ 32 := hc.2.1
  have hR : 0 ≤ cf.2.2 ∧ cf.2.2 ≤ 4 := hc.2.2
  have key : ∀ p n : Int, 8 ≤ p → p ≤ 32 → 2 ≤ n → n ≤ 46 → 2 * (1 + (48 * (n * ((p - 2) * 128 - 256) / 232 + 1) + 64 + (24 + 4 * (n + 8) + 7) / 8 * 8) / ((p - 2) * 128 - 248)) + 4 + 1 + n / 3 ≤ n + 8 := by
    intro p n p0 p1 n0 n1
    have : p = 8 ∨ p = 9 ∨ p = 10 ∨ p = 11 ∨ p = 12 ∨ p = 13 ∨ p = 14 ∨ p = 15 ∨ p = 16 ∨ p = 17 ∨ p = 18 ∨ p = 19 ∨ p = 20 ∨ p = 21 ∨ p = 22 ∨ p = 23 ∨ p = 24 ∨ p = 25 ∨ p = 26 ∨ p = 27 ∨ p = 28 ∨ p = 29 ∨ p = 30 ∨ p = 31 ∨ p = 32 := by omega
    rcases this with h | h | h | h | h | h | h | h | h | h | h | h | h | h | h | h | h | h | h | h | h | h | h | h | h <;> (rw [h]; omega)
  have k := key cf.2.1 (cf.1 - 10 - cf.2.2 - 8) hP.1 hP.2 (by omega) (by omega)
  have e1 : whl cf = 1 + (48 * ((cf.1 - 10 - cf.2.2 - 8) * ((cf.2.1 - 2) * 128 - 256) / 232 + 1) + 64 + tbl cf) / ((cf.2.1 - 2) * 128 - 248) := rfl
  have e2 : tbl cf = (24 + 4 * (cf.1 - 10 - cf.2.2) + 7) / 8 * 8 := rfl
  rw [e1, e2]
  rw [show cf.1 - 10 - cf.2.2 - 8 + 8 = cf.1 - 10 - cf.2.2 by omega] at k
  exact k
/-- when nothing may be picked there is room -/
theorem no_pick {tv : Nat → Int} {cf : Cf} {σ : St} {dk : Int → Int} {db : Int → Int → Int} {L : List (Int × Int × Int × Int × Int × Int)} (hc : CfOK cf) (hS : SA tv cf σ dk db L) (hcap : cpM (AM db L) ≤ capa cf) (hH : ∀ m, 4 + cf.2.2 ≤ m → m < cf.1 - 6 → gA σ 323 0 m = 2 → gA σ 325 0 m = 0 → m = gI σ 451 2) (hp : ∀ k, pkb cf σ 0 0 k → (cf.2.1 - 2) * 128 - 256 < gA σ 324 0 k) : 2 * whl cf + 4 ≤ rmy cf (gA σ 323 0) (gA σ 325 0) := by
  have hB : 24 ≤ cf.1 ∧ cf.1 ≤ 64 := hc.1
  have hP : 8 ≤ cf.2.1 ∧ cf.2.1 ≤ 32 := hc.2.1
  have hR : 0 ≤ cf.2.2 ∧ cf.2.2 ≤ 4 := hc.2.2
  have wN := whl_N hc
  have cp := (hS.cap hcap).2
  have b := cnt_ge (a := 4 + cf.2.2) (by omega) (cf.1 - 6).toNat
  have c1 := cnt_or (p := fun k => 4 + cf.2.2 ≤ k) (q := fun k => 4 + cf.2.2 ≤ k ∧ (gA σ 323 0 k = 0 ∨ gA σ 325 0 k ≠ 0)) (r := fun k => 4 + cf.2.2 ≤ k ∧ gA σ 323 0 k ≠ 0 ∧ gA σ 325 0 k = 0) (cf.1 - 6).toNat (fun i _ _ y => by omega)
  have c2 := cnt_one (p := fun k => 4 + cf.2.2 ≤ k ∧ gA σ 323 0 k ≠ 0 ∧ gA σ 325 0 k = 0) (q := fun k => 4 + cf.2.2 ≤ k ∧ gA σ 323 0 k = 1 ∧ gA σ 325 0 k = 0) (k := gI σ 451 2) (cf.1 - 6).toNat (fun i i0 i1 ne y => by
    have u := (hS.2.2.1 i y.1 (by omega)).1
    refine ⟨y.1, ?_, y.2.2⟩
    apply Classical.byContradiction
    intro w
    exact ne (hH i y.1 (by omega) (by omega) y.2.2))
  have sz := hS.2.1.1.2.1
  have c3 := cnt_lS (L := L) (p := fun k => 4 + cf.2.2 ≤ k ∧ gA σ 323 0 k = 1 ∧ gA σ 325 0 k = 0) (c := (cf.2.1 - 2) * 128 - 255) (fun e he => (sz e he).2.1) (fun m => (lS_r sz m).1) (cf.1 - 6).toNat (fun i i0 i1 y => by
    have nm := hS.2.2.1 i y.1 (by omega)
    have l := hp i ⟨⟨y.1, by omega⟩, y.2.1, Or.inr y.2.2⟩
    have z := nm.2.2.2.2.2.1 y.2.2
    have t : tbS σ i = 0 := by unfold tbS; rw [if_neg z.2.2]
    have e := nm.2.2.1
    omega)
  have c4 := (lSn_le (cf.1 - 6).toNat L (fun e he => (sz e he).2.1)).2
  have ca : capa cf = (cf.1 - 10 - cf.2.2 - 8) * ((cf.2.1 - 2) * 128 - 256) := rfl
  generalize hx : (cnt (fun k => 4 + cf.2.2 ≤ k ∧ gA σ 323 0 k = 1 ∧ gA σ 325 0 k = 0) (cf.1 - 6).toNat : Int) = x at *
  have x3 : 3 * x ≤ cf.1 - 10 - cf.2.2 - 8 := by
    apply Classical.byContradiction
    intro q
    have a1 : ((cf.2.1 - 2) * 128 - 255) * (cf.1 - 10 - cf.2.2 - 8 + 1) ≤ ((cf.2.1 - 2) * 128 - 255) * (3 * x) := Int.mul_le_mul_of_nonneg_left (by omega) (by omega)
    rw [Int.mul_add, Int.mul_one] at a1
    have a2 : ((cf.2.1 - 2) * 128 - 255) * (3 * x) = 3 * (((cf.2.1 - 2) * 128 - 255) * x) := by rw [Int.mul_left_comm]
    have a3 : ((cf.2.1 - 2) * 128 - 255) * (cf.1 - 10 - cf.2.2 - 8) = (cf.1 - 10 - cf.2.2 - 8) * ((cf.2.1 - 2) * 128 - 256) + (cf.1 - 10 - cf.2.2 - 8) := by
      rw [Int.mul_comm, show (cf.2.1 - 2) * 128 - 255 = ((cf.2.1 - 2) * 128 - 256) + 1 by omega, Int.mul_add, Int.mul_one]
    omega
  unfold rmy
  omega
