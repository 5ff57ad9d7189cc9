/-! how long the rows are; they are in order -/
theorem cat_len {α : Type} {f : Int → List α} {a : Nat} : ∀ n : Nat, (∀ i : Int, 0 ≤ i → i < n → a ≤ (f i).length) → n * a ≤ (cat f n).length
  | 0, _ => by rw [Nat.zero_mul]; exact Nat.zero_le _
  | n + 1, h => by
    show (n + 1) * a ≤ (cat f n ++ f n).length
    rw [List.length_append, Nat.succ_mul]
    have h1 := cat_len n (fun i x y => h i x (by omega))
    have h2 := h n (by omega) (by omega)
    omega
theorem cat_len2 {α β : Type} {f : Int → List α} {g : Int → List β} : ∀ n : Nat, (∀ i : Int, 0 ≤ i → i < n → 3 * (f i).length + 1 ≤ (g i).length) → 3 * (cat f n).length + n ≤ (cat g n).length
  | 0, _ => Nat.le_refl _
  | n + 1, h => by
    show 3 * (cat f n ++ f n).length + (n + 1) ≤ (cat g n ++ g n).length
    rw [List.length_append, List.length_append]
    have h1 := cat_len2 n (fun i x y => h i x (by omega))
    have h2 := h n (by omega) (by omega)
    omega
theorem cat_len1 {α : Type} (f : Int → α) : ∀ n : Nat, (cat (fun i => [f i]) n).length = n
  | 0 => rfl
  | n + 1 => by
    show (cat (fun i => [f i]) n ++ [f n]).length = n + 1
    rw [List.length_append, cat_len1 f n]; rfl
theorem WT.len {σ : St} : ∀ {l : Nat} {z lo hi : Int}, WT σ l 4 8 z lo hi → 4 ^ (l + 1) ≤ (ls σ l z).length ∧ 3 * (kl σ l z).length + 1 ≤ (ls σ l z).length
  | 0, z, lo, hi, h => by
    have c := h.cnt
    have e : (ls σ 0 z).length = (gI σ 577 z).toNat := cat_len1 _ _
    rw [e]
    show 4 ≤ _ ∧ 3 * 1 + 1 ≤ _
    omega
  | l + 1, z, lo, hi, h => by
    have c := h.cnt
    have h1 : (gI σ 577 z).toNat * 4 ^ (l + 1) ≤ (ls σ (l + 1) z).length := cat_len _ (fun i a b => ((h.2.2.2 i a (by omega)).2.2.len).1)
    have h2 := cat_len2 (f := fun k => kl σ l (be σ z k)) (g := fun k => ls σ l (be σ z k)) (gI σ 577 z).toNat (fun i a b => ((h.2.2.2 i a (by omega)).2.2.len).2)
    have e : (kl σ (l + 1) z).length = (cat (fun k => kl σ l (be σ z k)) (gI σ 577 z).toNat).length + 1 := rfl
    have e2 : (ls σ (l + 1) z).length = (cat (fun k => ls σ l (be σ z k)) (gI σ 577 z).toNat).length := rfl
    refine ⟨?_, by omega⟩
    have : 4 * 4 ^ (l + 1) ≤ (gI σ 577 z).toNat * 4 ^ (l + 1) := Nat.mul_le_mul_right _ (by omega)
    rw [Nat.pow_succ, Nat.mul_comm]
    omega
/-- the whole tree: few knots, few levels -/
theorem WT.few {σ : St} {l : Nat} {z lo hi : Int} (h : WT σ l (if l = 0 then 0 else 2) 8 z lo hi) (hL : (ls σ l z).length ≤ 900) : l ≤ 4 ∧ (kl σ l z).length ≤ 300 := by
  cases l with
  | zero => exact ⟨by omega, by show 1 ≤ 300; omega⟩
  | succ l =>
    rw [if_neg (by omega)] at h
    have c := h.cnt
    have h1 : (gI σ 577 z).toNat * 4 ^ (l + 1) ≤ (ls σ (l + 1) z).length := cat_len _ (fun i a b => ((h.2.2.2 i a (by omega)).2.2.len).1)
    have h2 := cat_len2 (f := fun k => kl σ l (be σ z k)) (g := fun k => ls σ l (be σ z k)) (gI σ 577 z).toNat (fun i a b => ((h.2.2.2 i a (by omega)).2.2.len).2)
    have e : (kl σ (l + 1) z).length = (cat (fun k => kl σ l (be σ z k)) (gI σ 577 z).toNat).length + 1 := rfl
    have e2 : (ls σ (l + 1) z).length = (cat (fun k => ls σ l (be σ z k)) (gI σ 577 z).toNat).length := rfl
    refine ⟨?_, by omega⟩
    apply Classical.byContradiction
    intro q
    have a : 2 * 4 ^ (l + 1) ≤ (gI σ 577 z).toNat * 4 ^ (l + 1) := Nat.mul_le_mul_right _ (by omega)
    have b : 4 ^ 5 ≤ 4 ^ (l + 1) := Nat.pow_le_pow_right (by omega) (by omega)
    have d : (4 : Nat) ^ 5 = 1024 := by decide
    omega
theorem cat_pw {f : Int → List (Int × Int × Int × Int × Int × Int)} : ∀ n : Nat, (∀ i : Int, 0 ≤ i → i < n → (f i).Pairwise (fun a b => kyE a < kyE b)) → (∀ i j : Int, 0 ≤ i → i < j → j < n → ∀ a, a ∈ f i → ∀ b, b ∈ f j → kyE a < kyE b) → (cat f n).Pairwise (fun a b => kyE a < kyE b)
  | 0, _, _ => List.Pairwise.nil
  | n + 1, h, k => by
    show (cat f n ++ f n).Pairwise _
    refine List.pairwise_append.mpr ⟨cat_pw n (fun i a b => h i a (by omega)) (fun i j a b c => k i j a b (by omega)), h n (by omega) (by omega), fun a ha b hb => ?_⟩
    obtain ⟨i, hi, hx⟩ := cat_mem ha
    exact k i n hi.1 hi.2 (by omega) a hx b hb
/-- the keys are in order -/
theorem WT.srt {σ : St} : ∀ {l : Nat} {mn mx z lo hi : Int}, WT σ l mn mx z lo hi → (ls σ l z).Pairwise (fun a b => kyE a < kyE b)
  | 0, mn, mx, z, lo, hi, h => by
    refine cat_pw _ (fun i _ _ => List.pairwise_singleton _ _) (fun i j a b c x hx y hy => ?_)
    rw [List.mem_singleton.mp hx, List.mem_singleton.mp hy]
    exact (h.ord a b (by omega)).2
  | l + 1, mn, mx, z, lo, hi, h => by
    refine cat_pw _ (fun i a b => (h.2.2.2 i a (by omega)).2.2.srt) (fun i j a b c x hx y hy => ?_)
    have g1 := (h.2.2.2 i a (by omega)).2.2.rng x hx
    have g2 := (h.2.2.2 j (by omega) (by omega)).2.2.rng y hy
    have g3 := (h.ord a b (by omega)).1
    omega
theorem srt_mid {A B : List (Int × Int × Int × Int × Int × Int)} {e : Int × Int × Int × Int × Int × Int} (h : (A ++ e :: B).Pairwise (fun a b => kyE a < kyE b)) : (∀ a, a ∈ A → kyE a < kyE e) ∧ (∀ b, b ∈ B → kyE e < kyE b) := by
  obtain ⟨h1, h2, h3⟩ := List.pairwise_append.mp h
  exact ⟨fun a ha => h3 a ha e List.mem_cons_self, fun b hb => List.rel_of_pairwise_cons h2 hb⟩
/-! the index -/
def BIG : Int := 1393796574908163946345982392040522594123776
/-- index o: its keys are L, in order -/
def IX (σ : St) (o : Int) (L : List (Int × Int × Int × Int × Int × Int)) : Prop := ∃ (l : Nat) (z : Int), gI σ 387 o = z ∧ WT σ l (if l = 0 then 0 else 2) 8 z (-BIG) BIG ∧ NC σ l z ∧ ls σ l z = L ∧ PO σ o ∧ (∀ x, x ∈ kl σ l z → ¬ FP σ o x ∧ 320 * o ≤ x ∧ x < 320 * o + 320) ∧ ((kl σ l z).length : Int) = gI σ 386 o ∧ 0 ≤ gI σ 390 o ∧ gI σ 390 o + nfr σ (kl σ l z) ≤ 640
def krt (σ : St) (o : Int) : List Int := kl σ (gI σ 576 (gI σ 387 o)).toNat (gI σ 387 o)
theorem kap_big {h l : Int} (hh : rJ h) : -BIG < kap h l ∧ kap h l < BIG := by
  unfold kap BIG; unfold rJ at hh; omega
theorem sp_find {tv : Nat → Int} {cf : Cf} {σ : St} {o h lw : Int} {L : List (Int × Int × Int × Int × Int × Int)} {Q : Int → St → Prop} (hrk : RK σ) (hh : rJ h) (hlw : rJ lw) (hI : IX σ o L)
    (h0 : ∀ τ A B, L = A ++ B → (∀ a, a ∈ A → kyE a < kap h lw) → (∀ b, b ∈ B → kap h lw < kyE b) → Fr (mIs o) σ τ → Q 0 τ)
    (h1 : ∀ τ A B x k, L = A ++ en σ x k :: B → kyE (en σ x k) = kap h lw → x ∈ krt σ o → (0 ≤ k ∧ k < gI σ 577 x) → gI σ 576 x = 0 → gI τ 396 o = x → gI τ 397 o = k → gI τ 393 o = (en σ x k).2.2.1 → gI τ 394 o = (en σ x k).2.2.2.1 → gI τ 395 o = (en σ x k).2.2.2.2.1 → (en σ x k).1 = h ∧ (en σ x k).2.1 = lw → gI τ 391 o = h → gI τ 392 o = lw → Fr (mIs o) σ τ → Q 1 τ) : wp_Index_find cf tv o h lw Q σ := by
  obtain ⟨l, z, i1, i2, i3, i4, i5, i6, i7, i8, i9⟩ := hI
  have kr : krt σ o = kl σ l z := by unfold krt; rw [i1, i2.cnt.2.1, show ((l : Nat) : Int).toNat = l by omega]
  have srt := i2.srt
  rw [i4] at srt
  unfold wp_Index_find
  refine sp_seek hrk hh hlw i1 i2 (fun q _ _ => ⟨fun _ => h0 σ L [] (List.append_nil L).symm (fun a ha => q a (by rw [i4]; exact ha)) (fun b hb => (by cases hb)) (Fr.rf _ _), fun q => absurd rfl q⟩) (fun τ A B x k q1 q2 q3 q4 q5 q6 q7 q8 q9 q10 q11 q12 q13 q14 _ _ => ?_)
  rw [i4] at q1
  have hx := q1
  rw [hx] at srt
  obtain ⟨m1, m2⟩ := srt_mid srt
  have no : kyE (en σ x k) ≠ kap h lw → Q 0 τ := by
    intro ne
    have lt : kap h lw < kyE (en σ x k) := by have : kap h lw ≤ kyE (en σ x k) := q3; omega
    refine h0 τ A (en σ x k :: B) q1 q2 (fun b hb => ?_) q14
    rcases List.mem_cons.mp hb with w | w
    · rw [w]; exact lt
    · have := m2 b w; omega
  refine ⟨fun q => by omega, fun _ => ⟨fun q => no (fun e => q ?_), fun qa => ⟨fun q => no (fun e => q ?_), fun qb => ?_⟩⟩⟩
  · rw [q9]; exact (kap_inj (hrk.aj _ _ _ (by decide)) hlw e).1
  · rw [q10]; exact (kap_inj (hrk.aj _ _ _ (by decide)) hlw e).2
  · rw [q9] at qa
    rw [q10] at qb
    have e : kyE (en σ x k) = kap h lw := by unfold kyE; rw [qa, qb]
    exact h1 τ A B x k q1 e (by rw [kr]; exact q4) q5 q6 q7 q8 q11 q12 q13 ⟨qa, qb⟩ (by rw [q9]; exact qa) (by rw [q10]; exact qb) q14
theorem IX.fr {σ τ : St} {o : Int} {L : List (Int × Int × Int × Int × Int × Int)} {M : Nat → Int → Prop} (h : IX σ o L) (f : Fr M σ τ) (n1 : ∀ f x, 576 ≤ f → f ≤ 587 → ¬ M f x) (n2 : ∀ f, 385 ≤ f → f ≤ 390 → ¬ M f o) : IX τ o L := by
  obtain ⟨l, z, i1, i2, i3, i4, i5, i6, i7, i8, i9⟩ := h
  have ke : ∀ x, KE σ τ x := fun x => KE.fr f (fun f' a b => n1 f' x a (Nat.le_trans b (by decide)))
  have oe : ∀ x, OE σ τ x := fun x => OE.fr f (fun f' a b => n1 f' x (Nat.le_trans (by decide) a) b)
  obtain ⟨g1, g2⟩ := tr_fr (σ := σ) (τ := τ) l z (fun x _ => ke x)
  obtain ⟨p1, p2⟩ := FP_fr (o := o) f ⟨n2 _ (by decide) (by decide), n2 _ (by decide) (by decide)⟩
  refine ⟨l, z, by rw [f.i _ _ (n2 _ (by decide) (by decide))]; exact i1, i2.fr (fun x _ => ke x), i3.fr (fun x _ => ⟨ke x, oe x⟩), by rw [g1]; exact i4, p2 i5, fun x hx => ?_, ?_, ?_, ?_⟩
  · rw [g2] at hx
    exact ⟨fun q => (i6 x hx).1 ((p1 x).mp q), (i6 x hx).2⟩
  · rw [g2, f.i 386 o (n2 _ (by decide) (by decide))]; exact i7
  · rw [f.i 390 o (n2 _ (by decide) (by decide))]; exact i8
  · rw [g2, nfr_ext (σ := σ) (τ := τ) (fun x _ => (oe x).1), f.i 390 o (n2 _ (by decide) (by decide))]; exact i9
theorem nfr_pos {σ : St} {K : List Int} {z : Int} (hz : z ∈ K) (hf : gI σ 584 z = 0) : 1 ≤ nfr σ K := List.length_pos_of_mem (List.mem_filter.mpr ⟨hz, decide_eq_true hf⟩)
