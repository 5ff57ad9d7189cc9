/-! rows joined -/
def cat {α : Type} (f : Int → List α) : Nat → List α
  | 0 => []
  | n + 1 => cat f n ++ f n
theorem cat_ext {α : Type} {f g : Int → List α} : ∀ n : Nat, (∀ i : Int, 0 ≤ i → i < n → f i = g i) → cat f n = cat g n
  | 0, _ => rfl
  | n + 1, h => by
    show cat f n ++ f n = cat g n ++ g n
    rw [cat_ext n (fun i a b => h i a (by omega)), h n (by omega) (by omega)]
theorem cat_add {α : Type} (f : Int → List α) (a : Nat) : ∀ b : Nat, cat f (a + b) = cat f a ++ cat (fun i => f (a + i)) b
  | 0 => by show cat f a = cat f a ++ []; rw [List.append_nil]
  | b + 1 => by
    show cat f (a + b) ++ f ((a + b : Nat) : Int) = cat f a ++ (cat (fun i => f (a + i)) b ++ f (a + (b : Nat)))
    rw [cat_add f a b, List.append_assoc, show ((a + b : Nat) : Int) = (a : Int) + (b : Nat) by omega]
theorem cat_one {α : Type} (f : Int → List α) : cat f 1 = f 0 := by
  show [] ++ f ((0 : Nat) : Int) = f 0
  rw [List.nil_append]; rfl
/-- the parts before c, at c and behind c -/
theorem cat_at {α : Type} (f : Int → List α) {n : Nat} {c : Int} (c0 : 0 ≤ c) (c1 : c < n) : cat f n = cat f c.toNat ++ (f c ++ cat (fun i => f (c + 1 + i)) (n - c.toNat - 1)) := by
  have e : n = c.toNat + (1 + (n - c.toNat - 1)) := by omega
  rw [show cat f n = cat f (c.toNat + (1 + (n - c.toNat - 1))) by rw [← e], cat_add, cat_add, cat_one]
  congr 1
  have hc : (c.toNat : Int) = c := by omega
  rw [hc, show c + 0 = c by omega]
  congr 1
  refine cat_ext _ (fun i _ _ => ?_)
  rw [show c + (((1 : Nat) : Int) + i) = c + 1 + i by omega]
theorem cat_mem {α : Type} {f : Int → List α} {x : α} : ∀ {n : Nat}, x ∈ cat f n → ∃ i : Int, (0 ≤ i ∧ i < n) ∧ x ∈ f i
  | 0, h => by cases h
  | n + 1, h => by
    rcases List.mem_append.mp h with q | q
    · obtain ⟨i, hi, hx⟩ := cat_mem q
      exact ⟨i, by omega, hx⟩
    · exact ⟨n, by omega, q⟩
theorem mem_cat {α : Type} {f : Int → List α} {x : α} {i : Int} : ∀ {n : Nat}, 0 ≤ i → i < n → x ∈ f i → x ∈ cat f n
  | 0, a, b, _ => by omega
  | n + 1, a, b, h => by
    by_cases e : i = n
    · exact List.mem_append.mpr (Or.inr (e ▸ h))
    · exact List.mem_append.mpr (Or.inl (mem_cat a (by omega) h))
/-! the tree of knots -/
def ls (σ : St) : Nat → Int → List (Int × Int × Int × Int × Int × Int)
  | 0, z => cat (fun k => [en σ z k]) (gI σ 577 z).toNat
  | l + 1, z => cat (fun k => ls σ l (be σ z k)) (gI σ 577 z).toNat
def kl (σ : St) : Nat → Int → List Int
  | 0, z => [z]
  | l + 1, z => z :: cat (fun k => kl σ l (be σ z k)) (gI σ 577 z).toNat
def nx (σ : St) (z k hi : Int) : Int := if k + 1 < gI σ 577 z then ky σ z (k + 1) else hi
/-- a knot of a level, with keys from lo on and below hi, mn of them or more -/
def WT (σ : St) : Nat → Int → Int → Int → Int → Int → Prop
  | 0, mn, mx, z, lo, hi => (0 ≤ z ∧ z < 640) ∧ gI σ 576 z = 0 ∧ (mn ≤ gI σ 577 z ∧ 0 ≤ gI σ 577 z ∧ gI σ 577 z ≤ mx) ∧ ∀ k, 0 ≤ k → k < gI σ 577 z → (lo ≤ ky σ z k ∧ ky σ z k < nx σ z k hi) ∧ be σ z k = -1
  | l + 1, mn, mx, z, lo, hi => (0 ≤ z ∧ z < 640) ∧ gI σ 576 z = l + 1 ∧ (mn ≤ gI σ 577 z ∧ 1 ≤ gI σ 577 z ∧ gI σ 577 z ≤ mx) ∧ ∀ k, 0 ≤ k → k < gI σ 577 z → (lo ≤ ky σ z k ∧ ky σ z k < nx σ z k hi) ∧ ky σ (be σ z k) 0 = ky σ z k ∧ WT σ l 4 8 (be σ z k) (ky σ z k) (nx σ z k hi)
def KE (σ τ : St) (x : Int) : Prop := gI τ 576 x = gI σ 576 x ∧ gI τ 577 x = gI σ 577 x ∧ ∀ k, en τ x k = en σ x k
theorem KE.fr {σ τ : St} {M : Nat → Int → Prop} {x : Int} (f : Fr M σ τ) (n : ∀ f, 576 ≤ f → f ≤ 583 → ¬ M f x) : KE σ τ x :=
  ⟨f.i _ _ (n _ (by decide) (by decide)), f.i _ _ (n _ (by decide) (by decide)), en_fr f (fun f' a b => n f' (Nat.le_trans (by decide) a) b)⟩
theorem KE.rf (σ : St) (x : Int) : KE σ σ x := ⟨rfl, rfl, fun _ => rfl⟩
theorem KE.tr {a b c : St} {x : Int} (h : KE a b x) (k : KE b c x) : KE a c x := ⟨k.1.trans h.1, k.2.1.trans h.2.1, fun i => (k.2.2 i).trans (h.2.2 i)⟩
theorem KE.k {σ τ : St} {x : Int} (h : KE σ τ x) (k : Int) : ky τ x k = ky σ x k := by unfold ky; rw [h.2.2]
theorem KE.b {σ τ : St} {x : Int} (h : KE σ τ x) (k : Int) : be τ x k = be σ x k := by unfold be; rw [h.2.2]
theorem KE.n {σ τ : St} {x : Int} (h : KE σ τ x) (k hi : Int) : nx τ x k hi = nx σ x k hi := by unfold nx; rw [h.2.1, h.k]
theorem kl_self (σ : St) : ∀ (l : Nat) (z : Int), z ∈ kl σ l z
  | 0, z => List.mem_cons_self
  | _ + 1, z => List.mem_cons_self
theorem kl_below {σ : St} {l : Nat} {z x k : Int} (k0 : 0 ≤ k) (k1 : k < gI σ 577 z) (h : x ∈ kl σ l (be σ z k)) : x ∈ kl σ (l + 1) z :=
  List.mem_cons_of_mem _ (mem_cat (f := fun k => kl σ l (be σ z k)) k0 (by omega) h)
theorem tr_fr {σ τ : St} : ∀ (l : Nat) (z : Int), (∀ x, x ∈ kl σ l z → KE σ τ x) → ls τ l z = ls σ l z ∧ kl τ l z = kl σ l z
  | 0, z, h => by
    have e := h z (kl_self σ 0 z)
    refine ⟨?_, rfl⟩
    show cat _ _ = cat _ _
    rw [e.2.1]
    exact cat_ext _ (fun i _ _ => by rw [e.2.2])
  | l + 1, z, h => by
    have e := h z (kl_self σ (l + 1) z)
    have ih : ∀ k, 0 ≤ k → k < ((gI σ 577 z).toNat : Int) → ls τ l (be σ z k) = ls σ l (be σ z k) ∧ kl τ l (be σ z k) = kl σ l (be σ z k) := fun k k0 k1 => tr_fr l _ (fun x hx => h x (kl_below k0 (by omega) hx))
    refine ⟨?_, ?_⟩
    · show cat _ _ = cat _ _
      rw [e.2.1]
      exact cat_ext _ (fun i a b => by rw [e.b]; exact (ih i a b).1)
    · show z :: cat _ _ = z :: cat _ _
      rw [e.2.1]
      congr 1
      exact cat_ext _ (fun i a b => by rw [e.b]; exact (ih i a b).2)
theorem WT.fr {σ τ : St} : ∀ {l : Nat} {mn mx z lo hi : Int}, WT σ l mn mx z lo hi → (∀ x, x ∈ kl σ l z → KE σ τ x) → WT τ l mn mx z lo hi
  | 0, mn, mx, z, lo, hi, h, q => by
    have e := q z (kl_self σ 0 z)
    obtain ⟨h1, h2, h3, h4⟩ := h
    refine ⟨h1, by rw [e.1]; exact h2, by rw [e.2.1]; exact h3, ?_⟩
    intro k k0 k1
    rw [e.k, e.n, e.b]
    rw [e.2.1] at k1
    exact h4 k k0 k1
  | l + 1, mn, mx, z, lo, hi, h, q => by
    have e := q z (kl_self σ (l + 1) z)
    obtain ⟨h1, h2, h3, h4⟩ := h
    refine ⟨h1, by rw [e.1]; exact h2, by rw [e.2.1]; exact h3, ?_⟩
    intro k k0 k1
    rw [e.2.1] at k1
    obtain ⟨g1, g2, g3⟩ := h4 k k0 k1
    rw [e.k, e.n, e.b, (q _ (kl_below k0 k1 (kl_self σ l _))).k]
    exact ⟨g1, g2, g3.fr (fun x hx => q x (kl_below k0 k1 hx))⟩
theorem WT.mono {σ : St} {l : Nat} {mn mn' mx mx' z lo lo' hi hi' : Int} (h : WT σ l mn mx z lo hi) (h1 : mn' ≤ mn) (h0 : mx ≤ mx') (h2 : lo' ≤ lo) (h3 : hi ≤ hi') : WT σ l mn' mx' z lo' hi' := by
  revert mn mn' mx mx' z lo lo' hi hi'
  induction l with
  | zero =>
    intro mn mn' mx mx' z lo lo' hi hi' h h1 h0 h2 h3
    obtain ⟨g1, g2, g3, g4⟩ := h
    refine ⟨g1, g2, by omega, fun k k0 k1 => ?_⟩
    obtain ⟨⟨w1, w2⟩, w3⟩ := g4 k k0 k1
    refine ⟨⟨by omega, ?_⟩, w3⟩
    unfold nx at w2 ⊢; split <;> split at w2 <;> omega
  | succ l ih =>
    intro mn mn' mx mx' z lo lo' hi hi' h h1 h0 h2 h3
    obtain ⟨g1, g2, g3, g4⟩ := h
    refine ⟨g1, g2, by omega, fun k k0 k1 => ?_⟩
    obtain ⟨⟨w1, w2⟩, w3, w4⟩ := g4 k k0 k1
    refine ⟨⟨by omega, ?_⟩, w3, ih w4 (Int.le_refl _) (Int.le_refl _) (Int.le_refl _) ?_⟩
    · unfold nx at w2 ⊢; split <;> split at w2 <;> omega
    · unfold nx; split <;> omega
theorem WT.cnt {σ : St} : ∀ {l : Nat} {mn mx z lo hi : Int}, WT σ l mn mx z lo hi → (0 ≤ z ∧ z < 640) ∧ gI σ 576 z = l ∧ mn ≤ gI σ 577 z ∧ 0 ≤ gI σ 577 z ∧ gI σ 577 z ≤ mx
  | 0, _, _, _, _, _, h => ⟨h.1, h.2.1, h.2.2.1.1, h.2.2.1.2.1, h.2.2.1.2.2⟩
  | l + 1, _, _, _, _, _, h => ⟨h.1, by rw [h.2.1]; omega, h.2.2.1.1, by have := h.2.2.1.2.1; omega, h.2.2.1.2.2⟩
theorem WT.key {σ : St} : ∀ {l : Nat} {mn mx z lo hi : Int}, WT σ l mn mx z lo hi → ∀ k, 0 ≤ k → k < gI σ 577 z → lo ≤ ky σ z k ∧ ky σ z k < nx σ z k hi
  | 0, _, _, _, _, _, h, k, k0, k1 => (h.2.2.2 k k0 k1).1
  | _ + 1, _, _, _, _, _, h, k, k0, k1 => (h.2.2.2 k k0 k1).1
theorem WT.ord {σ : St} {l : Nat} {mn mx z lo hi : Int} (h : WT σ l mn mx z lo hi) {i j : Int} (i0 : 0 ≤ i) (ij : i < j) (j1 : j < gI σ 577 z) : nx σ z i hi ≤ ky σ z j ∧ ky σ z i < ky σ z j := by
  have step : ∀ m : Nat, ∀ j : Int, j = i + 1 + m → j < gI σ 577 z → nx σ z i hi ≤ ky σ z j := by
    intro m
    induction m with
    | zero => intro j e j1; unfold nx; rw [if_pos (by omega), show i + 1 = j by omega]; exact Int.le_refl _
    | succ m ih =>
      intro j e j1
      have a := ih (j - 1) (by omega) (by omega)
      have b := (h.key (j - 1) (by omega) (by omega)).2
      unfold nx at b
      rw [if_pos (by omega), show j - 1 + 1 = j by omega] at b
      omega
  have s := step (j - i - 1).toNat j (by omega) j1
  exact ⟨s, by have := (h.key i i0 (by omega)).2; omega⟩
theorem WT.hi {σ : St} {l : Nat} {mn mx z lo hi : Int} (h : WT σ l mn mx z lo hi) {i : Int} (i0 : 0 ≤ i) (i1 : i < gI σ 577 z) : nx σ z i hi ≤ hi ∧ ky σ z i < hi := by
  by_cases e : i + 1 < gI σ 577 z
  · have a := h.ord (i := i) (j := gI σ 577 z - 1) i0 (by omega) (by omega)
    have b := (h.key (gI σ 577 z - 1) (by omega) (by omega)).2
    unfold nx at b
    rw [if_neg (by omega)] at b
    omega
  · have b := (h.key i i0 i1).2
    unfold nx at b ⊢
    rw [if_neg e] at b ⊢
    omega
/-- all keys of a knot and below it are in its range; all knots begin there -/
theorem WT.rng {σ : St} : ∀ {l : Nat} {mn mx z lo hi : Int}, WT σ l mn mx z lo hi → (∀ e, e ∈ ls σ l z → lo ≤ kyE e ∧ kyE e < hi)
  | 0, mn, mx, z, lo, hi, h, e, he => by
    obtain ⟨k, hk, hx⟩ := cat_mem he
    have e1 : e = en σ z k := List.mem_singleton.mp hx
    have k1 : k < gI σ 577 z := by have := h.cnt; omega
    rw [e1]
    exact ⟨(h.key k hk.1 k1).1, (h.hi hk.1 k1).2⟩
  | l + 1, mn, mx, z, lo, hi, h, e, he => by
    obtain ⟨k, hk, hx⟩ := cat_mem he
    have k1 : k < gI σ 577 z := by have := h.cnt; omega
    have g := (h.2.2.2 k hk.1 k1).2.2.rng e hx
    have a := h.key k hk.1 k1
    have b := h.hi hk.1 k1
    omega
theorem WT.krng {σ : St} : ∀ {l : Nat} {mn mx z lo hi : Int}, WT σ l mn mx z lo hi → 1 ≤ mn → (∀ x, x ∈ kl σ l z → (0 ≤ x ∧ x < 640) ∧ lo ≤ ky σ x 0 ∧ ky σ x 0 < hi)
  | 0, mn, mx, z, lo, hi, h, hm, x, hx => by
    have e : x = z := List.mem_singleton.mp hx
    have c := h.cnt
    rw [e]
    exact ⟨c.1, (h.key 0 (by omega) (by omega)).1, (h.hi (i := 0) (by omega) (by omega)).2⟩
  | l + 1, mn, mx, z, lo, hi, h, hm, x, hx => by
    have c := h.cnt
    rcases List.mem_cons.mp hx with e | hx
    · rw [e]
      exact ⟨c.1, (h.key 0 (by omega) (by omega)).1, (h.hi (i := 0) (by omega) (by omega)).2⟩
    · obtain ⟨k, hk, hx⟩ := cat_mem hx
      have k1 : k < gI σ 577 z := by omega
      have g := (h.2.2.2 k hk.1 k1).2.2.krng (by omega) x hx
      have a := h.key k hk.1 k1
      have b := h.hi hk.1 k1
      exact ⟨g.1, by omega, by omega⟩
theorem WT.klev {σ : St} : ∀ {l : Nat} {mn mx z lo hi : Int}, WT σ l mn mx z lo hi → ∀ x, x ∈ kl σ l z → gI σ 576 x ≤ l
  | 0, mn, mx, z, lo, hi, h, x, hx => by
    have e : x = z := List.mem_singleton.mp hx
    rw [e, h.2.1]; exact Int.le_refl _
  | l + 1, mn, mx, z, lo, hi, h, x, hx => by
    rcases List.mem_cons.mp hx with e | hx
    · rw [e, h.2.1]; omega
    · obtain ⟨k, hk, hx⟩ := cat_mem hx
      have k1 : k < gI σ 577 z := by have := h.cnt; omega
      have := (h.2.2.2 k hk.1 k1).2.2.klev x hx
      omega
/-- knots below two places of one knot are others -/
theorem WT.dis {σ : St} {l : Nat} {mn mx z lo hi : Int} (h : WT σ (l + 1) mn mx z lo hi) {i j x : Int} (i0 : 0 ≤ i) (i1 : i < gI σ 577 z) (j0 : 0 ≤ j) (j1 : j < gI σ 577 z) (ij : i ≠ j) (hx : x ∈ kl σ l (be σ z i)) : x ∉ kl σ l (be σ z j) := by
  intro hy
  have a := (h.2.2.2 i i0 i1).2.2.krng (by omega) x hx
  have b := (h.2.2.2 j j0 j1).2.2.krng (by omega) x hy
  rcases Int.lt_or_gt_of_ne ij with q | q
  · have := (h.ord i0 q j1).1
    omega
  · have := (h.ord j0 q i1).1
    omega
theorem WT.top {σ : St} {l : Nat} {mn mx z lo hi : Int} (h : WT σ (l + 1) mn mx z lo hi) {i : Int} (i0 : 0 ≤ i) (i1 : i < gI σ 577 z) : z ∉ kl σ l (be σ z i) := by
  intro hy
  have a := (h.2.2.2 i i0 i1).2.2.klev z hy
  have b := h.2.1
  omega
