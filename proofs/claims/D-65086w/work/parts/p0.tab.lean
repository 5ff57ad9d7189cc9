/-! the reference's tables as rows -/
def tab {α : Type} (f : Int → α) : Nat → List α
  | 0 => []
  | n + 1 => tab f n ++ [f n]
theorem tab_len {α : Type} (f : Int → α) : ∀ n : Nat, (tab f n).length = n
  | 0 => rfl
  | n + 1 => by
    show (tab f n ++ [f n]).length = n + 1
    rw [List.length_append, tab_len f n]; rfl
theorem tab_ext {α : Type} {f g : Int → α} : ∀ n : Nat, (∀ i : Int, 0 ≤ i → i < n → f i = g i) → tab f n = tab g n
  | 0, _ => rfl
  | n + 1, h => by
    show tab f n ++ [f n] = tab g n ++ [g n]
    rw [tab_ext n (fun i a b => h i a (by omega)), h n (by omega) (by omega)]
theorem tab_mem {α : Type} {f : Int → α} {x : α} : ∀ n : Nat, x ∈ tab f n ↔ ∃ i : Int, 0 ≤ i ∧ i < n ∧ f i = x
  | 0 => ⟨fun h => absurd h List.not_mem_nil, fun ⟨i, a, b, _⟩ => by omega⟩
  | n + 1 => by
    show x ∈ tab f n ++ [f n] ↔ _
    rw [List.mem_append, tab_mem n, List.mem_singleton]
    constructor
    · rintro (⟨i, a, b, c⟩ | h)
      · exact ⟨i, a, by omega, c⟩
      · exact ⟨n, by omega, by omega, h.symm⟩
    · rintro ⟨i, a, b, c⟩
      by_cases e : i = n
      · right; rw [← c, e]
      · exact Or.inl ⟨i, a, by omega, c⟩
theorem tab_upd {α : Type} {f : Int → α} {y : Int} {v : α} : ∀ n : Nat, 0 ≤ y → y < n → (f y :: tab (fun j => if j = y then v else f j) n).Perm (v :: tab f n)
  | 0, h0, h1 => by omega
  | n + 1, h0, h1 => by
    show (f y :: (tab (fun j => if j = y then v else f j) n ++ [if (n : Int) = y then v else f n])).Perm (v :: (tab f n ++ [f n]))
    by_cases e : (n : Int) = y
    · rw [if_pos e, tab_ext (f := fun j => if j = y then v else f j) (g := f) n (fun i a b => by show (if i = y then v else f i) = f i; rw [if_neg (by omega)]), e]
      refine (List.Perm.cons _ (List.perm_append_singleton v _)).trans ?_
      refine (List.Perm.swap v (f y) _).trans (List.Perm.cons _ ?_)
      exact (List.perm_append_singleton (f y) _).symm
    · rw [if_neg e]
      have ih := tab_upd (f := f) (v := v) n h0 (by omega)
      have a := ih.append_right [f n]
      exact a
theorem tab_add {α : Type} (f : Int → α) (n : Nat) : (tab f (n + 1)).Perm (f n :: tab f n) := List.perm_append_singleton _ _
/-- the last row goes to where one is dropped -/
theorem tab_drop {α : Type} {f : Int → α} {y : Int} {n : Nat} (h0 : 0 ≤ y) (h1 : y < n + 1) : (f y :: tab (fun j => if j = y then f n else f j) n).Perm (tab f (n + 1)) := by
  by_cases e : y = n
  · rw [tab_ext (f := fun j => if j = y then f n else f j) (g := f) n (fun i a b => by show (if i = y then f n else f i) = f i; rw [if_neg (by omega)]), e]
    exact (tab_add f n).symm
  · exact (tab_upd n h0 (by omega)).trans (tab_add f n).symm
theorem tab_filter {α : Type} {f : Int → α} {p : α → Bool} {n : Nat} : (tab f (n + 1)).filter p = (tab f n).filter p ++ (if p (f n) = true then [f n] else []) := by
  show (tab f n ++ [f n]).filter p = _
  rw [List.filter_append, List.filter_cons, List.filter_nil]
/-- fields of the reference's trees -/
def mMt (f : Nat) (o' : Int) : Prop := (712 ≤ f ∧ f ≤ 729) ∧ o' = 0
def mnR (σ : St) (t : Int) : Int → Int × Int × Int := fun i => (gA σ 714 0 (700 * t + i), gA σ 715 0 (700 * t + i), gA σ 716 0 (700 * t + i))
def meR (σ : St) (t : Int) : Int → Int × Int × Int := fun i => (gA σ 718 0 (700 * t + i), gA σ 719 0 (700 * t + i), gA σ 720 0 (700 * t + i))
def maR (σ : St) (t : Int) : Int → Int × Int × Int := fun i => (gA σ 722 0 (700 * t + i), gA σ 723 0 (700 * t + i), gA σ 724 0 (700 * t + i))
def mpR (σ : St) (t : Int) : Int → Int × Int × Int × (Int → Int) := fun i => (gA σ 726 0 (720 * t + i), gA σ 727 0 (720 * t + i), gA σ 728 0 (720 * t + i), fun j => if 0 ≤ j ∧ j < 64 then gA σ 729 0 (64 * (720 * t + i) + j) else 0)
def mnd (σ : St) (t : Int) : List (Int × Int × Int) := tab (mnR σ t) (gA σ 713 0 t).toNat
def men (σ : St) (t : Int) : List (Int × Int × Int) := tab (meR σ t) (gA σ 717 0 t).toNat
def mat (σ : St) (t : Int) : List (Int × Int × Int) := tab (maR σ t) (gA σ 721 0 t).toNat
def mpc (σ : St) (t : Int) : List (Int × Int × Int × (Int → Int)) := tab (mpR σ t) (gA σ 725 0 t).toNat
/-- tree t has such rows -/
def TR (σ : St) (t : Int) (N E A : List (Int × Int × Int)) (P : List (Int × Int × Int × (Int → Int))) (nx : Int) : Prop := ((0 ≤ gA σ 713 0 t ∧ 0 ≤ gA σ 717 0 t) ∧ 0 ≤ gA σ 721 0 t ∧ 0 ≤ gA σ 725 0 t) ∧ (mnd σ t).Perm N ∧ (men σ t).Perm E ∧ (mat σ t).Perm A ∧ (mpc σ t).Perm P ∧ gA σ 712 0 t = nx
/-- they fit -/
def FT (N E A : List (Int × Int × Int)) (P : List (Int × Int × Int × (Int → Int))) : Prop := (N.length ≤ 699 ∧ E.length ≤ 699) ∧ A.length ≤ 699 ∧ P.length ≤ 719
theorem TR.n {σ : St} {t nx : Int} {N E A : List (Int × Int × Int)} {P : List (Int × Int × Int × (Int → Int))} (h : TR σ t N E A P nx) : gA σ 713 0 t = N.length ∧ gA σ 717 0 t = E.length ∧ gA σ 721 0 t = A.length ∧ gA σ 725 0 t = P.length := by
  obtain ⟨⟨⟨a1, a2⟩, a3, a4⟩, b1, b2, b3, b4, -⟩ := h
  have c1 := b1.length_eq
  have c2 := b2.length_eq
  have c3 := b3.length_eq
  have c4 := b4.length_eq
  unfold mnd at c1
  unfold men at c2
  unfold mat at c3
  unfold mpc at c4
  rw [tab_len] at c1 c2 c3 c4
  omega
/-- the other tree is as it was -/
def OT (σ τ : St) (t : Int) : Prop := Fr mMt σ τ ∧ (∀ f, (f = 712 ∨ f = 713 ∨ f = 717 ∨ f = 721 ∨ f = 725) → ∀ u, u ≠ t → gA τ f 0 u = gA σ f 0 u) ∧ (∀ f i, ((714 ≤ f ∧ f ≤ 716) ∨ (718 ≤ f ∧ f ≤ 720) ∨ (722 ≤ f ∧ f ≤ 724)) → (i < 700 * t ∨ 700 * t + 700 ≤ i) → gA τ f 0 i = gA σ f 0 i) ∧ (∀ f i, (726 ≤ f ∧ f ≤ 728) → (i < 720 * t ∨ 720 * t + 720 ≤ i) → gA τ f 0 i = gA σ f 0 i) ∧ ∀ i, (i < 46080 * t ∨ 46080 * t + 46080 ≤ i) → gA τ 729 0 i = gA σ 729 0 i
theorem OT.rf (σ : St) (t : Int) : OT σ σ t := ⟨Fr.rf _ _, fun _ _ _ _ => rfl, fun _ _ _ _ => rfl, fun _ _ _ _ => rfl, fun _ _ => rfl⟩
theorem OT.tr {a b c : St} {t : Int} (h : OT a b t) (k : OT b c t) : OT a c t := by
  obtain ⟨h1, h2, h3, h4, h5⟩ := h
  obtain ⟨k1, k2, k3, k4, k5⟩ := k
  exact ⟨h1.tr k1, fun f hf u hu => (k2 f hf u hu).trans (h2 f hf u hu), fun f i hf hi => (k3 f i hf hi).trans (h3 f i hf hi), fun f i hf hi => (k4 f i hf hi).trans (h4 f i hf hi), fun i hi => (k5 i hi).trans (h5 i hi)⟩
/-- one cell of tree t is written -/
def inT (t : Int) (f : Nat) (i : Int) : Prop := ((f = 712 ∨ f = 713 ∨ f = 717 ∨ f = 721 ∨ f = 725) ∧ i = t) ∨ (((714 ≤ f ∧ f ≤ 716) ∨ (718 ≤ f ∧ f ≤ 720) ∨ (722 ≤ f ∧ f ≤ 724)) ∧ 700 * t ≤ i ∧ i < 700 * t + 700) ∨ ((726 ≤ f ∧ f ≤ 728) ∧ 720 * t ≤ i ∧ i < 720 * t + 720) ∨ (f = 729 ∧ 46080 * t ≤ i ∧ i < 46080 * t + 46080)
theorem OT.sA {σ τ : St} {t : Int} (h : OT σ τ t) {f : Nat} {i v : Int} (hi : inT t f i) : OT σ (sA τ f 0 i v) t := by
  refine h.tr ⟨(Fr.rf _ _).sA ?_, fun g hg u hu => ?_, fun g j hg hj => ?_, fun g j hg hj => ?_, fun j hj => ?_⟩
  · unfold inT at hi
    exact ⟨by omega, rfl⟩
  · rw [gA_sA, if_neg]
    rintro ⟨e1, -, e2⟩
    unfold inT at hi
    omega
  · rw [gA_sA, if_neg]
    rintro ⟨e1, -, e2⟩
    unfold inT at hi
    omega
  · rw [gA_sA, if_neg]
    rintro ⟨e1, -, e2⟩
    unfold inT at hi
    omega
  · rw [gA_sA, if_neg]
    rintro ⟨e1, -, e2⟩
    unfold inT at hi
    omega
theorem OT.tr2 {σ τ : St} {t u nx : Int} {N E A : List (Int × Int × Int)} {P : List (Int × Int × Int × (Int → Int))} (h : OT σ τ t) (hu : u ≠ t) (ht : (t = 0 ∨ t = 1) ∧ (u = 0 ∨ u = 1)) (hT : TR σ u N E A P nx) (hF : FT N E A P) : TR τ u N E A P nx := by
  have nn := hT.n
  obtain ⟨h1, h2, h3, h4, h5⟩ := h
  obtain ⟨⟨⟨a1, a2⟩, a3, a4⟩, b1, b2, b3, b4, b5⟩ := hT
  obtain ⟨⟨f1, f2⟩, f3, f4⟩ := hF
  have c1 := h2 713 (by omega) u hu
  have c2 := h2 717 (by omega) u hu
  have c3 := h2 721 (by omega) u hu
  have c4 := h2 725 (by omega) u hu
  have c5 := h2 712 (by omega) u hu
  refine ⟨⟨⟨by omega, by omega⟩, by omega, by omega⟩, ?_, ?_, ?_, ?_, by rw [c5]; exact b5⟩
  · unfold mnd at b1 ⊢
    rw [c1, tab_ext (g := mnR σ u) _ (fun i i0 i1 => ?_)]
    · exact b1
    · unfold mnR
      rw [h3 714 _ (by omega) (by omega), h3 715 _ (by omega) (by omega), h3 716 _ (by omega) (by omega)]
  · unfold men at b2 ⊢
    rw [c2, tab_ext (g := meR σ u) _ (fun i i0 i1 => ?_)]
    · exact b2
    · unfold meR
      rw [h3 718 _ (by omega) (by omega), h3 719 _ (by omega) (by omega), h3 720 _ (by omega) (by omega)]
  · unfold mat at b3 ⊢
    rw [c3, tab_ext (g := maR σ u) _ (fun i i0 i1 => ?_)]
    · exact b3
    · unfold maR
      rw [h3 722 _ (by omega) (by omega), h3 723 _ (by omega) (by omega), h3 724 _ (by omega) (by omega)]
  · unfold mpc at b4 ⊢
    rw [c4, tab_ext (g := mpR σ u) _ (fun i i0 i1 => ?_)]
    · exact b4
    · unfold mpR
      rw [h4 726 _ (by omega) (by omega), h4 727 _ (by omega) (by omega), h4 728 _ (by omega) (by omega)]
      congr 3
      funext j
      by_cases q : 0 ≤ j ∧ j < 64
      · rw [if_pos q, if_pos q, h5 _ (by omega)]
      · rw [if_neg q, if_neg q]
theorem TR.fr {σ τ : St} {t nx : Int} {N E A : List (Int × Int × Int)} {P : List (Int × Int × Int × (Int → Int))} {M : Nat → Int → Prop} (h : TR σ t N E A P nx) (f : Fr M σ τ) (n : ∀ g, 712 ≤ g → g ≤ 729 → ¬ M g 0) : TR τ t N E A P nx := by
  have e : ∀ g, 712 ≤ g → g ≤ 729 → gA τ g 0 = gA σ g 0 := fun g a b => f.a _ _ (n g a b)
  unfold TR mnd men mat mpc mnR meR maR mpR
  rw [e 713 (by decide) (by decide), e 717 (by decide) (by decide), e 721 (by decide) (by decide), e 725 (by decide) (by decide), e 712 (by decide) (by decide), e 714 (by decide) (by decide), e 715 (by decide) (by decide), e 716 (by decide) (by decide), e 718 (by decide) (by decide), e 719 (by decide) (by decide), e 720 (by decide) (by decide), e 722 (by decide) (by decide), e 723 (by decide) (by decide), e 724 (by decide) (by decide), e 726 (by decide) (by decide), e 727 (by decide) (by decide), e 728 (by decide) (by decide), e 729 (by decide) (by decide)]
  exact h
