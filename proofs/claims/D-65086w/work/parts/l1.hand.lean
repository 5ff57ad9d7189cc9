/-! Store.hand: a group goes into the journal -/
theorem cat1_nth {f : Int → Int} : ∀ (n i : Nat), i < n → (cat1 f n)[i]? = some (f i)
  | 0, i, h => absurd h (Nat.not_lt_zero _)
  | n + 1, i, h => by
    rw [cat1_S]
    by_cases q : i < n
    · rw [List.getElem?_append_left (by rw [cat1_len]; exact q)]
      exact cat1_nth n i q
    · have e : i = n := by omega
      rw [List.getElem?_append_right (by rw [cat1_len]; omega), cat1_len, e, Nat.sub_self]
      rfl
theorem cat1_drop {E F : Int → Int} {g : Nat} : ∀ m : Nat, (∀ i : Int, 0 ≤ i → i < m → E i = F (i + g)) → cat1 E m = (cat1 F (m + g)).drop g
  | 0, _ => by
    rw [Nat.zero_add, List.drop_eq_nil_of_le (by rw [cat1_len]; exact Nat.le_refl _)]
    rfl
  | m + 1, h => by
    rw [show m + 1 + g = (m + g) + 1 by omega, cat1_S, cat1_S, List.drop_append_of_le_length (by rw [cat1_len]; omega), ← cat1_drop m (fun i a b => h i a (by omega))]
    congr 2
    have := h m (by omega) (by omega)
    rw [this]
    congr 1
theorem split_at {α : Type} : ∀ (l : List α) (n : Nat), n < l.length → ∃ A x C, l = A ++ x :: C ∧ A.length = n
  | [], n, h => absurd h (Nat.not_lt_zero _)
  | y :: l, 0, _ => ⟨[], y, l, rfl, rfl⟩
  | y :: l, n + 1, h => by
    obtain ⟨A, x, C, a, b⟩ := split_at l n (by rw [List.length_cons] at h; omega)
    exact ⟨y :: A, x, C, by rw [a]; rfl, by rw [List.length_cons, b]⟩
theorem laE_take {W : List (Int × (List (Int × Int × Int × (Int → Int)) × Int))} {a lim : Int} {k : Nat} (ha : a ≤ lim) (h : ∀ x, x ∈ W.take k → x.1 ≤ lim) : laE a (W.take k) ≤ lim := by
  have key : ∀ (V : List (Int × (List (Int × Int × Int × (Int → Int)) × Int))) (a : Int), a ≤ lim → (∀ x, x ∈ V → x.1 ≤ lim) → laE a V ≤ lim := by
    intro V
    induction V with
    | nil => intro a q _; exact q
    | cons x V ih => intro a _ w; exact ih x.1 (w x List.mem_cons_self) (fun y hy => w y (List.mem_cons_of_mem _ hy))
  exact key _ a ha h
/-- the two loops: how many groups are safe now; the others move up -/
theorem sp_gone {tv : Nat → Int} {cf : Cf} {σ : St} {safe r : Int} {W : List (Int × (List (Int × Int × Int × (Int → Int)) × Int))} {Q : St → Prop} (hrk : RK σ) (hw : gI σ 205 0 = W.length) (hf : W.length ≤ 100) (he : cat1 (gA σ 204 0) W.length = W.map (fun x => x.1)) (hinc : ∀ A x C, W = A ++ x :: C → ∀ y, y ∈ C → x.1 < y.1)
    (hQ : ∀ (k : Nat) τ, k ≤ W.length → (∀ x, x ∈ W.take k → x.1 ≤ safe) → (∀ x, x ∈ W.drop k → safe < x.1) → gI τ 205 0 = (W.drop k).length → cat1 (gA τ 204 0) (W.drop k).length = (W.drop k).map (fun x => x.1) → Fr (fun f o' => (f = 205 ∨ f = 204) ∧ o' = 0) σ τ → RK τ → Q τ) : lQ2 (wp_Store_hand_L103 cf tv 0 r Q) safe 0 σ := by
  have at1 : ∀ A x C, W = A ++ x :: C → gA σ 204 0 A.length = x.1 := fun A x C e => by
    have a := cat1_nth (f := gA σ 204 0) W.length A.length (by rw [e, List.length_append, List.length_cons]; omega)
    rw [he, e, List.map_append, List.getElem?_append_right (by rw [List.length_map]; exact Nat.le_refl _), List.length_map, Nat.sub_self] at a
    exact (Option.some.inj a).symm
  -- behind the first loop
  have snd : ∀ k : Nat, k ≤ W.length → (∀ x, x ∈ W.take k → x.1 ≤ safe) → (∀ x, x ∈ W.drop k → safe < x.1) → wp_Store_hand_b127 cf tv 0 r Q k σ := by
    intro k k1 t1 t2
    unfold wp_Store_hand_b127
    refine lQ2_rule (fun z3 z4 τ => z3 = k ∧ (k ≤ z4 ∧ z4 ≤ W.length) ∧ Fr (fun f o' => f = 204 ∧ o' = 0) σ τ ∧ RK τ ∧ ∀ i, 0 ≤ i → gA τ 204 0 i = if i < z4 - k then gA σ 204 0 (i + k) else gA σ 204 0 i) (fun _ z4 _ => (W.length - z4).toNat) ?_ k k σ ⟨rfl, ⟨by omega, by omega⟩, Fr.rf _ _, hrk, fun i i0 => by rw [if_neg (by omega)]⟩
    intro K z3 z4 τ hI hK
    obtain ⟨e3, ⟨l1, l2⟩, f1, rk, ee⟩ := hI
    have wt : gI τ 205 0 = W.length := by rw [f1.i _ _ (fun q => by omega)]; exact hw
    rw [e3]
    unfold wp_Store_hand_L130
    rw [wt]
    refine ⟨fun q σ58 e58 => ?_, fun q => ⟨⟨by omega, by omega⟩, ?_⟩⟩
    · rw [w32_id (by unfold rI; omega)] at e58
      have dl : ((W.drop k).length : Int) = W.length - k := by rw [List.length_drop]; omega
      refine hQ k σ58 k1 t1 t2 (by rw [e58, gI_sI1, dl]) ?_ ((f1.mono (fun f o' q => ⟨Or.inr q.1, q.2⟩)).tr (by rw [e58]; exact (Fr.rf _ _).sI ⟨Or.inl rfl, rfl⟩)) (by rw [e58]; exact rk.sI (by show rI _; unfold rI; omega))
      have a := cat1_drop (E := gA σ58 204 0) (F := gA σ 204 0) (g := k) (W.drop k).length (fun i i0 i1 => by
        rw [e58]
        show gA τ 204 0 i = _
        rw [ee i i0, if_pos (by omega)])
      rw [a, show (W.drop k).length + k = W.length by rw [List.length_drop]; omega, he, List.map_drop]
    · rw [w32_id (x := z4 - k) (by unfold rI; omega)]
      refine ⟨⟨by omega, by omega⟩, fun σ59 e59 z4' e4 => ?_⟩
      rw [w32_id (by unfold rI; omega)] at e4
      rw [e4]
      refine hK _ _ _ ⟨rfl, ⟨by omega, by omega⟩, by rw [e59]; exact f1.sA ⟨rfl, rfl⟩, by rw [e59]; exact rk.sA (rk.2 _ _ _), fun i i0 => ?_⟩ (by omega)
      rw [e59, gA_sA]
      by_cases e : i = z4 - k
      · rw [if_pos ⟨rfl, rfl, e⟩, if_pos (by omega), ee z4 (by omega), if_neg (by omega)]
        congr 1
        omega
      · rw [if_neg (fun w => e w.2.2), ee i i0]
        by_cases w : i < z4 - k
        · rw [if_pos w, if_pos (by omega)]
        · rw [if_neg w, if_neg (by omega)]
  refine lQ2_rule (fun z2 z3 τ => τ = σ ∧ z2 = safe ∧ (0 ≤ z3 ∧ z3 ≤ W.length) ∧ ∀ x, x ∈ W.take z3.toNat → x.1 ≤ safe) (fun _ z3 _ => (W.length - z3).toNat) ?_ safe 0 σ ⟨rfl, rfl, ⟨by omega, by omega⟩, fun x hx => absurd hx List.not_mem_nil⟩
  intro K z2 z3 τ hI hK
  obtain ⟨rfl, rfl, ⟨l1, l2⟩, tk⟩ := hI
  have zn : ((z3.toNat : Nat) : Int) = z3 := by omega
  unfold wp_Store_hand_L103
  rw [hw]
  refine ⟨fun q => ?_, fun q => ⟨⟨by omega, by omega⟩, fun q2 => ?_, fun q2 z3' e3 => ?_⟩⟩
  · have := snd z3.toNat (by omega) tk (fun x hx => by
      rw [List.drop_eq_nil_of_le (by omega)] at hx
      exact absurd hx List.not_mem_nil)
    rw [zn] at this
    exact this
  · obtain ⟨A, x, C, e, el⟩ := split_at W z3.toNat (by omega)
    have ax := at1 A x C e
    rw [el, zn] at ax
    have := snd z3.toNat (by omega) tk (fun y hy => by
      rw [e, ← el, List.drop_left] at hy
      rcases List.mem_cons.mp hy with w | w
      · rw [w]; omega
      · have := hinc A x C e y w
        omega)
    rw [zn] at this
    exact this
  · obtain ⟨A, x, C, e, el⟩ := split_at W z3.toNat (by omega)
    have ax := at1 A x C e
    rw [el, zn] at ax
    rw [w32_id (by unfold rI; omega)] at e3
    rw [e3]
    refine hK _ _ _ ⟨rfl, rfl, ⟨by omega, by omega⟩, fun y hy => ?_⟩ (by omega)
    rw [show (z3 + 1).toNat = A.length + 1 by omega, e, show A ++ x :: C = (A ++ [x]) ++ C by rw [List.append_assoc]; rfl, show A.length + 1 = (A ++ [x]).length by rw [List.length_append]; rfl, List.take_left] at hy
    rcases List.mem_append.mp hy with w | w
    · refine tk y ?_
      rw [e, ← el, List.take_left]; exact w
    · rw [List.mem_singleton.mp w]; omega
