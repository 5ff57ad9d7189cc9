/-! names, in both -/
def nmK (x n : Int) : Prop := ∀ k, 0 ≤ k → k < n → bt x k ≠ 47 ∧ (bt x k ≠ 0 → ∀ j, 0 ≤ j → j < k → bt x j ≠ 0)
def zrK (x n : Int) : Prop := ∃ j, 0 ≤ j ∧ j < n ∧ bt x j = 0
theorem nmK_S {x n : Int} (h0 : 0 ≤ n) : nmK x (n + 1) ↔ nmK x n ∧ bt x n ≠ 47 ∧ (bt x n ≠ 0 → ¬ zrK x n) := by
  constructor
  · intro h
    refine ⟨fun k k0 k1 => h k k0 (by omega), (h n h0 (by omega)).1, fun q ⟨j, j0, j1, j2⟩ => (h n h0 (by omega)).2 q j j0 j1 j2⟩
  · rintro ⟨a, b, c⟩ k k0 k1
    by_cases e : k = n
    · rw [e]; exact ⟨b, fun q j j0 j1 j2 => c q ⟨j, j0, j1, j2⟩⟩
    · exact a k k0 (by omega)
theorem zrK_S {x n : Int} (h0 : 0 ≤ n) : zrK x (n + 1) ↔ zrK x n ∨ bt x n = 0 := by
  constructor
  · rintro ⟨j, a, b, c⟩
    by_cases e : j = n
    · rw [e] at c; exact Or.inr c
    · exact Or.inl ⟨j, a, by omega, c⟩
  · rintro (⟨j, a, b, c⟩ | c)
    · exact ⟨j, a, by omega, c⟩
    · exact ⟨n, h0, by omega, c⟩
theorem nmV_K {x : Int} : nmV x ↔ bt x 0 ≠ 0 ∧ nmK x 8 := Iff.rfl
theorem ior00 : ior 0 0 = 0 := by decide
theorem ior01 : ior 0 1 = 1 := by decide
theorem ior10 : ior 1 0 = 1 := by decide
theorem ior11 : ior 1 1 = 1 := by decide
theorem sp_HisName {tv : Nat → Int} {cf : Cf} {σ : St} {x : Int} {Q : Int → St → Prop} (h1 : nmV x → Q 1 σ) (h0 : ¬ nmV x → Q 0 σ) : wp_House_isName cf tv x Q σ := by
  unfold wp_House_isName
  intro y3 e3
  rw [bt0] at e3
  refine lQ3_rule (fun a b c τ => τ = σ ∧ (0 ≤ c ∧ c ≤ 8) ∧ ((a = 1 ∧ zrK x c) ∨ (a = 0 ∧ ¬ zrK x c)) ∧ ((b = 1 ∧ bt x 0 ≠ 0 ∧ nmK x c) ∨ (b = 0 ∧ ¬ (bt x 0 ≠ 0 ∧ nmK x c)))) (fun _ _ c _ => (8 - c).toNat) ?_ 0 y3 0 σ ⟨rfl, by omega, Or.inr ⟨rfl, fun ⟨j, a, b, _⟩ => by omega⟩, ?_⟩
  · intro K a b c τ hI hK
    obtain ⟨et, hc, ha, hb⟩ := hI
    subst et
    unfold wp_House_isName_L21
    refine ⟨fun q => ?_, fun q => ⟨fun z => ?_, fun z y5 e5 a' ea => ?_⟩⟩
    · have e : c = 8 := by omega
      rw [e] at hb
      rcases hb with ⟨u, v⟩ | ⟨u, v⟩
      · rw [u]; exact h1 v
      · rw [u]; exact h0 v
    · rcases hb with ⟨u, v⟩ | ⟨u, v⟩
      · omega
      · rw [u]; exact h0 (fun w => v ⟨w.1, fun k k0 k1 => w.2 k k0 (by omega)⟩)
    · rw [bt_h (by omega)] at e5
      have hb1 : bt x 0 ≠ 0 ∧ nmK x c := by
        rcases hb with ⟨u, v⟩ | ⟨u, v⟩
        · exact v
        · exact absurd u z
      have ha' : (a' = 1 ∧ zrK x (c + 1)) ∨ (a' = 0 ∧ ¬ zrK x (c + 1)) := by
        rw [zrK_S hc.1, ← e5]
        rcases ha with ⟨u, v⟩ | ⟨u, v⟩
        · left
          refine ⟨?_, Or.inl v⟩
          rw [ea, u]; split
          · exact ior11
          · exact ior10
        · by_cases w : y5 = 0
          · left
            refine ⟨?_, Or.inr w⟩
            rw [ea, u, if_pos w]; exact ior01
          · right
            refine ⟨?_, fun y => y.elim v w⟩
            rw [ea, u, if_neg w]; exact ior00
      have go : ∀ t, ((t = 1 ∧ bt x 0 ≠ 0 ∧ nmK x (c + 1)) ∨ (t = 0 ∧ ¬ (bt x 0 ≠ 0 ∧ nmK x (c + 1)))) → wp_House_isName_b80 cf tv x Q K a' c t τ := by
        intro t ht
        unfold wp_House_isName_b80
        intro c' ec
        rw [w32_id (by unfold rI; omega)] at ec
        rw [ec]
        exact hK a' t (c + 1) τ ⟨rfl, by omega, ha', ht⟩ (by omega)
      rw [nmK_S hc.1, ← e5] at go
      unfold wp_House_isName_b79 wp_House_isName_b75
      refine ⟨fun w => go 0 (Or.inr ⟨rfl, fun y => y.2.2.1 w⟩), fun w => ⟨fun v => go 1 (Or.inl ⟨rfl, hb1.1, hb1.2, w, fun y => absurd v y⟩), fun v => ⟨fun u => go 0 (Or.inr ⟨rfl, fun y => ?_⟩), fun u => go 1 (Or.inl ⟨rfl, hb1.1, hb1.2, w, fun _ => ?_⟩)⟩⟩⟩
      · rcases ha' with ⟨_, p⟩ | ⟨p, _⟩
        · rw [zrK_S hc.1, ← e5] at p
          exact p.elim (y.2.2.2 v) v
        · exact u p
      · rcases ha' with ⟨p, _⟩ | ⟨_, p⟩
        · omega
        · rw [zrK_S hc.1] at p
          exact fun y => p (Or.inl y)
  · rw [e3]
    by_cases w : bt x 0 = 0
    · rw [if_pos w]; exact Or.inr ⟨rfl, fun y => y.1 w⟩
    · rw [if_neg w]; exact Or.inl ⟨rfl, w, fun k k0 k1 => by omega⟩
theorem nm_not0 {x : Int} (hx : rJ x) : (x ≠ 0 ∧ nmK x 8) ↔ nmV x := by
  constructor
  · rintro ⟨a, b⟩
    refine ⟨fun z => a ?_, b⟩
    refine bt_inj hx (by unfold rJ; omega) (fun k k0 k1 => ?_)
    have z0 : bt 0 k = 0 := by
      unfold bt
      rw [Int.zero_ediv]; rfl
    rw [z0]
    apply Classical.byContradiction
    intro w
    by_cases e : k = 0
    · rw [e] at w; exact w z
    · exact (b k k0 k1).2 w 0 (by omega) (by omega) z
  · rintro ⟨a, b⟩
    refine ⟨fun z => a ?_, b⟩
    rw [z]
    unfold bt
    rw [Int.zero_ediv]; rfl
theorem sp_MisName {tv : Nat → Int} {cf : Cf} {σ : St} {x : Int} {Q : Int → St → Prop} (hrk : RK σ) (hx : rJ x) (h1 : nmV x → Q 1 σ) (h0 : ¬ nmV x → Q 0 σ) : wp_Model_isName cf tv x Q σ := by
  unfold wp_Model_isName
  intro y2 e2
  refine lQ3_rule (fun b a c τ => τ = σ ∧ (0 ≤ c ∧ c ≤ 8) ∧ ((a = 1 ∧ zrK x c) ∨ (a = 0 ∧ ¬ zrK x c)) ∧ ((b = 1 ∧ x ≠ 0 ∧ nmK x c) ∨ (b = 0 ∧ ¬ (x ≠ 0 ∧ nmK x c)))) (fun _ _ c _ => (8 - c).toNat) ?_ y2 0 0 σ ⟨rfl, by omega, Or.inr ⟨rfl, fun ⟨j, a, b, _⟩ => by omega⟩, ?_⟩
  · intro K b a c τ hI hK
    obtain ⟨et, hc, ha, hb⟩ := hI
    subst et
    unfold wp_Model_isName_L17
    refine ⟨fun q => ?_, fun q => ?_⟩
    · have e : c = 8 := by omega
      rw [e, nm_not0 hx] at hb
      rcases hb with ⟨u, v⟩ | ⟨u, v⟩
      · rw [u]; exact h1 v
      · rw [u]; exact h0 v
    · unfold wp_Model_letter
      rw [bt_m hx (by omega)]
      intro _ _
      have go : ∀ t, ((t = 1 ∧ x ≠ 0 ∧ nmK x (c + 1)) ∨ (t = 0 ∧ ¬ (x ≠ 0 ∧ nmK x (c + 1)))) → wp_Model_isName_b57 cf tv x Q K a c (bt x c) t τ := by
        intro t ht
        unfold wp_Model_isName_b57 wp_Model_isName_b67
        have nx : ∀ a', ((a' = 1 ∧ zrK x (c + 1)) ∨ (a' = 0 ∧ ¬ zrK x (c + 1))) → wp_Model_isName_b72 cf tv x Q K t c a' τ := by
          intro a' ha'
          unfold wp_Model_isName_b72
          intro c' ec
          rw [w32_id (by unfold rI; omega)] at ec
          rw [ec]
          exact hK t a' (c + 1) τ ⟨rfl, by omega, ha', ht⟩ (by omega)
        rw [zrK_S hc.1] at nx
        refine ⟨fun w => nx 1 (Or.inl ⟨rfl, Or.inl ?_⟩), fun w => ⟨fun v => nx 0 (Or.inr ⟨rfl, fun y => y.elim ?_ v⟩), fun v => nx 1 (Or.inl ⟨rfl, Or.inr v⟩)⟩⟩
        · rcases ha with ⟨_, p⟩ | ⟨p, _⟩
          · exact p
          · exact absurd p w
        · rcases ha with ⟨p, _⟩ | ⟨_, p⟩
          · omega
          · exact p
      rw [nmK_S hc.1] at go
      unfold wp_Model_isName_b56 wp_Model_isName_b52
      refine ⟨fun w => go 0 (Or.inr ⟨rfl, fun y => ?_⟩), fun w => ?_⟩
      · rcases hb with ⟨u, _⟩ | ⟨_, u⟩
        · omega
        · exact u ⟨y.1, y.2.1⟩
      · have hb1 : x ≠ 0 ∧ nmK x c := by
          rcases hb with ⟨u, v⟩ | ⟨u, v⟩
          · exact v
          · exact absurd u w
        refine ⟨fun v => go 0 (Or.inr ⟨rfl, fun y => y.2.2.1 v⟩), fun v => ⟨fun u => go 1 (Or.inl ⟨rfl, hb1.1, hb1.2, v, fun y => absurd u y⟩), fun u => ⟨fun p => go 0 (Or.inr ⟨rfl, fun y => ?_⟩), fun p => go 1 (Or.inl ⟨rfl, hb1.1, hb1.2, v, fun _ => ?_⟩)⟩⟩⟩
        · rcases ha with ⟨_, z⟩ | ⟨z, _⟩
          · exact y.2.2.2 u z
          · exact p z
        · rcases ha with ⟨z, _⟩ | ⟨_, z⟩
          · omega
          · exact z
  · rw [e2]
    by_cases w : x = 0
    · rw [if_pos w]; exact Or.inr ⟨rfl, fun y => y.1 w⟩
    · rw [if_neg w]; exact Or.inl ⟨rfl, w, fun k k0 k1 => by omega⟩
