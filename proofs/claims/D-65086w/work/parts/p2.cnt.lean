/-! the reference counts (printed by gen/mk_p2.py) -/
theorem perm_cn1 {a : Int} {R R' : List (Int × Int × Int)} (h : R.Perm R') : cn1 a R = cn1 a R' := by unfold cn1; exact (h.filter _).length_eq
theorem perm_cn3 {a : Int} {R R' : List (Int × Int × Int)} (h : R.Perm R') : cn3 a R = cn3 a R' := by unfold cn3; exact (h.filter _).length_eq
theorem cn1_S {f : Int → Int × Int × Int} {a : Int} {n : Nat} : (cn1 a (tab f (n + 1)) : Int) = cn1 a (tab f n) + (if (f n).1 = a then 1 else 0) := by
  unfold cn1
  rw [tab_filter, List.length_append]
  by_cases q : (f n).1 = a
  · rw [if_pos q, if_pos (decide_eq_true q)]; rfl
  · rw [if_neg q, if_neg (by rw [decide_eq_true_iff]; exact q)]; rfl
theorem cn3_S {f : Int → Int × Int × Int} {a : Int} {n : Nat} : (cn3 a (tab f (n + 1)) : Int) = cn3 a (tab f n) + (if (f n).2.2 = a then 1 else 0) := by
  unfold cn3
  rw [tab_filter, List.length_append]
  by_cases q : (f n).2.2 = a
  · rw [if_pos q, if_pos (decide_eq_true q)]; rfl
  · rw [if_neg q, if_neg (by rw [decide_eq_true_iff]; exact q)]; rfl
theorem cn1_le {a : Int} {R : List (Int × Int × Int)} : cn1 a R ≤ R.length := List.length_filter_le _ _
theorem cn3_le {a : Int} {R : List (Int × Int × Int)} : cn3 a R ≤ R.length := List.length_filter_le _ _

theorem sp_Mlinks {tv : Nat → Int} {cf : Cf} {σ : St} {t nx : Int} {N E A : List (Int × Int × Int)} {P : List (Int × Int × Int × (Int → Int))} {x : Int} {Q : Int → St → Prop} (hrk : RK σ) (ht : t = 0 ∨ t = 1) (hT : TR σ t N E A P nx) (hF : FT N E A P) (hQ : Q (cn3 x E : Int) σ) : wp_Model_links cf tv t x Q σ := by
  have nn := hT.n
  obtain ⟨⟨f1, f2⟩, f3, f4⟩ := hF
  have n0 := hT.1
  have cc : cn3 x (tab (meR σ t) (gA σ 717 0 t).toNat) = cn3 x E := perm_cn3 hT.2.2.1
  unfold wp_Model_links
  rw [w32_id (x := 700 * t) (by unfold rI; omega)]
  intro y0 e0
  subst e0
  refine lQ2_rule (fun m y τ => τ = σ ∧ (700 * t ≤ y ∧ y ≤ 700 * t + gA σ 717 0 t) ∧ m = (cn3 x (tab (meR σ t) (y - 700 * t).toNat) : Int)) (fun _ y _ => (700 * t + gA σ 717 0 t - y).toNat) ?_ 0 _ σ ⟨rfl, by omega, by rw [Int.sub_self]; rfl⟩
  intro K m y τ hI hK
  obtain ⟨et, hy, hm⟩ := hI
  subst et
  unfold wp_Model_links_L9
  rw [w32_id (x := 700 * t) (by unfold rI; omega), w32_id (x := 700 * t + gA τ 717 0 t) (by unfold rI; omega)]
  refine ⟨by omega, fun q => ?_, fun q => ⟨by omega, fun y3 e3 y4 e4 => ?_⟩⟩
  · have e : y - 700 * t = gA τ 717 0 t := by omega
    rw [e, cc] at hm
    rw [hm]; exact hQ
  · have le : cn3 x (tab (meR τ t) (y - 700 * t).toNat) ≤ (y - 700 * t).toNat := Nat.le_trans cn3_le (by rw [tab_len]; omega)
    have s := cn3_S (f := meR τ t) (a := x) (n := (y - 700 * t).toNat)
    have fe : (meR τ t ((y - 700 * t).toNat : Int)).2.2 = gA τ 720 0 y := by
      show gA τ 720 0 (700 * t + ((y - 700 * t).toNat : Int)) = _
      congr 1; omega
    rw [fe] at s
    have e5 : (y + 1 - 700 * t).toNat = (y - 700 * t).toNat + 1 := by omega
    rw [w32_id (by unfold rI; omega)] at e4
    have e3' : y3 = (cn3 x (tab (meR τ t) (y + 1 - 700 * t).toNat) : Int) := by
      rw [e3, e5, s, hm, w32_id]
      by_cases w : gA τ 720 0 y = x
      · rw [if_pos w]; unfold rI; omega
      · rw [if_neg w]; unfold rI; omega
    rw [e4]
    exact hK y3 (y + 1) τ ⟨rfl, by omega, e3'⟩ (by omega)

theorem sp_Mfilled {tv : Nat → Int} {cf : Cf} {σ : St} {t nx : Int} {N E A : List (Int × Int × Int)} {P : List (Int × Int × Int × (Int → Int))} {x : Int} {Q : Int → St → Prop} (hrk : RK σ) (ht : t = 0 ∨ t = 1) (hT : TR σ t N E A P nx) (hF : FT N E A P) (hQ : Q (cn1 x E : Int) σ) : wp_Model_filled cf tv t x Q σ := by
  have nn := hT.n
  obtain ⟨⟨f1, f2⟩, f3, f4⟩ := hF
  have n0 := hT.1
  have cc : cn1 x (tab (meR σ t) (gA σ 717 0 t).toNat) = cn1 x E := perm_cn1 hT.2.2.1
  unfold wp_Model_filled
  rw [w32_id (x := 700 * t) (by unfold rI; omega)]
  intro y0 e0
  subst e0
  refine lQ2_rule (fun m y τ => τ = σ ∧ (700 * t ≤ y ∧ y ≤ 700 * t + gA σ 717 0 t) ∧ m = (cn1 x (tab (meR σ t) (y - 700 * t).toNat) : Int)) (fun _ y _ => (700 * t + gA σ 717 0 t - y).toNat) ?_ 0 _ σ ⟨rfl, by omega, by rw [Int.sub_self]; rfl⟩
  intro K m y τ hI hK
  obtain ⟨et, hy, hm⟩ := hI
  subst et
  unfold wp_Model_filled_L9
  rw [w32_id (x := 700 * t) (by unfold rI; omega), w32_id (x := 700 * t + gA τ 717 0 t) (by unfold rI; omega)]
  refine ⟨by omega, fun q => ?_, fun q => ⟨by omega, fun y3 e3 y4 e4 => ?_⟩⟩
  · have e : y - 700 * t = gA τ 717 0 t := by omega
    rw [e, cc] at hm
    rw [hm]; exact hQ
  · have le : cn1 x (tab (meR τ t) (y - 700 * t).toNat) ≤ (y - 700 * t).toNat := Nat.le_trans cn1_le (by rw [tab_len]; omega)
    have s := cn1_S (f := meR τ t) (a := x) (n := (y - 700 * t).toNat)
    have fe : (meR τ t ((y - 700 * t).toNat : Int)).1 = gA τ 718 0 y := by
      show gA τ 718 0 (700 * t + ((y - 700 * t).toNat : Int)) = _
      congr 1; omega
    rw [fe] at s
    have e5 : (y + 1 - 700 * t).toNat = (y - 700 * t).toNat + 1 := by omega
    rw [w32_id (by unfold rI; omega)] at e4
    have e3' : y3 = (cn1 x (tab (meR τ t) (y + 1 - 700 * t).toNat) : Int) := by
      rw [e3, e5, s, hm, w32_id]
      by_cases w : gA τ 718 0 y = x
      · rw [if_pos w]; unfold rI; omega
      · rw [if_neg w]; unfold rI; omega
    rw [e4]
    exact hK y3 (y + 1) τ ⟨rfl, by omega, e3'⟩ (by omega)

theorem sp_Mmany {tv : Nat → Int} {cf : Cf} {σ : St} {t nx : Int} {N E A : List (Int × Int × Int)} {P : List (Int × Int × Int × (Int → Int))} {x : Int} {Q : Int → St → Prop} (hrk : RK σ) (hT : TR σ 0 N E A P nx) (hF : FT N E A P) (hQ : Q (cn1 x A : Int) σ) : wp_Model_many cf tv  x Q σ := by
  have nn := hT.n
  obtain ⟨⟨f1, f2⟩, f3, f4⟩ := hF
  have n0 := hT.1
  have cc : cn1 x (tab (maR σ 0) (gA σ 721 0 0).toNat) = cn1 x A := perm_cn1 hT.2.2.2.1
  unfold wp_Model_many
  refine lQ2_rule (fun m y τ => τ = σ ∧ (0 ≤ y ∧ y ≤ 0 + gA σ 721 0 0) ∧ m = (cn1 x (tab (maR σ 0) (y - 0).toNat) : Int)) (fun _ y _ => (0 + gA σ 721 0 0 - y).toNat) ?_ 0 _ σ ⟨rfl, by omega, by rw [Int.sub_self]; rfl⟩
  intro K m y τ hI hK
  obtain ⟨et, hy, hm⟩ := hI
  subst et
  unfold wp_Model_many_L4
  refine ⟨by omega, fun q => ?_, fun q => ⟨by omega, fun y3 e3 y4 e4 => ?_⟩⟩
  · have e : y - 0 = gA τ 721 0 0 := by omega
    rw [e, cc] at hm
    rw [hm]; exact hQ
  · have le : cn1 x (tab (maR τ 0) (y - 0).toNat) ≤ (y - 0).toNat := Nat.le_trans cn1_le (by rw [tab_len]; omega)
    have s := cn1_S (f := maR τ 0) (a := x) (n := (y - 0).toNat)
    have fe : (maR τ 0 ((y - 0).toNat : Int)).1 = gA τ 722 0 y := by
      show gA τ 722 0 (700 * 0 + ((y - 0).toNat : Int)) = _
      congr 1; omega
    rw [fe] at s
    have e5 : (y + 1 - 0).toNat = (y - 0).toNat + 1 := by omega
    rw [w32_id (by unfold rI; omega)] at e4
    have e3' : y3 = (cn1 x (tab (maR τ 0) (y + 1 - 0).toNat) : Int) := by
      rw [e3, e5, s, hm, w32_id]
      by_cases w : gA τ 722 0 y = x
      · rw [if_pos w]; unfold rI; omega
      · rw [if_neg w]; unfold rI; omega
    rw [e4]
    exact hK y3 (y + 1) τ ⟨rfl, by omega, e3'⟩ (by omega)

/-- what items take of the capacity, by the rows -/
def pSum (P : List (Int × Int × Int × (Int → Int))) : Int := (P.map (fun p => 224 + (p.2.2.1 + 7) / 8 * 8)).sum
theorem perm_sum {l l' : List Int} (h : l.Perm l') : l.sum = l'.sum := by
  induction h with
  | nil => rfl
  | cons x _ ih => rw [List.sum_cons, List.sum_cons, ih]
  | swap x y l => rw [List.sum_cons, List.sum_cons, List.sum_cons, List.sum_cons]; omega
  | trans _ _ a b => exact a.trans b
theorem perm_pS {P P' : List (Int × Int × Int × (Int → Int))} (h : P.Perm P') : pSum P = pSum P' := by
  unfold pSum
  exact perm_sum (h.map _)
theorem pSum_S {f : Int → Int × Int × Int × (Int → Int)} {n : Nat} : pSum (tab f (n + 1)) = pSum (tab f n) + (224 + ((f n).2.2.1 + 7) / 8 * 8) := by
  unfold pSum
  show ((tab f n ++ [f n]).map _).sum = _
  rw [List.map_append, List.sum_append, List.map_cons, List.sum_cons, List.map_nil, List.sum_nil, Int.add_zero]
theorem pSum_r : ∀ {P : List (Int × Int × Int × (Int → Int))}, (∀ p, p ∈ P → 0 ≤ p.2.2.1 ∧ p.2.2.1 ≤ 64) → 0 ≤ pSum P ∧ pSum P ≤ 288 * P.length
  | [], _ => ⟨Int.le_refl _, Int.le_refl _⟩
  | p :: P, h => by
    have a := pSum_r (P := P) (fun q hq => h q (List.mem_cons_of_mem _ hq))
    have b := h p List.mem_cons_self
    have c : pSum (p :: P) = (224 + (p.2.2.1 + 7) / 8 * 8) + pSum P := by unfold pSum; rw [List.map_cons, List.sum_cons]
    rw [c, List.length_cons]
    omega
theorem sp_Meights {tv : Nat → Int} {cf : Cf} {σ : St} {n : Int} {Q : Int → St → Prop} (h : 0 ≤ n ∧ n ≤ 100000) (hQ : Q ((n + 7) / 8 * 8) σ) : wp_Model_eights cf tv n Q σ := by
  unfold wp_Model_eights
  rw [w32_id (x := n + 7) (by unfold rI; omega), jdv_nn (by omega) (by omega) (by omega), w32_id (by unfold rI; omega)]
  exact hQ
theorem sp_Mlive {tv : Nat → Int} {cf : Cf} {σ : St} {t nx : Int} {N E A : List (Int × Int × Int)} {P : List (Int × Int × Int × (Int → Int))} {Q : Int → St → Prop} (hrk : RK σ) (hT : TR σ 0 N E A P nx) (hF : FT N E A P) (hP : ∀ p, p ∈ P → 0 ≤ p.2.2.1 ∧ p.2.2.1 ≤ 64) (hQ : Q (240 * (N.length + E.length + A.length : Int) + pSum P) σ) : wp_Model_live cf tv Q σ := by
  have nn := hT.n
  obtain ⟨⟨f1, f2⟩, f3, f4⟩ := hF
  have n0 := hT.1
  have cc : pSum (tab (mpR σ 0) (gA σ 725 0 0).toNat) = pSum P := perm_pS hT.2.2.2.2.1
  unfold wp_Model_live
  refine ⟨by omega, by omega, by omega, fun y1 e1 => ?_⟩
  rw [w32_id (x := gA σ 713 0 0 + gA σ 717 0 0) (by unfold rI; omega), w32_id (x := gA σ 713 0 0 + gA σ 717 0 0 + gA σ 721 0 0) (by unfold rI; omega), w32_id (by unfold rI; omega)] at e1
  refine lQ2_rule (fun m y τ => τ = σ ∧ (0 ≤ y ∧ y ≤ gA σ 725 0 0) ∧ m = y1 + pSum (tab (mpR σ 0) y.toNat)) (fun _ y _ => (gA σ 725 0 0 - y).toNat) ?_ y1 0 σ ⟨rfl, by omega, by show y1 = y1 + 0; omega⟩
  intro K m y τ hI hK
  obtain ⟨et, hy, hm⟩ := hI
  subst et
  unfold wp_Model_live_L27
  refine ⟨by omega, fun q => ?_, fun q => ⟨by omega, ?_⟩⟩
  · have e : y = gA τ 725 0 0 := by omega
    rw [e, cc] at hm
    rw [hm, e1]
    rw [nn.1, nn.2.1, nn.2.2.1]
    exact hQ
  · have mem : ∀ i : Int, 0 ≤ i → i < gA τ 725 0 0 → mpR τ 0 i ∈ P := fun i i0 i1 => hT.mp.mpr ⟨i, i0, i1, rfl⟩
    have lb := hP _ (mem y hy.1 (by omega))
    have fe : (mpR τ 0 (y.toNat : Int)).2.2.1 = gA τ 728 0 y := by
      show gA τ 728 0 (720 * 0 + (y.toNat : Int)) = _
      congr 1; omega
    have fe2 : (mpR τ 0 y).2.2.1 = gA τ 728 0 y := by
      show gA τ 728 0 (720 * 0 + y) = _
      congr 1; omega
    rw [fe2] at lb
    have s := pSum_S (f := mpR τ 0) (n := y.toNat)
    rw [fe] at s
    have r := pSum_r (P := tab (mpR τ 0) y.toNat) (fun p hp => by
      obtain ⟨i, i0, i1, i2⟩ := (tab_mem _).mp hp
      rw [← i2]
      exact hP _ (mem i i0 (by omega)))
    rw [tab_len] at r
    refine sp_Meights (by omega) (fun _ _ y1' e1' y2 e2 => ?_)
    rw [w32_id (by unfold rI; omega)] at e2
    rw [w32_id (x := 224 + (gA τ 728 0 y + 7) / 8 * 8) (by unfold rI; omega), w32_id (by unfold rI; omega)] at e1'
    rw [e2]
    refine hK y1' (y + 1) τ ⟨rfl, by omega, ?_⟩ (by omega)
    rw [e1', show (y + 1).toNat = y.toNat + 1 by omega, s, hm]
    omega
/-- handles of the reference -/
def opM (σ : St) (x : Int) : Prop := ∃ k, (0 ≤ k ∧ k < 8) ∧ gA σ 711 0 k = x
theorem sp_MisOpen {tv : Nat → Int} {cf : Cf} {σ : St} {x : Int} {Q : Int → St → Prop} (h1 : opM σ x → Q 1 σ) (h0 : ¬ opM σ x → Q 0 σ) : wp_Model_isOpen cf tv x Q σ := by
  unfold wp_Model_isOpen
  refine lQ2_rule (fun m y τ => τ = σ ∧ (0 ≤ y ∧ y ≤ 8) ∧ ((m = 0 ∧ ∀ k, 0 ≤ k → k < y → gA σ 711 0 k ≠ x) ∨ (m = 1 ∧ opM σ x))) (fun _ y _ => (8 - y).toNat) ?_ 0 0 σ ⟨rfl, by omega, Or.inl ⟨rfl, fun k k0 k1 => by omega⟩⟩
  intro K m y τ hI hK
  obtain ⟨et, hy, hm⟩ := hI
  subst et
  unfold wp_Model_isOpen_L4
  have go : ∀ m', ((m' = 0 ∧ ∀ k, 0 ≤ k → k < y + 1 → gA τ 711 0 k ≠ x) ∨ (m' = 1 ∧ opM τ x)) → y < 8 → wp_Model_isOpen_b29 cf tv x Q K y m' τ := by
    intro m' hm' hl
    unfold wp_Model_isOpen_b29
    intro y2 e2
    rw [w32_id (by unfold rI; omega)] at e2
    rw [e2]
    exact hK m' (y + 1) τ ⟨rfl, by omega, hm'⟩ (by omega)
  unfold wp_Model_isOpen_b24
  refine ⟨fun q => ?_, fun q => ⟨fun w => go 1 (Or.inr ⟨rfl, ?_⟩) (by omega), fun w => ⟨by omega, fun u => go 0 (Or.inl ⟨rfl, fun k k0 k1 => ?_⟩) (by omega), fun u => go 1 (Or.inr ⟨rfl, y, by omega, u⟩) (by omega)⟩⟩⟩
  · rcases hm with ⟨a, b⟩ | ⟨a, b⟩
    · rw [a]; exact h0 (fun ⟨k, k0, k1⟩ => b k k0.1 (by omega) k1)
    · rw [a]; exact h1 b
  · rcases hm with ⟨a, b⟩ | ⟨a, b⟩
    · exact absurd a w
    · exact b
  · rcases hm with ⟨a, b⟩ | ⟨a, b⟩
    · by_cases e : k = y
      · rw [e]; exact u
      · exact b k k0 (by omega)
    · omega
