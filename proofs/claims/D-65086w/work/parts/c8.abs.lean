/-! the tree's items as they are meant: keys, and what their nodes tell -/
def pay (g : Int → Int) (a n : Int) : Int → Int := fun k => if 24 ≤ k ∧ k < n then g (a + k) else 0
def ak (x : Int × Int × Int × (Int → Int)) : Int := kap x.1 x.2.1
def anE (db : Int → Int → Int) (e : Int × Int × Int × Int × Int × Int) : Int × Int × Int × (Int → Int) := (e.1, e.2.1, e.2.2.2.2.1, pay (db e.2.2.1) e.2.2.2.1 e.2.2.2.2.1)
def AM (db : Int → Int → Int) (L : List (Int × Int × Int × Int × Int × Int)) : List (Int × Int × Int × (Int → Int)) := L.map (anE db)
theorem ak_anE (db : Int → Int → Int) (e : Int × Int × Int × Int × Int × Int) : ak (anE db e) = kyE e := rfl
def mput (x : Int × Int × Int × (Int → Int)) (M : List (Int × Int × Int × (Int → Int))) : List (Int × Int × Int × (Int → Int)) := M.filter (fun y => decide (ak y < ak x)) ++ x :: M.filter (fun y => decide (ak x < ak y))
def mdel (κ : Int) (M : List (Int × Int × Int × (Int → Int))) : List (Int × Int × Int × (Int → Int)) := M.filter (fun y => decide (ak y ≠ κ))
def mcut (h l : Int) (M : List (Int × Int × Int × (Int → Int))) : List (Int × Int × Int × (Int → Int)) := M.filter (fun y => decide (¬ (y.1 = h ∧ kap h l ≤ ak y)))
def mforget (x : Int) (M : List (Int × Int × Int × (Int → Int))) : List (Int × Int × Int × (Int → Int)) := mdel (kap (4 * x) 0) (mcut (4 * x + 3) 0 (mcut (4 * x + 1) 0 M))
theorem AM_put (db : Int → Int → Int) (e : Int × Int × Int × Int × Int × Int) (L : List (Int × Int × Int × Int × Int × Int)) : AM db (lput e L) = mput (anE db e) (AM db L) := by
  unfold AM lput mput
  rw [List.map_append, List.map_cons, List.filter_map, List.filter_map]
  rfl
theorem AM_del (db : Int → Int → Int) (κ : Int) (L : List (Int × Int × Int × Int × Int × Int)) : AM db (ldel κ L) = mdel κ (AM db L) := by
  unfold AM ldel mdel
  rw [List.filter_map]
  rfl
theorem AM_cut (db : Int → Int → Int) (h l : Int) (L : List (Int × Int × Int × Int × Int × Int)) : AM db (lcut h l L) = mcut h l (AM db L) := by
  unfold AM lcut mcut
  rw [List.filter_map]
  rfl
theorem AM_forget (db : Int → Int → Int) (x : Int) (L : List (Int × Int × Int × Int × Int × Int)) : AM db (lforget x L) = mforget x (AM db L) := by
  unfold lforget mforget
  rw [AM_del, AM_cut, AM_cut]
theorem AM_len (db : Int → Int → Int) (L : List (Int × Int × Int × Int × Int × Int)) : (AM db L).length = L.length := List.length_map _
theorem AM_ext {db db' : Int → Int → Int} {L : List (Int × Int × Int × Int × Int × Int)} (h : ∀ e, e ∈ L → ∀ k, 24 ≤ k → k < e.2.2.2.2.1 → db' e.2.2.1 (e.2.2.2.1 + k) = db e.2.2.1 (e.2.2.2.1 + k)) : AM db' L = AM db L := by
  refine List.map_congr_left (fun e he => ?_)
  unfold anE
  have : pay (db' e.2.2.1) e.2.2.2.1 e.2.2.2.2.1 = pay (db e.2.2.1) e.2.2.2.1 e.2.2.2.2.1 := by
    funext k
    unfold pay
    by_cases q : 24 ≤ k ∧ k < e.2.2.2.2.1
    · rw [if_pos q, if_pos q]; exact h e he k q.1 q.2
    · rw [if_neg q, if_neg q]
  rw [this]
theorem pay_ext {g h : Int → Int} {a b n : Int} (e : ∀ k, 24 ≤ k → k < n → g (a + k) = h (b + k)) : pay g a n = pay h b n := by
  funext k
  unfold pay
  by_cases q : 24 ≤ k ∧ k < n
  · rw [if_pos q, if_pos q]; exact e k q.1 q.2
  · rw [if_neg q, if_neg q]
/-- the items behind a node of n bytes at a of g -/
def apM (g : Int → Int) (a n : Int) (M : List (Int × Int × Int × (Int → Int))) : List (Int × Int × Int × (Int → Int)) :=
  if g (a + 16) = 4 then mcut (4 * rI4 g (a + 24) + 1) ((rI4 g (a + 28) + 63) / 64) M
  else if g (a + 16) = 1 ∧ rI4 g (a + 28) = 0 then mforget (rI4 g (a + 24)) M
  else if (g (a + 16) = 2 ∧ rI4 g (a + 28) = 0) ∨ (g (a + 16) = 9 ∧ rI4 g (a + 28) = 1) then mdel (kap (hiN g a) (loN g a)) M
  else if lfT (g (a + 16)) then mput (hiN g a, loN g a, n, pay g a n) M else M
theorem AM_ap {db : Int → Int → Int} {g : Int → Int} {a n m p : Int} {L : List (Int × Int × Int × Int × Int × Int)} (e : ∀ k, 24 ≤ k → k < n → g (a + k) = db m (p + k)) : AM db (apL g a n m p L) = apM g a n (AM db L) := by
  unfold apL apM
  by_cases h1 : g (a + 16) = 4
  · rw [if_pos h1, if_pos h1, AM_cut]
  rw [if_neg h1, if_neg h1]
  by_cases h2 : g (a + 16) = 1 ∧ rI4 g (a + 28) = 0
  · rw [if_pos h2, if_pos h2, AM_forget]
  rw [if_neg h2, if_neg h2]
  by_cases h3 : (g (a + 16) = 2 ∧ rI4 g (a + 28) = 0) ∨ (g (a + 16) = 9 ∧ rI4 g (a + 28) = 1)
  · rw [if_pos h3, if_pos h3, AM_del]
  rw [if_neg h3, if_neg h3]
  by_cases h4 : lfT (g (a + 16))
  · rw [if_pos h4, if_pos h4, AM_put]
    unfold anE
    rw [pay_ext (g := db m) (h := g) (a := p) (b := a) (n := n) (fun k k0 k1 => (e k k0 k1).symm)]
  · rw [if_neg h4, if_neg h4]
/-- a node as rI4 sees it does not rest on where it lies -/
theorem apM_sh {g h : Int → Int} {a b n : Int} {M : List (Int × Int × Int × (Int → Int))} (hn : 44 ≤ n ∨ (g (a + 16) ≠ 2 ∧ g (a + 16) ≠ 9 ∧ 32 ≤ n)) (e : ∀ k, 0 ≤ k → k < n → g (a + k) = h (b + k)) : apM g a n M = apM h b n M := by
  have e16 := e 16 (by omega) (by omega)
  have e24 : rI4 g (a + 24) = rI4 h (b + 24) := rI4_sh (fun i i0 i1 => by rw [show a + 24 + i = a + (24 + i) by omega, show b + 24 + i = b + (24 + i) by omega]; exact e _ (by omega) (by omega))
  have e28 : rI4 g (a + 28) = rI4 h (b + 28) := rI4_sh (fun i i0 i1 => by rw [show a + 28 + i = a + (28 + i) by omega, show b + 28 + i = b + (28 + i) by omega]; exact e _ (by omega) (by omega))
  have hi : hiN g a = hiN h b := by unfold hiN; rw [e16, e24]
  have lo : g (a + 16) ≠ 4 → lfT (g (a + 16)) → loN g a = loN h b := by
    intro _ lf
    unfold loN
    rw [← e16]
    by_cases q1 : g (a + 16) = 1
    · rw [if_pos q1, if_pos q1]
    rw [if_neg q1, if_neg q1]
    by_cases q2 : g (a + 16) = 3
    · rw [if_pos q2, if_pos q2, e28]
    rw [if_neg q2, if_neg q2]
    have n44 : 44 ≤ n := by
      rcases hn with w | w
      · exact w
      · unfold lfT at lf; omega
    have e32 : rL8 g (a + 32) = rL8 h (b + 32) := rL8_sh (fun i i0 i1 => by rw [show a + 32 + i = a + (32 + i) by omega, show b + 32 + i = b + (32 + i) by omega]; exact e _ (by omega) (by omega))
    have e40 : rI4 g (a + 40) = rI4 h (b + 40) := rI4_sh (fun i i0 i1 => by rw [show a + 40 + i = a + (40 + i) by omega, show b + 40 + i = b + (40 + i) by omega]; exact e _ (by omega) (by omega))
    rw [e32, e40]
  have pe : pay g a n = pay h b n := pay_ext (fun k k0 k1 => e k (by omega) k1)
  unfold apM
  rw [← e16, ← e24, ← e28, ← hi, ← pe]
  by_cases h1 : g (a + 16) = 4
  · rw [if_pos h1, if_pos h1]
  rw [if_neg h1, if_neg h1]
  by_cases h2 : g (a + 16) = 1 ∧ rI4 g (a + 28) = 0
  · rw [if_pos h2, if_pos h2]
  rw [if_neg h2, if_neg h2]
  by_cases h3 : (g (a + 16) = 2 ∧ rI4 g (a + 28) = 0) ∨ (g (a + 16) = 9 ∧ rI4 g (a + 28) = 1)
  · rw [if_pos h3, if_pos h3, lo h1 (by unfold lfT; omega)]
  rw [if_neg h3, if_neg h3]
  by_cases h4 : lfT (g (a + 16))
  · rw [if_pos h4, if_pos h4, lo h1 h4]
  · rw [if_neg h4, if_neg h4]
/-- the items are in order, none twice -/
abbrev Srm (M : List (Int × Int × Int × (Int → Int))) : Prop := M.Pairwise (fun a b => ak a < ak b)
theorem Srt.am {db : Int → Int → Int} {L : List (Int × Int × Int × Int × Int × Int)} (h : Srt L) : Srm (AM db L) := List.pairwise_map.mpr h
theorem fl_srm {p : Int × Int × Int × (Int → Int) → Bool} {M : List (Int × Int × Int × (Int → Int))} (h : Srm M) : Srm (M.filter p) := List.Pairwise.filter p h
theorem mput_srm {x : Int × Int × Int × (Int → Int)} {M : List (Int × Int × Int × (Int → Int))} (h : Srm M) : Srm (mput x M) := by
  unfold mput
  refine List.pairwise_append.mpr ⟨fl_srm h, List.pairwise_cons.mpr ⟨fun y hy => (fl_mem.mp hy).2, fl_srm h⟩, fun a ha b hb => ?_⟩
  have a1 := (fl_mem.mp ha).2
  rcases List.mem_cons.mp hb with w | w
  · rw [w]; exact a1
  · have := (fl_mem.mp w).2; omega
theorem apM_srm {g : Int → Int} {a n : Int} {M : List (Int × Int × Int × (Int → Int))} (h : Srm M) : Srm (apM g a n M) := by
  unfold apM
  split
  · exact fl_srm h
  · split
    · exact fl_srm (fl_srm (fl_srm h))
    · split
      · exact fl_srm h
      · split
        · exact mput_srm h
        · exact h
theorem mput_mem {x y : Int × Int × Int × (Int → Int)} {M : List (Int × Int × Int × (Int → Int))} : y ∈ mput x M ↔ y = x ∨ (y ∈ M ∧ ak y ≠ ak x) := by
  unfold mput
  rw [List.mem_append, List.mem_cons, fl_mem, fl_mem]
  constructor
  · rintro (⟨a, b⟩ | a | ⟨a, b⟩)
    · exact Or.inr ⟨a, by omega⟩
    · exact Or.inl a
    · exact Or.inr ⟨a, by omega⟩
  · rintro (a | ⟨a, b⟩)
    · exact Or.inr (Or.inl a)
    · rcases Int.lt_or_gt_of_ne b with w | w
      · exact Or.inl ⟨a, w⟩
      · exact Or.inr (Or.inr ⟨a, w⟩)
/-- a row in order, at one key -/
theorem srm_at {M : List (Int × Int × Int × (Int → Int))} (κ : Int) (h : Srm M) : ∃ E : List (Int × Int × Int × (Int → Int)), M = M.filter (fun y => decide (ak y < κ)) ++ (E ++ M.filter (fun y => decide (κ < ak y))) ∧ (∀ e, e ∈ E → ak e = κ) ∧ E.length ≤ 1 := by
  induction M with
  | nil => exact ⟨[], rfl, fun e he => absurd he List.not_mem_nil, Nat.zero_le _⟩
  | cons x M ih =>
    obtain ⟨h1, h2⟩ := List.pairwise_cons.mp h
    obtain ⟨E, e1, e2, e3⟩ := ih h2
    rw [List.filter_cons, List.filter_cons]
    by_cases q : ak x < κ
    · rw [if_pos (decide_eq_true q), if_neg (by rw [decide_eq_true_iff]; omega)]
      exact ⟨E, by rw [List.cons_append, ← e1], e2, e3⟩
    · rw [if_neg (by rw [decide_eq_true_iff]; exact q)]
      have n1 : M.filter (fun y => decide (ak y < κ)) = [] := fl_none (p := fun y : Int × Int × Int × (Int → Int) => ak y < κ) (fun a ha => by have := h1 a ha; omega)
      have n2 : M.filter (fun y => decide (κ < ak y)) = M := fl_all (p := fun y : Int × Int × Int × (Int → Int) => κ < ak y) (fun a ha => by have := h1 a ha; omega)
      rw [n1, n2]
      by_cases q2 : κ < ak x
      · rw [if_pos (decide_eq_true q2)]
        exact ⟨[], rfl, fun e he => absurd he List.not_mem_nil, Nat.zero_le _⟩
      · rw [if_neg (by rw [decide_eq_true_iff]; exact q2)]
        exact ⟨[x], rfl, fun e he => by rw [List.mem_singleton.mp he]; omega, Nat.le_refl _⟩
