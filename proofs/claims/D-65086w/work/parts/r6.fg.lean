/-! a thing is forgotten: its rows -/
theorem nd_sub : ∀ {l m : List Int}, l.Nodup → (∀ a, a ∈ l → a ∈ m) → l.length ≤ m.length
  | [], _, _, _ => Nat.zero_le _
  | a :: l, m, h, s => by
    obtain ⟨h1, h2⟩ := List.nodup_cons.mp h
    have ha : a ∈ m := s a List.mem_cons_self
    have := nd_sub (l := l) (m := m.erase a) h2 (fun b hb => (List.mem_erase_of_ne (fun q => h1 (by rw [← q]; exact hb))).mpr (s b (List.mem_cons_of_mem _ hb)))
    rw [List.length_erase_of_mem ha] at this
    have : 0 < m.length := List.length_pos_of_mem ha
    rw [List.length_cons]
    omega
/-- nameless files are in use -/
def NU (σ : St) (N E : List (Int × Int × Int)) : Prop := ∀ n, n ∈ N → n.2.1 = 2 → cn3 n.1 E = 0 → opn σ n.1
theorem nlc_hd {σ : St} {N E : List (Int × Int × Int)} (nd : (N.map (fun n => n.1)).Nodup) (h : NU σ N E) : nlc N E ≤ 8 := by
  have a : ((N.filter (fun n => decide (n.2.1 = 2 ∧ cn3 n.1 E = 0))).map (fun n => n.1)).Nodup := List.Nodup.sublist (List.Sublist.map _ List.filter_sublist) nd
  have b := nd_sub (m := (List.range 8).map (fun k : Nat => gA σ 70 0 (k : Int))) a (fun x hx => by
    obtain ⟨n, n1, n2⟩ := List.mem_map.mp hx
    obtain ⟨n3, n4, n5⟩ := (fl_mem (p := fun n : Int × Int × Int => n.2.1 = 2 ∧ cn3 n.1 E = 0)).mp n1
    obtain ⟨k, ⟨k0, k1⟩, k2⟩ := h n n3 n4 n5
    exact List.mem_map.mpr ⟨k.toNat, List.mem_range.mpr (by omega), by rw [show ((k.toNat : Nat) : Int) = k by omega, ← n2]; exact k2⟩)
  rw [List.length_map, List.length_map, List.length_range] at b
  exact b
theorem RWS.fg {N E A : List (Int × Int × Int)} {P : List (Int × Int × Int × (Int → Int))} {M : List (Int × Int × Int × (Int → Int))} {nx w : Int} (h : RWS M N E A P) (ho : IOK M nx) : RWS (mforget w M) (N.filter (fun n => decide (n.1 ≠ w))) E (A.filter (fun r => decide (kpA w r))) (P.filter (fun p => decide (p.1 ≠ w))) := by
  have t : ∀ {p : Prop} [Decidable p], p → decide p = true := fun h => decide_eq_true h
  have h1 := h.fl (fun y => decide (¬ (y.1 = 4 * w + 1 ∧ kap (4 * w + 1) 0 ≤ ak y))) (fun _ => true) (fun _ => true) (fun _ => true) (fun p => decide (p.1 ≠ w)) (fun x _ q => t (fun v => by omega)) (fun x _ q => t (fun v => by omega)) (fun x _ q => t (fun v => by omega)) (fun x hx q => by
    by_cases v : x.1 = 4 * w + 1
    · rw [decide_eq_false (fun u => u ⟨v, by unfold ak kap; rw [v]; omega⟩), decide_eq_false (fun u => u (by show x.1 / 4 = w; omega))]
    · rw [decide_eq_true (show ¬ (x.1 = 4 * w + 1 ∧ kap (4 * w + 1) 0 ≤ ak x) from fun u => v u.1), decide_eq_true (show (prow x).1 ≠ w from by show x.1 / 4 ≠ w; omega)])
  rw [fl_tt, fl_tt, fl_tt] at h1
  have o1 : IOK (M.filter (fun y => decide (¬ (y.1 = 4 * w + 1 ∧ kap (4 * w + 1) 0 ≤ ak y)))) nx := ho.fl
  have e1 : mcut (4 * w + 1) 0 M = M.filter (fun y => decide (¬ (y.1 = 4 * w + 1 ∧ kap (4 * w + 1) 0 ≤ ak y))) := rfl
  unfold mforget
  rw [e1]
  generalize M.filter (fun y => decide (¬ (y.1 = 4 * w + 1 ∧ kap (4 * w + 1) 0 ≤ ak y))) = M1 at *
  have h2 := h1.fl (fun y => decide (¬ (y.1 = 4 * w + 3 ∧ kap (4 * w + 3) 0 ≤ ak y))) (fun _ => true) (fun _ => true) (fun r => decide (kpA w r)) (fun _ => true) (fun x _ q => t (fun v => by omega)) (fun x _ q => t (fun v => by omega)) (fun x hx q => by
    by_cases v : x.1 = 4 * w + 3
    · rw [decide_eq_false (fun u => u ⟨v, by unfold ak kap; rw [v]; omega⟩), decide_eq_false (fun u => u (by show x.1 / 4 = w; omega))]
    · rw [decide_eq_true (show ¬ (x.1 = 4 * w + 3 ∧ kap (4 * w + 3) 0 ≤ ak x) from fun u => v u.1), decide_eq_true (show kpA w (arow x) from by show x.1 / 4 ≠ w; omega)]) (fun x _ q => t (fun v => by omega))
  rw [fl_tt, fl_tt, fl_tt] at h2
  have o2 : IOK (M1.filter (fun y => decide (¬ (y.1 = 4 * w + 3 ∧ kap (4 * w + 3) 0 ≤ ak y)))) nx := o1.fl
  have e2 : mcut (4 * w + 3) 0 M1 = M1.filter (fun y => decide (¬ (y.1 = 4 * w + 3 ∧ kap (4 * w + 3) 0 ≤ ak y))) := rfl
  rw [e2]
  generalize M1.filter (fun y => decide (¬ (y.1 = 4 * w + 3 ∧ kap (4 * w + 3) 0 ≤ ak y))) = M2 at *
  have ne : ∀ x : Int × Int × Int × (Int → Int), x.1 % 4 ≠ 0 → ak x ≠ kap (4 * w) 0 := fun x q v => by
    have := (kap_in2 v).1
    omega
  have h3 := h2.fl (fun y => decide (ak y ≠ kap (4 * w) 0)) (fun n => decide (n.1 ≠ w)) (fun _ => true) (fun _ => true) (fun _ => true) (fun x hx q => by
    by_cases v : x.1 / 4 = w
    · rw [decide_eq_false (fun u => u (by show kap x.1 x.2.1 = _; rw [((o2 x hx).1 q).1, show x.1 = 4 * w by omega])), decide_eq_false (fun u => u v)]
    · rw [decide_eq_true (show ak x ≠ kap (4 * w) 0 from fun u => v (by have := (kap_in2 u).1; omega)), decide_eq_true (show (nrow x).1 ≠ w from v)]) (fun x _ q => t (ne x (by omega))) (fun x _ q => t (ne x (by omega))) (fun x _ q => t (ne x (by omega)))
  rw [fl_tt, fl_tt, fl_tt] at h3
  exact h3
