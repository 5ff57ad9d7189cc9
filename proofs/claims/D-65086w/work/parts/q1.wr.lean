/-! a tree as rows, and its steps -/
def inN (N : List (Int × Int × Int)) (x : Int) : Prop := ∃ k s, (x, k, s) ∈ N
def RKo (N E : List (Int × Int × Int)) (rk : Int → Nat) : Prop := ∀ e, e ∈ E → (e.2.2, 1, 0) ∈ N → rk e.1 < rk e.2.2
def ky2 (e : Int × Int × Int) : Int × Int := (e.1, e.2.1)
def WR (N E A : List (Int × Int × Int)) (P : List (Int × Int × Int × (Int → Int))) (nx : Int) (ex : Int → Prop) : Prop :=
  ((∀ n, n ∈ N → (1 ≤ n.1 ∧ n.1 < nx) ∧ (n.2.1 = 1 → n.2.2 = 0)) ∧ (N.map (fun n => n.1)).Nodup) ∧ (1, 1, 0) ∈ N ∧ (∀ e, e ∈ E → (e.1, 1, 0) ∈ N ∧ inN N e.2.2 ∧ e.2.2 ≠ 1) ∧ (∀ a, a ∈ A → inN N a.1) ∧ (∀ p, p ∈ P → ∃ k s, (p.1, k, s) ∈ N ∧ k ≠ 1 ∧ 64 * p.2.1 + p.2.2.1 ≤ s ∧ (k = 3 → p.2.1 = 0)) ∧ (E.map ky2).Nodup ∧ (∀ n, n ∈ N → n.2.1 ≠ 2 → n.1 ≠ 1 → ¬ ex n.1 → cn3 n.1 E = 1) ∧ (∀ n, n ∈ N → n.2.1 = 3 → (1 ≤ n.2.2 ∧ n.2.2 ≤ 64) ∧ ∃ b, (n.1, 0, n.2.2, b) ∈ P) ∧ ∃ rk, RKo N E rk
theorem cn3_cons {a : Int} {r : Int × Int × Int} {R : List (Int × Int × Int)} : cn3 a (r :: R) = cn3 a R + (if r.2.2 = a then 1 else 0) := by
  unfold cn3
  rw [List.filter_cons]
  by_cases q : r.2.2 = a
  · rw [if_pos q, if_pos (decide_eq_true q), List.length_cons]
  · rw [if_neg q, if_neg (by rw [decide_eq_true_iff]; exact q)]; rfl
theorem cn1_cons {a : Int} {r : Int × Int × Int} {R : List (Int × Int × Int)} : cn1 a (r :: R) = cn1 a R + (if r.1 = a then 1 else 0) := by
  unfold cn1
  rw [List.filter_cons]
  by_cases q : r.1 = a
  · rw [if_pos q, if_pos (decide_eq_true q), List.length_cons]
  · rw [if_neg q, if_neg (by rw [decide_eq_true_iff]; exact q)]; rfl
theorem cn3_z {a : Int} {R : List (Int × Int × Int)} : cn3 a R = 0 ↔ ∀ e, e ∈ R → e.2.2 ≠ a := by
  induction R with
  | nil => exact ⟨fun _ e h => absurd h List.not_mem_nil, fun _ => rfl⟩
  | cons r R ih =>
    rw [cn3_cons]
    by_cases q : r.2.2 = a
    · rw [if_pos q]
      exact ⟨fun w => absurd w (by omega), fun w => absurd q (w r List.mem_cons_self)⟩
    · rw [if_neg q, Nat.add_zero, ih]
      exact ⟨fun w e he => (List.mem_cons.mp he).elim (fun v => by rw [v]; exact q) (fun v => w e v), fun w e he => w e (List.mem_cons_of_mem _ he)⟩
theorem cn1_z {a : Int} {R : List (Int × Int × Int)} : cn1 a R = 0 ↔ ∀ e, e ∈ R → e.1 ≠ a := by
  induction R with
  | nil => exact ⟨fun _ e h => absurd h List.not_mem_nil, fun _ => rfl⟩
  | cons r R ih =>
    rw [cn1_cons]
    by_cases q : r.1 = a
    · rw [if_pos q]
      exact ⟨fun w => absurd w (by omega), fun w => absurd q (w r List.mem_cons_self)⟩
    · rw [if_neg q, Nat.add_zero, ih]
      exact ⟨fun w e he => (List.mem_cons.mp he).elim (fun v => by rw [v]; exact q) (fun v => w e v), fun w e he => w e (List.mem_cons_of_mem _ he)⟩
theorem nd_u {N : List (Int × Int × Int)} (h : (N.map (fun n => n.1)).Nodup) {a b : Int × Int × Int} (ha : a ∈ N) (hb : b ∈ N) (e : a.1 = b.1) : a = b := by
  induction N with
  | nil => exact absurd ha List.not_mem_nil
  | cons x N ih =>
    rw [List.map_cons] at h
    obtain ⟨h1, h2⟩ := List.nodup_cons.mp h
    have no : ∀ y, y ∈ N → y.1 = x.1 → False := fun y hy q => h1 (List.mem_map.mpr ⟨y, hy, q⟩)
    rcases List.mem_cons.mp ha with u | u
    · rcases List.mem_cons.mp hb with v | v
      · rw [u, v]
      · rw [u] at e; exact absurd (no b v e.symm) id
    · rcases List.mem_cons.mp hb with v | v
      · rw [v] at e; exact absurd (no a u e) id
      · exact ih h2 u v
theorem WR.u {N E A : List (Int × Int × Int)} {P : List (Int × Int × Int × (Int → Int))} {nx : Int} {ex : Int → Prop} (h : WR N E A P nx ex) {a b : Int × Int × Int} (ha : a ∈ N) (hb : b ∈ N) (e : a.1 = b.1) : a = b := nd_u h.1.2 ha hb e
theorem WR.m {N E A : List (Int × Int × Int)} {P : List (Int × Int × Int × (Int → Int))} {nx : Int} {ex : Int → Prop} {ex' : Int → Prop} (h : WR N E A P nx ex) (q : ∀ n, n ∈ N → n.2.1 ≠ 2 → n.1 ≠ 1 → ex n.1 → ex' n.1) : WR N E A P nx ex' :=
  ⟨h.1, h.2.1, h.2.2.1, h.2.2.2.1, h.2.2.2.2.1, h.2.2.2.2.2.1, fun n a b c d => h.2.2.2.2.2.2.1 n a b c (fun w => d (q n a b c w)), h.2.2.2.2.2.2.2⟩
theorem WR.p {N E A : List (Int × Int × Int)} {P : List (Int × Int × Int × (Int → Int))} {nx : Int} {ex : Int → Prop} {N' E' A' : List (Int × Int × Int)} {P' : List (Int × Int × Int × (Int → Int))} (h : WR N E A P nx ex) (pn : N.Perm N') (pe : E.Perm E') (pa : A.Perm A') (pp : P.Perm P') : WR N' E' A' P' nx ex := by
  obtain ⟨⟨h1, h1'⟩, h2, h3, h4, h5, h6, h7, h8, rk, h9⟩ := h
  have iN : ∀ {x}, inN N x → inN N' x := fun ⟨k, s, q⟩ => ⟨k, s, pn.mem_iff.mp q⟩
  refine ⟨⟨fun n hn => h1 n (pn.mem_iff.mpr hn), ((pn.map _).nodup_iff).mp h1'⟩, pn.mem_iff.mp h2, fun e he => ?_, fun a ha => iN (h4 a (pa.mem_iff.mpr ha)), fun p hp => ?_, ((pe.map _).nodup_iff).mp h6, fun n hn a b c => by rw [← perm_cn3 pe]; exact h7 n (pn.mem_iff.mpr hn) a b c, fun n hn a => ?_, rk, fun e he q => h9 e (pe.mem_iff.mpr he) (pn.mem_iff.mpr q)⟩
  · obtain ⟨a, b, c⟩ := h3 e (pe.mem_iff.mpr he)
    exact ⟨pn.mem_iff.mp a, iN b, c⟩
  · obtain ⟨k, s, a, b⟩ := h5 p (pp.mem_iff.mpr hp)
    exact ⟨k, s, pn.mem_iff.mp a, b⟩
  · obtain ⟨u, b, c⟩ := h8 n (pn.mem_iff.mpr hn) a
    exact ⟨u, b, pp.mem_iff.mp c⟩
/-- a new entry -/
theorem WR.addE {N E A : List (Int × Int × Int)} {P : List (Int × Int × Int × (Int → Int))} {nx : Int} {ex : Int → Prop} {d x t k s : Int} (h : WR N E A P nx ex) (hd : (d, 1, 0) ∈ N) (ht : (t, k, s) ∈ N) (t1 : t ≠ 1) (hx : ∀ q, q ∈ E → ¬ (q.1 = d ∧ q.2.1 = x)) (h3 : k ≠ 2 → cn3 t E = 0) (hr : k = 1 → ∃ rk, RKo N E rk ∧ rk d < rk t) : WR N ((d, x, t) :: E) A P nx (fun z => ex z ∧ z ≠ t) := by
  refine ⟨h.1, h.2.1, fun e he => ?_, h.2.2.2.1, h.2.2.2.2.1, ?_, fun n n1 n2 n3 n4 => ?_, h.2.2.2.2.2.2.2.1, ?_⟩
  · rcases List.mem_cons.mp he with w | w
    · rw [w]; exact ⟨hd, ⟨k, s, ht⟩, t1⟩
    · exact h.2.2.1 e w
  · rw [List.map_cons]
    refine List.nodup_cons.mpr ⟨fun w => ?_, h.2.2.2.2.2.1⟩
    obtain ⟨q, q1, q2⟩ := List.mem_map.mp w
    unfold ky2 at q2
    rw [Prod.mk.injEq] at q2
    exact hx q q1 q2
  · rw [cn3_cons]
    by_cases q : t = n.1
    · have e := h.u ht n1 q
      rw [← e] at n2 ⊢
      rw [if_pos rfl, h3 n2]
    · rw [if_neg q, h.2.2.2.2.2.2.1 n n1 n2 n3 (fun w => n4 ⟨w, fun v => q v.symm⟩)]
  · by_cases q : k = 1
    · obtain ⟨rk, r1, r2⟩ := hr q
      refine ⟨rk, fun e he w => ?_⟩
      rcases List.mem_cons.mp he with v | v
      · rw [v]; exact r2
      · exact r1 e v w
    · obtain ⟨rk, r1⟩ := h.2.2.2.2.2.2.2.2
      refine ⟨rk, fun e he w => ?_⟩
      rcases List.mem_cons.mp he with v | v
      · rw [v] at w
        have := h.u ht w rfl
        rw [Prod.mk.injEq, Prod.mk.injEq] at this
        exact absurd this.2.1 q
      · exact r1 e v w
/-- an entry less -/
theorem WR.delE {N E A : List (Int × Int × Int)} {P : List (Int × Int × Int × (Int → Int))} {nx : Int} {ex : Int → Prop} {r : Int × Int × Int} (h : WR N (r :: E) A P nx ex) : WR N E A P nx (fun z => ex z ∨ z = r.2.2) := by
  refine ⟨h.1, h.2.1, fun e he => h.2.2.1 e (List.mem_cons_of_mem _ he), h.2.2.2.1, h.2.2.2.2.1, ?_, fun n n1 n2 n3 n4 => ?_, h.2.2.2.2.2.2.2.1, ?_⟩
  · have := h.2.2.2.2.2.1
    rw [List.map_cons] at this
    exact (List.nodup_cons.mp this).2
  · have := h.2.2.2.2.2.2.1 n n1 n2 n3 (fun w => n4 (Or.inl w))
    rw [cn3_cons, if_neg (fun w => n4 (Or.inr w.symm))] at this
    exact this
  · obtain ⟨rk, q⟩ := h.2.2.2.2.2.2.2.2
    exact ⟨rk, fun e he => q e (List.mem_cons_of_mem _ he)⟩
theorem WR.nx1 {N E A : List (Int × Int × Int)} {P : List (Int × Int × Int × (Int → Int))} {nx : Int} {ex : Int → Prop} (h : WR N E A P nx ex) : 1 < nx := (h.1.1 _ h.2.1).1.2
theorem WR.nxN {N E A : List (Int × Int × Int)} {P : List (Int × Int × Int × (Int → Int))} {nx : Int} {ex : Int → Prop} (h : WR N E A P nx ex) : ∀ n, n ∈ N → n.1 ≠ nx := fun n hn => by have := (h.1.1 n hn).1.2; omega
theorem WR.nxE {N E A : List (Int × Int × Int)} {P : List (Int × Int × Int × (Int → Int))} {nx : Int} {ex : Int → Prop} (h : WR N E A P nx ex) : (∀ e, e ∈ E → e.1 ≠ nx ∧ e.2.2 ≠ nx) := fun e he => by
  obtain ⟨a, ⟨k, s, b⟩, -⟩ := h.2.2.1 e he
  exact ⟨h.nxN (e.1, 1, 0) a, h.nxN (e.2.2, k, s) b⟩
/-- a new thing -/
theorem WR.addN {N E A : List (Int × Int × Int)} {P : List (Int × Int × Int × (Int → Int))} {nx : Int} {ex : Int → Prop} {P' : List (Int × Int × Int × (Int → Int))} {k s : Int} (h : WR N E A P nx ex) (hk : k = 1 → s = 0) (h3 : k = 3 → (1 ≤ s ∧ s ≤ 64) ∧ ∃ b, (nx, 0, s, b) ∈ P') (hp : ∀ p, p ∈ P' → p ∈ P ∨ (p.1 = nx ∧ k ≠ 1 ∧ 64 * p.2.1 + p.2.2.1 ≤ s ∧ (k = 3 → p.2.1 = 0))) (hpp : ∀ p, p ∈ P → p ∈ P') : WR ((nx, k, s) :: N) E A P' (nx + 1) (fun z => ex z ∨ z = nx) := by
  have x1 := h.nx1
  have iN : ∀ {x}, inN N x → inN ((nx, k, s) :: N) x := fun ⟨k, s, q⟩ => ⟨k, s, List.mem_cons_of_mem _ q⟩
  refine ⟨⟨fun n hn => ?_, ?_⟩, List.mem_cons_of_mem _ h.2.1, fun e he => ?_, fun a ha => iN (h.2.2.2.1 a ha), fun p hq => ?_, h.2.2.2.2.2.1, fun n n1 n2 n3 n4 => ?_, fun n n1 n2 => ?_, ?_⟩
  · rcases List.mem_cons.mp hn with w | w
    · rw [w]; exact ⟨⟨by show 1 ≤ nx; omega, by show nx < nx + 1; omega⟩, hk⟩
    · have := h.1.1 n w; exact ⟨⟨this.1.1, by omega⟩, this.2⟩
  · rw [List.map_cons]
    refine List.nodup_cons.mpr ⟨fun w => ?_, h.1.2⟩
    obtain ⟨q, q1, q2⟩ := List.mem_map.mp w
    exact h.nxN q q1 q2
  · obtain ⟨a, b, c⟩ := h.2.2.1 e he
    exact ⟨List.mem_cons_of_mem _ a, iN b, c⟩
  · rcases hp p hq with w | w
    · obtain ⟨k', s', a, b⟩ := h.2.2.2.2.1 p w
      exact ⟨k', s', List.mem_cons_of_mem _ a, b⟩
    · exact ⟨k, s, by rw [w.1]; exact List.mem_cons_self, w.2⟩
  · rcases List.mem_cons.mp n1 with w | w
    · exact absurd (Or.inr (by rw [w])) n4
    · exact h.2.2.2.2.2.2.1 n w n2 n3 (fun v => n4 (Or.inl v))
  · rcases List.mem_cons.mp n1 with w | w
    · rw [w] at n2 ⊢; exact h3 n2
    · obtain ⟨a, b, c⟩ := h.2.2.2.2.2.2.2.1 n w n2
      exact ⟨a, b, hpp _ c⟩
  · obtain ⟨rk, r1⟩ := h.2.2.2.2.2.2.2.2
    refine ⟨rk, fun e he w => r1 e he ?_⟩
    rcases List.mem_cons.mp w with v | v
    · have := (h.nxE e he).2
      rw [Prod.mk.injEq] at v
      exact absurd v.1 this
    · exact v
/-- a thing less -/
theorem WR.delN {N E A : List (Int × Int × Int)} {P : List (Int × Int × Int × (Int → Int))} {nx : Int} {ex : Int → Prop} {w k s : Int} (h : WR ((w, k, s) :: N) E A P nx ex) (w1 : w ≠ 1) (c1 : ∀ e, e ∈ E → e.1 ≠ w) (c3 : ∀ e, e ∈ E → e.2.2 ≠ w) : WR N E (A.filter (fun r => decide (kpA w r))) (P.filter (fun p => decide (p.1 ≠ w))) nx ex := by
  have nd := h.1.2
  rw [List.map_cons] at nd
  obtain ⟨nd1, nd2⟩ := List.nodup_cons.mp nd
  have iN : ∀ {r : Int × Int × Int}, r ∈ (w, k, s) :: N → r.1 ≠ w → r ∈ N := fun {r} a b => by
    rcases List.mem_cons.mp a with v | v
    · exact absurd (by rw [v]) b
    · exact v
  refine ⟨⟨fun n hn => h.1.1 n (List.mem_cons_of_mem _ hn), nd2⟩, iN h.2.1 (fun q => w1 q.symm), fun e he => ?_, fun a ha => ?_, fun p hp => ?_, h.2.2.2.2.2.1, fun n n1 => h.2.2.2.2.2.2.1 n (List.mem_cons_of_mem _ n1), fun n n1 n2 => ?_, ?_⟩
  · obtain ⟨a, ⟨k', s', b⟩, c⟩ := h.2.2.1 e he
    exact ⟨iN a (c1 e he), ⟨k', s', iN b (c3 e he)⟩, c⟩
  · obtain ⟨a1, a2⟩ := (fl_mem (p := fun r => kpA w r)).mp ha
    obtain ⟨k', s', b⟩ := h.2.2.2.1 a a1
    exact ⟨k', s', iN b a2⟩
  · obtain ⟨a1, a2⟩ := (fl_mem (p := fun p : Int × Int × Int × (Int → Int) => p.1 ≠ w)).mp hp
    obtain ⟨k', s', b, c⟩ := h.2.2.2.2.1 p a1
    exact ⟨k', s', iN b a2, c⟩
  · obtain ⟨a, b, c⟩ := h.2.2.2.2.2.2.2.1 n (List.mem_cons_of_mem _ n1) n2
    exact ⟨a, b, (fl_mem (p := fun p : Int × Int × Int × (Int → Int) => p.1 ≠ w)).mpr ⟨c, fun q => nd1 (List.mem_map.mpr ⟨n, n1, q⟩)⟩⟩
  · obtain ⟨rk, r1⟩ := h.2.2.2.2.2.2.2.2
    exact ⟨rk, fun e he q => r1 e he (List.mem_cons_of_mem _ q)⟩
/-- a file's size and pieces -/
theorem WR.sz {N E A : List (Int × Int × Int)} {P : List (Int × Int × Int × (Int → Int))} {nx : Int} {ex : Int → Prop} {P' : List (Int × Int × Int × (Int → Int))} {w s s' : Int} (h : WR ((w, 2, s) :: N) E A P nx ex) (hp : ∀ p, p ∈ P' → (p ∈ P ∧ p.1 ≠ w) ∨ (p.1 = w ∧ 64 * p.2.1 + p.2.2.1 ≤ s')) (hpp : ∀ p, p ∈ P → p.1 ≠ w → p ∈ P') : WR ((w, 2, s') :: N) E A P' nx ex := by
  have nd := h.1.2
  rw [List.map_cons] at nd
  obtain ⟨nd1, nd2⟩ := List.nodup_cons.mp nd
  have iN : ∀ {r : Int × Int × Int}, r ∈ (w, 2, s) :: N → r.2.1 ≠ 2 → r ∈ (w, 2, s') :: N := fun {r} a b => by
    rcases List.mem_cons.mp a with v | v
    · exact absurd (by rw [v]) b
    · exact List.mem_cons_of_mem _ v
  have iK : ∀ {x}, inN ((w, 2, s) :: N) x → inN ((w, 2, s') :: N) x := fun ⟨k, t, q⟩ => by
    rcases List.mem_cons.mp q with v | v
    · rw [Prod.mk.injEq] at v; exact ⟨2, s', by rw [v.1]; exact List.mem_cons_self⟩
    · exact ⟨k, t, List.mem_cons_of_mem _ v⟩
  have bk : ∀ {r : Int × Int × Int}, r ∈ (w, 2, s') :: N → r.2.1 ≠ 2 → r ∈ (w, 2, s) :: N := fun {r} a b => by
    rcases List.mem_cons.mp a with v | v
    · exact absurd (by rw [v]) b
    · exact List.mem_cons_of_mem _ v
  refine ⟨⟨fun n hn => ?_, ?_⟩, iN h.2.1 (by decide), fun e he => ?_, fun a ha => iK (h.2.2.2.1 a ha), fun p hq => ?_, h.2.2.2.2.2.1, fun n n1 n2 => h.2.2.2.2.2.2.1 n (bk n1 n2) n2, fun n n1 n2 => ?_, ?_⟩
  · rcases List.mem_cons.mp hn with v | v
    · rw [v]; exact ⟨(h.1.1 _ List.mem_cons_self).1, fun q => absurd q (by show ¬ ((2 : Int) = 1); decide)⟩
    · exact h.1.1 n (List.mem_cons_of_mem _ v)
  · rw [List.map_cons]; exact nd
  · obtain ⟨a, b, c⟩ := h.2.2.1 e he
    exact ⟨iN a (by show (1 : Int) ≠ 2; decide), iK b, c⟩
  · rcases hp p hq with ⟨a, b⟩ | ⟨a, b⟩
    · obtain ⟨k', t, c, d⟩ := h.2.2.2.2.1 p a
      rcases List.mem_cons.mp c with v | v
      · rw [Prod.mk.injEq] at v; exact absurd v.1 b
      · exact ⟨k', t, List.mem_cons_of_mem _ v, d⟩
    · exact ⟨2, s', by rw [a]; exact List.mem_cons_self, by decide, b, fun q => absurd q (by decide)⟩
  · rcases List.mem_cons.mp n1 with v | v
    · rw [v] at n2; exact absurd n2 (by show ¬ ((2 : Int) = 3); decide)
    · obtain ⟨a, b, c⟩ := h.2.2.2.2.2.2.2.1 n (List.mem_cons_of_mem _ v) n2
      exact ⟨a, b, hpp _ c (fun q => nd1 (List.mem_map.mpr ⟨n, v, q⟩))⟩
  · obtain ⟨rk, r1⟩ := h.2.2.2.2.2.2.2.2
    exact ⟨rk, fun e he q => r1 e he (bk q (by show (1 : Int) ≠ 2; decide))⟩
theorem WR.at' {N E A : List (Int × Int × Int)} {P : List (Int × Int × Int × (Int → Int))} {nx : Int} {ex : Int → Prop} {A' : List (Int × Int × Int)} (h : WR N E A P nx ex) (ha : ∀ a, a ∈ A' → inN N a.1) : WR N E A' P nx ex := ⟨h.1, h.2.1, h.2.2.1, ha, h.2.2.2.2⟩
