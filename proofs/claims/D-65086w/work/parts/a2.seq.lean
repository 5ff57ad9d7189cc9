/-! rows of entries -/
theorem CH.rf {σ : St} {o : Int} {K : List Int} (hp : PO σ o) (hK : ∀ x, x ∈ K → ¬ FP σ o x) (h0 : 0 ≤ gI σ 390 o) : CH σ σ o K K :=
  ⟨fun _ h => Or.inl h, fun _ h => Or.inl h, ⟨hp, hK⟩, rfl, fun _ _ => rfl, ⟨h0, Int.le_refl _⟩, fun x h _ => ⟨h, KE.rf σ x, rfl, rfl, rfl, rfl⟩, fun _ p _ => p, Fr.rf _ _⟩
def itL (σ : St) : Nat → Int × Int × Int × Int × Int × Int → List (Int × Int × Int × Int × Int × Int)
  | 0, e => [e]
  | l + 1, e => ls σ l e.2.2.2.2.2
def itK (σ : St) : Nat → Int × Int × Int × Int × Int × Int → List Int
  | 0, _ => []
  | l + 1, e => kl σ l e.2.2.2.2.2
def itW (σ : St) : Nat → Int × Int × Int × Int × Int × Int → Int → Prop
  | 0, e, _ => e.2.2.2.2.2 = -1
  | l + 1, e, u => ky σ e.2.2.2.2.2 0 = kyE e ∧ WT σ l 4 8 e.2.2.2.2.2 (kyE e) u
def nxq (s : Int → Int × Int × Int × Int × Int × Int) (n k hi : Int) : Int := if k + 1 < n then kyE (s (k + 1)) else hi
def WQ (σ : St) (l : Nat) (s : Int → Int × Int × Int × Int × Int × Int) (n lo hi : Int) : Prop := ∀ k, 0 ≤ k → k < n → (lo ≤ kyE (s k) ∧ kyE (s k) < nxq s n k hi) ∧ itW σ l (s k) (nxq s n k hi)
theorem ls_it (σ : St) (l : Nat) (z : Int) : ls σ l z = cat (fun k => itL σ l (en σ z k)) (gI σ 577 z).toNat := by cases l <;> rfl
theorem cat_nil {α : Type} : ∀ n : Nat, cat (fun _ => ([] : List α)) n = []
  | 0 => rfl
  | n + 1 => by show cat _ n ++ [] = []; rw [cat_nil n]; rfl
theorem kl_it (σ : St) (l : Nat) (z : Int) : kl σ l z = z :: cat (fun k => itK σ l (en σ z k)) (gI σ 577 z).toNat := by
  cases l with
  | zero => show [z] = z :: cat (fun _ => []) _; rw [cat_nil]
  | succ l => rfl
theorem WT_it {σ : St} {l : Nat} {mn mx z lo hi : Int} : WT σ l mn mx z lo hi ↔ (0 ≤ z ∧ z < 640) ∧ gI σ 576 z = l ∧ (mn ≤ gI σ 577 z ∧ (if l = 0 then 0 else 1) ≤ gI σ 577 z ∧ gI σ 577 z ≤ mx) ∧ WQ σ l (en σ z) (gI σ 577 z) lo hi := by
  cases l with
  | zero => exact Iff.rfl
  | succ l =>
    refine ⟨fun h => ⟨h.1, by rw [h.2.1]; omega, ?_, h.2.2.2⟩, fun h => ⟨h.1, by rw [h.2.1]; omega, ?_, h.2.2.2⟩⟩
    · rw [if_neg (by omega)]; exact h.2.2.1
    · have := h.2.2.1; rw [if_neg (by omega)] at this; exact this
theorem itW.mono {σ : St} {l : Nat} {e : Int × Int × Int × Int × Int × Int} {u u' : Int} (h : itW σ l e u) (hu : u ≤ u') : itW σ l e u' := by
  cases l with
  | zero => exact h
  | succ l => exact ⟨h.1, h.2.mono (Int.le_refl _) (Int.le_refl _) (Int.le_refl _) hu⟩
theorem it_fr {σ τ : St} {l : Nat} {e : Int × Int × Int × Int × Int × Int} (h : ∀ x, x ∈ itK σ l e → KE σ τ x) : itL τ l e = itL σ l e ∧ itK τ l e = itK σ l e ∧ ∀ u, itW σ l e u → itW τ l e u := by
  cases l with
  | zero => exact ⟨rfl, rfl, fun _ h => h⟩
  | succ l =>
    obtain ⟨a, b⟩ := tr_fr l e.2.2.2.2.2 h
    refine ⟨a, b, fun u w => ⟨?_, w.2.fr h⟩⟩
    rw [(h _ (kl_self σ l _)).k]; exact w.1
theorem WQ.ext {σ : St} {l : Nat} {s s' : Int → Int × Int × Int × Int × Int × Int} {n lo hi : Int} (h : WQ σ l s n lo hi) (e : ∀ k, 0 ≤ k → k < n → s' k = s k) : WQ σ l s' n lo hi := by
  intro k k0 k1
  have a := h k k0 k1
  have x : nxq s' n k hi = nxq s n k hi := by
    unfold nxq
    by_cases q : k + 1 < n
    · rw [if_pos q, if_pos q, e (k + 1) (by omega) q]
    · rw [if_neg q, if_neg q]
  rw [e k k0 k1, x]; exact a
theorem WQ.fr {σ τ : St} {l : Nat} {s : Int → Int × Int × Int × Int × Int × Int} {n lo hi : Int} (h : WQ σ l s n lo hi) (e : ∀ k, 0 ≤ k → k < n → ∀ x, x ∈ itK σ l (s k) → KE σ τ x) : WQ τ l s n lo hi := by
  intro k k0 k1
  have a := h k k0 k1
  exact ⟨a.1, (it_fr (e k k0 k1)).2.2 _ a.2⟩
theorem WQ.ord {σ : St} {l : Nat} {s : Int → Int × Int × Int × Int × Int × Int} {n lo hi : Int} (h : WQ σ l s n lo hi) {i j : Int} (i0 : 0 ≤ i) (ij : i < j) (j1 : j < n) : nxq s n i hi ≤ kyE (s j) ∧ kyE (s i) < kyE (s j) := by
  have step : ∀ m : Nat, ∀ j : Int, j = i + 1 + m → j < n → nxq s n i hi ≤ kyE (s j) := by
    intro m
    induction m with
    | zero => intro j e j1; unfold nxq; rw [if_pos (by omega), show i + 1 = j by omega]; exact Int.le_refl _
    | succ m ih =>
      intro j e j1
      have a := ih (j - 1) (by omega) (by omega)
      have b := (h (j - 1) (by omega) (by omega)).1.2
      unfold nxq at b
      rw [if_pos (by omega), show j - 1 + 1 = j by omega] at b
      omega
  have s1 := step (j - i - 1).toNat j (by omega) j1
  exact ⟨s1, by have := (h i i0 (by omega)).1.2; omega⟩
theorem WQ.lt {σ : St} {l : Nat} {s : Int → Int × Int × Int × Int × Int × Int} {n lo hi : Int} (h : WQ σ l s n lo hi) {i : Int} (i0 : 0 ≤ i) (i1 : i < n) : kyE (s i) < hi ∧ nxq s n i hi ≤ hi := by
  by_cases e : i + 1 < n
  · have a := h.ord (i := i) (j := n - 1) i0 (by omega) (by omega)
    have b := (h (n - 1) (by omega) (by omega)).1.2
    unfold nxq at b
    rw [if_neg (by omega)] at b
    omega
  · have b := (h i i0 i1).1.2
    unfold nxq at b ⊢
    rw [if_neg e] at b ⊢
    omega
theorem WQ.lo {σ : St} {l : Nat} {s : Int → Int × Int × Int × Int × Int × Int} {n lo lo' hi hi' : Int} (h : WQ σ l s n lo hi) (h1 : lo' ≤ lo) (h2 : hi ≤ hi') : WQ σ l s n lo' hi' := by
  intro k k0 k1
  have a := h k k0 k1
  have x : nxq s n k hi ≤ nxq s n k hi' := by unfold nxq; split <;> omega
  exact ⟨by omega, a.2.mono x⟩
/-- the first m, and the others -/
theorem WQ.fst {σ : St} {l : Nat} {s : Int → Int × Int × Int × Int × Int × Int} {n lo hi m : Int} (h : WQ σ l s n lo hi) (hm : m < n) : WQ σ l s m lo (kyE (s m)) := by
  intro k k0 k1
  have a := h k k0 (by omega)
  have x : nxq s n k hi = nxq s m k (kyE (s m)) := by
    unfold nxq
    rw [if_pos (by omega)]
    by_cases q : k + 1 < m
    · rw [if_pos q]
    · rw [if_neg q, show k + 1 = m by omega]
  rw [← x]; exact a
theorem WQ.snd {σ : St} {l : Nat} {s : Int → Int × Int × Int × Int × Int × Int} {n lo hi m : Int} (h : WQ σ l s n lo hi) (m0 : 0 ≤ m) : WQ σ l (fun i => s (m + i)) (n - m) (kyE (s m)) hi := by
  intro k k0 k1
  have a := h (m + k) (by omega) (by omega)
  have x : nxq s n (m + k) hi = nxq (fun i => s (m + i)) (n - m) k hi := by
    unfold nxq
    by_cases q : m + k + 1 < n
    · rw [if_pos q, if_pos (by omega), show m + k + 1 = m + (k + 1) by omega]
    · rw [if_neg q, if_neg (by omega)]
  rw [x] at a
  refine ⟨⟨?_, a.1.2⟩, a.2⟩
  show kyE (s m) ≤ kyE (s (m + k))
  by_cases e : k = 0
  · rw [e, show m + 0 = m by omega]; exact Int.le_refl _
  · have := (h.ord (i := m) (j := m + k) m0 (by omega) (by omega)).2
    omega
def catq (s : Int → Int × Int × Int × Int × Int × Int) (m : Int) (t : Int → Int × Int × Int × Int × Int × Int) : Int → Int × Int × Int × Int × Int × Int := fun i => if i < m then s i else t (i - m)
theorem WQ.join {σ : St} {l : Nat} {s t : Int → Int × Int × Int × Int × Int × Int} {m n lo hi mid : Int} (h : WQ σ l s m lo mid) (k : WQ σ l t n lo hi) (hm : 0 ≤ m) (h1 : 0 < n → mid ≤ kyE (t 0)) (h2 : n = 0 → mid ≤ hi) (hn : 0 ≤ n) : WQ σ l (catq s m t) (m + n) lo hi := by
  intro i i0 i1
  by_cases e : i < m
  · have a := h i i0 e
    have c : catq s m t i = s i := by unfold catq; rw [if_pos e]
    have x : nxq s m i mid ≤ nxq (catq s m t) (m + n) i hi := by
      unfold nxq
      by_cases q : i + 1 < m
      · rw [if_pos q, if_pos (by omega)]
        unfold catq; rw [if_pos q]; exact Int.le_refl _
      · rw [if_neg q]
        by_cases q2 : i + 1 < m + n
        · rw [if_pos q2]
          unfold catq; rw [if_neg q, show i + 1 - m = 0 by omega]; exact h1 (by omega)
        · rw [if_neg q2]; exact h2 (by omega)
    rw [c]
    exact ⟨by omega, a.2.mono x⟩
  · have a := k (i - m) (by omega) (by omega)
    have c : catq s m t i = t (i - m) := by unfold catq; rw [if_neg e]
    have x : nxq t n (i - m) hi = nxq (catq s m t) (m + n) i hi := by
      unfold nxq
      by_cases q : i - m + 1 < n
      · rw [if_pos q, if_pos (by omega)]
        unfold catq; rw [if_neg (by omega), show i + 1 - m = i - m + 1 by omega]
      · rw [if_neg q, if_neg (by omega)]
    rw [c, ← x]; exact a
theorem cat_q {α : Type} (f : Int × Int × Int × Int × Int × Int → List α) (s t : Int → Int × Int × Int × Int × Int × Int) (m n : Nat) : cat (fun i => f (catq s m t i)) (m + n) = cat (fun i => f (s i)) m ++ cat (fun i => f (t i)) n := by
  rw [cat_add]
  congr 1
  · refine cat_ext _ (fun i a b => ?_)
    unfold catq; rw [if_pos b]
  · refine cat_ext _ (fun i a b => ?_)
    unfold catq; rw [if_neg (by omega), show (m : Int) + i - m = i by omega]
/-- an entry of a leaf between others -/
theorem WQ.ins0 {σ : St} {s : Int → Int × Int × Int × Int × Int × Int} {n lo hi p : Int} {e : Int × Int × Int × Int × Int × Int} (h : WQ σ 0 s n lo hi) (hp : 0 ≤ p ∧ p ≤ n) (he : e.2.2.2.2.2 = -1) (h1 : ∀ k, 0 ≤ k → k < p → kyE (s k) < kyE e) (h2 : p < n → kyE e < kyE (s p)) (h3 : kyE e < hi) : WQ σ 0 (catq s p (catq (fun _ => e) 1 (fun i => s (p + i)))) (n + 1) (min lo (kyE e)) hi := by
  intro i i0 i1
  have c : ∀ i, 0 ≤ i → catq s p (catq (fun _ => e) 1 (fun i => s (p + i))) i = if i < p then s i else if i = p then e else s (i - 1) := by
    intro i i0
    unfold catq
    by_cases q : i < p
    · rw [if_pos q, if_pos q]
    · rw [if_neg q, if_neg q]
      by_cases q2 : i = p
      · rw [if_pos q2, if_pos (by omega)]
      · rw [if_neg q2, if_neg (by omega)]
        show s (p + (i - p - 1)) = s (i - 1)
        rw [show p + (i - p - 1) = i - 1 by omega]
  unfold nxq
  by_cases q : i < p
  · have a := h i i0 (by omega)
    rw [if_pos (by omega), c i i0, if_pos q, c (i + 1) (by omega)]
    refine ⟨⟨by omega, ?_⟩, a.2⟩
    by_cases q2 : i + 1 < p
    · rw [if_pos q2]
      exact (h.ord (i := i) (j := i + 1) i0 (by omega) (by omega)).2
    · rw [if_neg q2, if_pos (by omega)]
      exact h1 i i0 q
  · by_cases q2 : i = p
    · rw [c i i0, if_neg q, if_pos q2]
      refine ⟨⟨by omega, ?_⟩, he⟩
      by_cases q3 : i + 1 < n + 1
      · have x : (if i + 1 < p then s (i + 1) else if i + 1 = p then e else s (i + 1 - 1)) = s p := by rw [if_neg (by omega), if_neg (by omega), show i + 1 - 1 = p by omega]
        rw [if_pos q3, c (i + 1) (by omega), x]; exact h2 (by omega)
      · rw [if_neg q3]; exact h3
    · rw [c i i0, if_neg q, if_neg q2]
      have a := h (i - 1) (by omega) (by omega)
      refine ⟨⟨by omega, ?_⟩, a.2⟩
      have b := a.1.2
      unfold nxq at b
      by_cases q3 : i + 1 < n + 1
      · have x : (if i + 1 < p then s (i + 1) else if i + 1 = p then e else s (i + 1 - 1)) = s i := by rw [if_neg (by omega), if_neg (by omega), show i + 1 - 1 = i by omega]
        rw [if_pos q3, c (i + 1) (by omega), x]
        rw [if_pos (by omega), show i - 1 + 1 = i by omega] at b
        exact b
      · rw [if_neg q3]
        rw [if_neg (by omega)] at b
        exact b
theorem itK_dis {σ : St} {l : Nat} {s : Int → Int × Int × Int × Int × Int × Int} {n lo hi : Int} (h : WQ σ l s n lo hi) {i j x : Int} (i0 : 0 ≤ i) (i1 : i < n) (j0 : 0 ≤ j) (j1 : j < n) (ij : i ≠ j) (hx : x ∈ itK σ l (s i)) : x ∉ itK σ l (s j) := by
  cases l with
  | zero => cases hx
  | succ l =>
    intro hy
    have a := (h i i0 i1).2.2.krng (by omega) x hx
    have b := (h j j0 j1).2.2.krng (by omega) x hy
    rcases Int.lt_or_gt_of_ne ij with q | q
    · have := (h.ord i0 q j1).1
      omega
    · have := (h.ord j0 q i1).1
      omega
theorem itK_lev {σ : St} {l : Nat} {s : Int → Int × Int × Int × Int × Int × Int} {n lo hi : Int} (h : WQ σ l s n lo hi) {i x : Int} (i0 : 0 ≤ i) (i1 : i < n) (hx : x ∈ itK σ l (s i)) : gI σ 576 x < l := by
  cases l with
  | zero => cases hx
  | succ l =>
    have a := (h i i0 i1).2.2.klev x hx
    omega
