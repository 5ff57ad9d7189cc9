/-! knots are given back; rows parted anew -/
def mGi (o y : Int) (f : Nat) (o' : Int) : Prop := (f = 583 ∧ o' = y) ∨ ((f = 385 ∨ f = 386) ∧ o' = o)
theorem sp_give {tv : Nat → Int} {cf : Cf} {σ : St} {o y : Int} {Q : St → Prop} (hy : 0 ≤ y) (hf : gI σ 584 y ≠ 0) (hc : 0 ≤ gI σ 577 y ∧ gI σ 577 y ≤ 9) (hfr : 1 ≤ gI σ 386 o ∧ gI σ 386 o ≤ 320)
    (hQ : ∀ τ, gI τ 386 o = gI σ 386 o - 1 → (∀ i, gA τ 385 o i = if i = gI σ 386 o - 1 then y else gA σ 385 o i) → Fr (mGi o y) σ τ → Q τ) : wp_Index_give cf tv o y Q σ := by
  unfold wp_Index_give
  refine sp_touch hy (fun q => absurd q hf) (fun σ1 _ t2 _ _ _ _ _ _ => ?_)
  have e1 := t2 hf
  rw [e1]
  refine lQ1_rule (fun k τ => (0 ≤ k ∧ k ≤ gI σ 577 y) ∧ Fr (fun f o' => f = 583 ∧ o' = y) σ τ) (fun k _ => (9 - k).toNat) ?_ 0 σ ⟨by omega, Fr.rf _ _⟩
  intro K k τ hI hK
  obtain ⟨hk, fr⟩ := hI
  have ec : gI τ 577 y = gI σ 577 y := fr.i _ _ (fun q => absurd q.1 (by decide))
  have ef : gI τ 386 o = gI σ 386 o := fr.i _ _ (fun q => absurd q.1 (by decide))
  have ep : gA τ 385 o = gA σ 385 o := fr.a _ _ (fun q => absurd q.1 (by decide))
  unfold wp_Index_give_L7
  rw [ec, ef, w32_id (by unfold rI; omega)]
  refine ⟨hy, fun q σ16 e16 => ⟨by omega, fun σ17 e17 => ?_⟩, fun q => ⟨by omega, fun σ18 e18 k' ek => ?_⟩⟩
  · rw [e17, e16]
    refine hQ _ (by rw [gI_sA, gI_sI, if_pos ⟨rfl, rfl⟩]) (fun i => ?_) (((fr.mono (fun f o' q => Or.inl q)).sI (Or.inr ⟨by omega, rfl⟩)).sA (Or.inr ⟨by omega, rfl⟩))
    rw [sA_if, gA_sI, ep]
  · rw [w32_id (by unfold rI; omega)] at ek
    rw [ek, e18]
    exact hK _ _ ⟨by omega, fr.sA ⟨rfl, rfl⟩⟩ (by omega)
theorem CH.give {σ τ : St} {o y : Int} (hp : PO σ o) (hy : ¬ FP σ o y) (h0 : 0 ≤ gI σ 390 o) (hf : gI σ 584 y ≠ 0) (hr : 320 * o ≤ y ∧ y < 320 * o + 320) (h1 : 1 ≤ gI σ 386 o) (q1 : gI τ 386 o = gI σ 386 o - 1) (q2 : ∀ i, gA τ 385 o i = if i = gI σ 386 o - 1 then y else gA σ 385 o i) (fr : Fr (mGi o y) σ τ) : CH σ τ o [y] [] := by
  have nm : ∀ f o', (f ≠ 385 ∧ f ≠ 386 ∧ f ≠ 583) → ¬ mGi o y f o' := fun f o' a q => by unfold mGi at q; omega
  have f4 := fr.i 390 o (nm _ _ (by decide))
  have f5 := fr.a 388 o (nm _ _ (by decide))
  have f6 := fr.a 389 o (nm _ _ (by decide))
  have hp1 := hp.1
  refine ⟨fun x hx => (by cases hx), fun x hx => ?_, ⟨⟨by rw [q1]; omega, fun i i0 i1 => ?_⟩, fun x hx => (by cases hx)⟩, by rw [q1]; simp only [List.length_cons, List.length_nil]; omega, fun n hn => ?_, ?_, fun x hx => (by cases hx), fun P p1 p2 => by rw [f4, f5, f6]; exact p1, fr.mono (fun f o' q => ?_)⟩
  · obtain ⟨i, hi, e⟩ := hx
    rw [q1] at hi
    rw [q2] at e
    by_cases w : i = gI σ 386 o - 1
    · rw [if_pos w] at e; exact Or.inr (List.mem_singleton.mpr e.symm)
    · rw [if_neg w] at e; exact Or.inl ⟨i, by omega, e⟩
  · rw [q1] at i0
    rw [q2]
    by_cases w : i = gI σ 386 o - 1
    · rw [if_pos w]
      refine ⟨hr, fun j j0 j1 e => ?_⟩
      rw [q1] at j0
      rw [q2] at e
      by_cases v : j = gI σ 386 o - 1
      · omega
      · rw [if_neg v] at e
        exact absurd ⟨j, by omega, e.symm⟩ hy
    · rw [if_neg w]
      obtain ⟨g1, g2⟩ := hp.2 i (by omega) i1
      refine ⟨g1, fun j j0 j1 e => ?_⟩
      rw [q1] at j0
      rw [q2] at e
      by_cases v : j = gI σ 386 o - 1
      · rw [if_pos v] at e
        exact absurd ⟨i, by omega, e⟩ hy
      · rw [if_neg v] at e
        exact g2 j (by omega) j1 e
  · have : fz σ y n = 0 := by unfold fz; rw [if_neg (fun w => hf w.1)]
    unfold oS
    rw [kS_cons, this, f4, f5, f6]
    show 0 + _ = 0 + 0 + _
    omega
  · rw [nfr_cons, if_neg hf, f4]
    show _ ∧ _ + ((0 : Nat) : Int) ≤ _ + ((0 + 0 : Nat) : Int)
    omega
  · unfold mGi at q; unfold mCh
    rcases q with q | q
    · exact Or.inr ⟨by omega, Or.inl (List.mem_singleton.mpr q.2)⟩
    · exact Or.inl ⟨by omega, q.2⟩
/-- places a .. b - 1 have m others -/
def repq (s : Int → Int × Int × Int × Int × Int × Int) (a b : Int) (t : Int → Int × Int × Int × Int × Int × Int) (m : Int) : Int → Int × Int × Int × Int × Int × Int := catq s a (catq t m (fun i => s (b + i)))
theorem repq_eq (s : Int → Int × Int × Int × Int × Int × Int) (a b : Int) (t : Int → Int × Int × Int × Int × Int × Int) (m i : Int) : repq s a b t m i = if i < a then s i else if i < a + m then t (i - a) else s (i - a - m + b) := by
  unfold repq catq
  by_cases q : i < a
  · rw [if_pos q, if_pos q]
  · rw [if_neg q, if_neg q]
    by_cases q2 : i < a + m
    · rw [if_pos q2, if_pos (by omega)]
    · rw [if_neg q2, if_neg (by omega)]
      show s (b + (i - a - m)) = _
      rw [show b + (i - a - m) = i - a - m + b by omega]
theorem cat_repq {α : Type} (f : Int × Int × Int × Int × Int × Int → List α) (s t : Int → Int × Int × Int × Int × Int × Int) {a b m n : Int} (ha : 0 ≤ a) (hm : 0 ≤ m) (hb : b ≤ n) : cat (fun i => f (repq s a b t m i)) (a + m + (n - b)).toNat = cat (fun i => f (s i)) a.toNat ++ (cat (fun i => f (t i)) m.toNat ++ cat (fun i => f (s (b + i))) (n - b).toNat) := by
  obtain ⟨k, rfl⟩ : ∃ k : Nat, a = k := ⟨a.toNat, by omega⟩
  obtain ⟨j, rfl⟩ : ∃ j : Nat, m = j := ⟨m.toNat, by omega⟩
  rw [show ((k : Int) + j + (n - b)).toNat = k + (j + (n - b).toNat) by omega, show (k : Int).toNat = k by omega, show (j : Int).toNat = j by omega]
  unfold repq
  rw [cat_q f s _ k (j + (n - b).toNat), cat_q f t _ j (n - b).toNat]
theorem WQ.reb {σ τ : St} {l : Nat} {s t : Int → Int × Int × Int × Int × Int × Int} {n lo hi a b m : Int} (h : WQ σ l s n lo hi) (ha : 0 ≤ a ∧ a < b ∧ b ≤ n) (hm : 1 ≤ m) (hf : ∀ i, 0 ≤ i → i < n → (i < a ∨ b ≤ i) → ∀ x, x ∈ itK σ l (s i) → KE σ τ x) (ht : WQ τ l t m lo (if b < n then kyE (s b) else hi)) (hk : kyE (s a) ≤ kyE (t 0)) : WQ τ l (repq s a b t m) (a + m + (n - b)) lo hi := by
  have h1 : WQ τ l s a lo (kyE (s a)) := (h.fst (by omega)).fr (fun k k0 k1 x hx => hf k k0 (by omega) (Or.inl k1) x hx)
  have h2 : WQ τ l (fun i => s (b + i)) (n - b) (kyE (s b)) hi := (h.snd (m := b) (by omega)).fr (fun k k0 k1 x hx => hf (b + k) (by omega) (by omega) (Or.inr (by omega)) x hx)
  have lob : b < n → lo ≤ kyE (s b) := fun q => (h b (by omega) q).1.1
  have h2' : WQ τ l (fun i => s (b + i)) (n - b) lo hi := by
    by_cases q : b < n
    · exact h2.lo (lob q) (Int.le_refl _)
    · intro k k0 k1; omega
  have h3 : WQ τ l (catq t m (fun i => s (b + i))) (m + (n - b)) lo hi := by
    refine WQ.join ht h2' (by omega) (fun q => ?_) (fun q => ?_) (by omega)
    · rw [if_pos (by omega), show b + 0 = b by omega]; exact Int.le_refl _
    · rw [if_neg (by omega)]; exact Int.le_refl _
  rw [show a + m + (n - b) = a + (m + (n - b)) by omega]
  refine WQ.join h1 h3 ha.1 (fun _ => ?_) (fun q => by omega) (by omega)
  unfold catq; rw [if_pos (by omega)]; exact hk
/-- a row in two knots -/
theorem split2 {σ τ : St} {l : Nat} {S : Int → Int × Int × Int × Int × Int × Int} {n lo hi m x y : Int} (h : WQ σ l S n lo hi) (hm : 4 ≤ m ∧ m ≤ 8) (hn : 4 ≤ n - m ∧ n - m ≤ 8) (c1 : gI τ 577 x = m) (c2 : gI τ 577 y = n - m) (e1 : ∀ i, 0 ≤ i → i < m → en τ x i = S i) (e2 : ∀ i, 0 ≤ i → i < n - m → en τ y i = S (m + i)) (l1 : gI τ 576 x = l) (l2 : gI τ 576 y = l) (xr : 0 ≤ x ∧ x < 640) (yr : 0 ≤ y ∧ y < 640) (hk : ∀ k, 0 ≤ k → k < n → ∀ z, z ∈ itK σ l (S k) → KE σ τ z ∧ OE σ τ z) (nc : ∀ k, 0 ≤ k → k < n → itN σ l (S k)) (f1 : gI τ 584 x ≠ 0) (f2 : gI τ 584 y ≠ 0) :
    WT τ l 4 8 x lo (ky τ y 0) ∧ WT τ l 4 8 y (ky τ y 0) hi ∧ NC τ l x ∧ NC τ l y ∧ ls τ l x ++ ls τ l y = cat (fun k => itL σ l (S k)) n.toNat ∧ kl τ l x = x :: cat (fun k => itK σ l (S k)) m.toNat ∧ kl τ l y = y :: cat (fun i => itK σ l (S (m + i))) (n - m).toNat ∧ ky τ x 0 = kyE (S 0) := by
  have kr : ky τ y 0 = kyE (S m) := by
    show kyE (en τ y 0) = _
    rw [e2 0 (by omega) (by omega), show m + 0 = m by omega]
  refine ⟨WT_it.mpr ⟨xr, l1, by rw [c1]; split <;> omega, ?_⟩, WT_it.mpr ⟨yr, l2, by rw [c2]; split <;> omega, ?_⟩, NC.of f1 (fun k k0 k1 => ?_), NC.of f2 (fun k k0 k1 => ?_), ?_, ?_, ?_, ?_⟩
  · rw [c1, kr]
    exact ((h.fst (m := m) (by omega)).fr (fun k k0 k1 x hx => (hk k k0 (by omega) x hx).1)).ext e1
  · rw [c2, kr]
    exact ((h.snd (m := m) (by omega)).fr (fun k k0 k1 x hx => (hk (m + k) (by omega) (by omega) x hx).1)).ext e2
  · rw [c1] at k1
    rw [e1 k k0 k1]
    exact (nc k k0 (by omega)).fr (hk k k0 (by omega))
  · rw [c2] at k1
    rw [e2 k k0 k1]
    exact (nc (m + k) (by omega) (by omega)).fr (hk (m + k) (by omega) (by omega))
  · rw [ls_it, ls_it, c1, c2, show n.toNat = m.toNat + (n - m).toNat by omega, cat_add]
    congr 1
    · refine cat_ext _ (fun i a b => ?_)
      rw [e1 i a (by omega)]; exact (it_fr (fun x hx => (hk i a (by omega) x hx).1)).1
    · refine cat_ext _ (fun i a b => ?_)
      rw [e2 i a (by omega), show ((m.toNat : Nat) : Int) = m by omega]; exact (it_fr (fun x hx => (hk (m + i) (by omega) (by omega) x hx).1)).1
  · rw [kl_it, c1]
    congr 1
    refine cat_ext _ (fun i a b => ?_)
    rw [e1 i a (by omega)]; exact (it_fr (fun x hx => (hk i a (by omega) x hx).1)).2.1
  · rw [kl_it, c2]
    congr 1
    refine cat_ext _ (fun i a b => ?_)
    rw [e2 i a (by omega)]; exact (it_fr (fun x hx => (hk (m + i) (by omega) (by omega) x hx).1)).2.1
  · show kyE (en τ x 0) = _
    rw [e1 0 (by omega) (by omega)]
theorem join1 {σ τ : St} {l : Nat} {S : Int → Int × Int × Int × Int × Int × Int} {n lo hi x : Int} (h : WQ σ l S n lo hi) (hn : 4 ≤ n ∧ n ≤ 8) (c1 : gI τ 577 x = n) (e1 : ∀ i, 0 ≤ i → i < n → en τ x i = S i) (l1 : gI τ 576 x = l) (xr : 0 ≤ x ∧ x < 640) (hk : ∀ k, 0 ≤ k → k < n → ∀ z, z ∈ itK σ l (S k) → KE σ τ z ∧ OE σ τ z) (nc : ∀ k, 0 ≤ k → k < n → itN σ l (S k)) (f1 : gI τ 584 x ≠ 0) :
    WT τ l 4 8 x lo hi ∧ NC τ l x ∧ ls τ l x = cat (fun k => itL σ l (S k)) n.toNat ∧ kl τ l x = x :: cat (fun k => itK σ l (S k)) n.toNat ∧ ky τ x 0 = kyE (S 0) := by
  refine ⟨WT_it.mpr ⟨xr, l1, by rw [c1]; split <;> omega, ?_⟩, NC.of f1 (fun k k0 k1 => ?_), ?_, ?_, ?_⟩
  · rw [c1]
    exact (h.fr (fun k k0 k1 x hx => (hk k k0 k1 x hx).1)).ext e1
  · rw [c1] at k1
    rw [e1 k k0 k1]
    exact (nc k k0 (by omega)).fr (hk k k0 (by omega))
  · rw [ls_it, c1]
    refine cat_ext _ (fun i a b => ?_)
    rw [e1 i a (by omega)]; exact (it_fr (fun x hx => (hk i a (by omega) x hx).1)).1
  · rw [kl_it, c1]
    congr 1
    refine cat_ext _ (fun i a b => ?_)
    rw [e1 i a (by omega)]; exact (it_fr (fun x hx => (hk i a (by omega) x hx).1)).2.1
  · show kyE (en τ x 0) = _
    rw [e1 0 (by omega) (by omega)]
