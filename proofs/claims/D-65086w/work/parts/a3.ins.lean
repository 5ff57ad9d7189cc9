/-! a key between others: plain rows -/
def mKu (K : List Int) (f : Nat) (o' : Int) : Prop := (577 ≤ f ∧ f ≤ 583) ∧ o' ∈ K
/-- fresh knots have other keys -/
theorem CH.updL {σ τ : St} {o : Int} {K : List Int} (hp : PO σ o) (hz : ∀ x, x ∈ K → ¬ FP σ o x) (h0 : 0 ≤ gI σ 390 o) (hf : ∀ x, x ∈ K → gI σ 584 x ≠ 0) (fr : Fr (mKu K) σ τ) : CH σ τ o K K := by
  have nm : ∀ f o', (f < 577 ∨ 583 < f) → ¬ mKu K f o' := fun f o' a q => by unfold mKu at q; omega
  obtain ⟨f1, f2⟩ := FP_fr (o := o) fr ⟨nm _ _ (by decide), nm _ _ (by decide)⟩
  have fe := fr.i 386 o (nm _ _ (by decide))
  have f3 : ∀ x, gI τ 584 x = gI σ 584 x := fun x => fr.i 584 x (nm _ _ (by decide))
  have f4 := fr.i 390 o (nm _ _ (by decide))
  have f5 := fr.a 388 o (nm _ _ (by decide))
  have f6 := fr.a 389 o (nm _ _ (by decide))
  have oe : ∀ x, OE σ τ x := fun x => OE.fr fr (fun f a b => nm f x (Or.inr (Nat.lt_of_lt_of_le (by decide) a)))
  refine ⟨fun x hx => Or.inl hx, fun x hx => Or.inl ((f1 x).mp hx), ⟨f2 hp, fun x hx q => hz x hx ((f1 x).mp q)⟩, by rw [fe], fun n hn => ?_, ?_, fun x hx e => ?_, fun P p1 p2 => by rw [f4, f5, f6]; exact p1, fr.mono (fun f o' q => ?_)⟩
  · unfold oS
    rw [kS_ext (σ := σ) (τ := τ) (fun x _ => (oe x).z n), f4, f5, f6]
  · rw [nfr_ext (σ := σ) (τ := τ) (fun x _ => f3 x), f4]
    exact ⟨h0, Int.le_refl _⟩
  · rw [f3] at e; exact absurd e (hf x hx)
  · unfold mKu at q; unfold mCh
    exact Or.inr ⟨by omega, Or.inl q.2⟩
/-! knots on the flash have only such below -/
def NC (σ : St) : Nat → Int → Prop
  | 0, _ => True
  | l + 1, z => ∀ k, 0 ≤ k → k < gI σ 577 z → (gI σ 584 z = 0 → gI σ 584 (be σ z k) = 0) ∧ NC σ l (be σ z k)
def itN (σ : St) : Nat → Int × Int × Int × Int × Int × Int → Prop
  | 0, _ => True
  | l + 1, e => NC σ l e.2.2.2.2.2
theorem NC.it {σ : St} {l : Nat} {z : Int} (h : NC σ l z) : ∀ k, 0 ≤ k → k < gI σ 577 z → itN σ l (en σ z k) := by
  cases l with
  | zero => exact fun _ _ _ => trivial
  | succ l => exact fun k k0 k1 => (h k k0 k1).2
theorem NC.of {σ : St} {l : Nat} {z : Int} (hf : gI σ 584 z ≠ 0) (h : ∀ k, 0 ≤ k → k < gI σ 577 z → itN σ l (en σ z k)) : NC σ l z := by
  cases l with
  | zero => trivial
  | succ l => exact fun k k0 k1 => ⟨fun q => absurd q hf, h k k0 k1⟩
theorem NC.fr {σ τ : St} : ∀ {l : Nat} {z : Int}, NC σ l z → (∀ x, x ∈ kl σ l z → KE σ τ x ∧ OE σ τ x) → NC τ l z
  | 0, _, _, _ => trivial
  | l + 1, z, h, q => by
    have e := q z (kl_self σ (l + 1) z)
    intro k k0 k1
    rw [e.1.2.1] at k1
    obtain ⟨g1, g2⟩ := h k k0 k1
    rw [e.1.b, e.2.1, (q _ (kl_below k0 k1 (kl_self σ l _))).2.1]
    exact ⟨g1, g2.fr (fun x hx => q x (kl_below k0 k1 hx))⟩
theorem itN.fr {σ τ : St} {l : Nat} {e : Int × Int × Int × Int × Int × Int} (h : itN σ l e) (q : ∀ x, x ∈ itK σ l e → KE σ τ x ∧ OE σ τ x) : itN τ l e := by
  cases l with
  | zero => trivial
  | succ l => exact NC.fr h q
/-! where a key parts a row -/
theorem spl_mid {κ : Int} {L Y : List (Int × Int × Int × Int × Int × Int)} : ∀ {X A B : List (Int × Int × Int × Int × Int × Int)}, A ++ B = X ++ (L ++ Y) → (∀ a, a ∈ A → kyE a < κ) → (∀ b, b ∈ B → κ < kyE b) → (∀ x, x ∈ X → kyE x < κ) → (∀ y, y ∈ Y → κ < kyE y) → ∃ A' B', L = A' ++ B' ∧ A = X ++ A' ∧ B = B' ++ Y
  | [], A, B, h, hA, hB, _, hY => by
    revert L
    induction A with
    | nil => intro L h; exact ⟨[], L, rfl, rfl, h⟩
    | cons a A ih =>
      intro L h
      cases L with
      | nil =>
        have h' : a :: (A ++ B) = Y := h
        have := hY a (h' ▸ List.mem_cons_self)
        have := hA a List.mem_cons_self
        omega
      | cons b L =>
        have h' : a :: (A ++ B) = b :: (L ++ Y) := h
        obtain ⟨e1, e2⟩ := List.cons.inj h'
        obtain ⟨A', B', g1, g2, g3⟩ := ih (fun x hx => hA x (List.mem_cons_of_mem _ hx)) (L := L) e2
        exact ⟨a :: A', B', by rw [← e1, g1]; rfl, by rw [g2]; rfl, g3⟩
  | x :: X, A, B, h, hA, hB, hX, hY => by
    cases A with
    | nil =>
      have h' : B = x :: (X ++ (L ++ Y)) := h
      have := hB x (h' ▸ List.mem_cons_self)
      have := hX x List.mem_cons_self
      omega
    | cons a A =>
      have h' : a :: (A ++ B) = x :: (X ++ (L ++ Y)) := h
      obtain ⟨e1, e2⟩ := List.cons.inj h'
      obtain ⟨A', B', g1, g2, g3⟩ := spl_mid (X := X) (A := A) (B := B) e2 (fun y hy => hA y (List.mem_cons_of_mem _ hy)) hB (fun y hy => hX y (List.mem_cons_of_mem _ hy)) hY
      exact ⟨A', B', g1, by rw [e1, g2]; rfl, g3⟩
/-! one more entry -/
def insq (s : Int → Int × Int × Int × Int × Int × Int) (p : Int) (e : Int × Int × Int × Int × Int × Int) : Int → Int × Int × Int × Int × Int × Int := catq s p (catq (fun _ => e) 1 (fun i => s (p + i)))
theorem insq_eq (s : Int → Int × Int × Int × Int × Int × Int) (p : Int) (e : Int × Int × Int × Int × Int × Int) (i : Int) : insq s p e i = if i < p then s i else if i = p then e else s (i - 1) := by
  unfold insq catq
  by_cases q : i < p
  · rw [if_pos q, if_pos q]
  · rw [if_neg q, if_neg q]
    by_cases q2 : i = p
    · rw [if_pos q2, if_pos (by omega)]
    · rw [if_neg q2, if_neg (by omega)]
      show s (p + (i - p - 1)) = s (i - 1)
      rw [show p + (i - p - 1) = i - 1 by omega]
theorem cat_ins {α : Type} (f : Int × Int × Int × Int × Int × Int → List α) (s : Int → Int × Int × Int × Int × Int × Int) {p : Int} (e : Int × Int × Int × Int × Int × Int) (m : Nat) (hp : 0 ≤ p) : cat (fun i => f (insq s p e i)) (p.toNat + (1 + m)) = cat (fun i => f (s i)) p.toNat ++ (f e ++ cat (fun i => f (s (p + i))) m) := by
  obtain ⟨k, rfl⟩ : ∃ k : Nat, p = k := ⟨p.toNat, by omega⟩
  rw [show ((k : Int)).toNat = k by omega]
  unfold insq
  rw [cat_q f s _ k (1 + m)]
  congr 1
  have := cat_q f (fun _ => e) (fun i => s ((k : Int) + i)) 1 m
  rw [show (((1 : Nat)) : Int) = 1 by rfl] at this
  rw [this, cat_one]
/-- below place c there is another knot, or the same one changed -/
theorem WQ.par1 {σ τ : St} {l : Nat} {s s1 : Int → Int × Int × Int × Int × Int × Int} {n lo lo' hi c : Int} (h : WQ σ (l + 1) s n lo hi) (hc : 0 ≤ c ∧ c < n) (e1 : ∀ i, 0 ≤ i → i < n → i ≠ c → s1 i = s i) (hk : (c = 0 ∧ kyE (s1 c) ≤ kyE (s c)) ∨ kyE (s1 c) = kyE (s c)) (hlo : lo' ≤ lo ∧ lo' ≤ kyE (s1 c)) (hf : ∀ i, 0 ≤ i → i < n → i ≠ c → ∀ x, x ∈ itK σ (l + 1) (s i) → KE σ τ x) (hw : itW τ (l + 1) (s1 c) (nxq s n c hi)) : WQ τ (l + 1) s1 n lo' hi := by
  intro k k0 k1
  have a := h k k0 k1
  by_cases q : k = c
  · rw [q]
    have x : nxq s1 n c hi = nxq s n c hi := by
      unfold nxq
      by_cases q2 : c + 1 < n
      · rw [if_pos q2, if_pos q2, e1 (c + 1) (by omega) q2 (by omega)]
      · rw [if_neg q2, if_neg q2]
    have b := (h c hc.1 hc.2).1
    rw [x]
    exact ⟨by omega, hw⟩
  · have x : nxq s1 n k hi = nxq s n k hi := by
      unfold nxq
      by_cases q2 : k + 1 < n
      · rw [if_pos q2, if_pos q2]
        by_cases q3 : k + 1 = c
        · rw [q3]
          rcases hk with w | w
          · omega
          · exact w
        · rw [e1 (k + 1) (by omega) q2 q3]
      · rw [if_neg q2, if_neg q2]
    rw [x, e1 k k0 k1 q]
    exact ⟨by omega, (it_fr (hf k k0 k1 q)).2.2 _ a.2⟩
/-- below place c there are two knots now -/
theorem WQ.par2 {σ τ : St} {l : Nat} {s s1 : Int → Int × Int × Int × Int × Int × Int} {n lo lo' hi c : Int} {e : Int × Int × Int × Int × Int × Int} (h : WQ σ (l + 1) s n lo hi) (hc : 0 ≤ c ∧ c < n) (e1 : ∀ i, 0 ≤ i → i < n → i ≠ c → s1 i = s i) (hk : (c = 0 ∧ kyE (s1 c) ≤ kyE (s c)) ∨ kyE (s1 c) = kyE (s c)) (hlo : lo' ≤ lo ∧ lo' ≤ kyE (s1 c)) (hf : ∀ i, 0 ≤ i → i < n → i ≠ c → ∀ x, x ∈ itK σ (l + 1) (s i) → KE σ τ x) (he : kyE (s1 c) < kyE e ∧ kyE e < nxq s n c hi) (hw : itW τ (l + 1) (s1 c) (kyE e)) (hw2 : itW τ (l + 1) e (nxq s n c hi)) : WQ τ (l + 1) (insq s1 (c + 1) e) (n + 1) lo' hi := by
  have key : ∀ j, 0 ≤ j → j < n → j ≠ c → s1 j = s j := e1
  intro k k0 k1
  by_cases q : k < c
  · have a := h k k0 (by omega)
    have x : nxq (insq s1 (c + 1) e) (n + 1) k hi = nxq s n k hi := by
      unfold nxq
      rw [if_pos (by omega), if_pos (by omega), insq_eq, if_pos (by omega)]
      by_cases q3 : k + 1 = c
      · rw [q3]
        rcases hk with w | w
        · omega
        · exact w
      · rw [e1 (k + 1) (by omega) (by omega) q3]
    rw [x, insq_eq, if_pos (by omega), e1 k k0 (by omega) (by omega)]
    exact ⟨by omega, (it_fr (hf k k0 (by omega) (by omega))).2.2 _ a.2⟩
  · by_cases q1 : k = c
    · have x : nxq (insq s1 (c + 1) e) (n + 1) k hi = kyE e := by
        unfold nxq
        rw [if_pos (by omega), insq_eq, if_neg (by omega), if_pos (by omega)]
      rw [x, insq_eq, if_pos (by omega), q1]
      exact ⟨by omega, hw⟩
    · by_cases q2 : k = c + 1
      · have x : nxq (insq s1 (c + 1) e) (n + 1) k hi = nxq s n c hi := by
          unfold nxq
          by_cases q3 : c + 1 < n
          · rw [if_pos (by omega), if_pos q3, insq_eq, if_neg (by omega), if_neg (by omega), show k + 1 - 1 = c + 1 by omega, e1 (c + 1) (by omega) q3 (by omega)]
          · rw [if_neg (by omega), if_neg q3]
        rw [x, insq_eq, if_neg (by omega), if_pos q2]
        have b := (h c hc.1 hc.2).1
        exact ⟨by omega, hw2⟩
      · have a := h (k - 1) (by omega) (by omega)
        have x : nxq (insq s1 (c + 1) e) (n + 1) k hi = nxq s n (k - 1) hi := by
          unfold nxq
          by_cases q3 : k < n
          · rw [if_pos (by omega), if_pos (by omega), insq_eq, if_neg (by omega), if_neg (by omega), show k + 1 - 1 = k by omega, show k - 1 + 1 = k by omega, e1 k (by omega) q3 (by omega)]
          · rw [if_neg (by omega), if_neg (by omega)]
        rw [x, insq_eq, if_neg (by omega), if_neg (by omega), e1 (k - 1) (by omega) (by omega) (by omega)]
        exact ⟨by omega, (it_fr (hf (k - 1) (by omega) (by omega) (by omega))).2.2 _ a.2⟩
/-- a knot is halved -/
theorem halved {σ τ : St} {l : Nat} {mn z r lo hi : Int} (h : WT σ l mn 9 z lo hi) (hc : gI σ 577 z = 9) (c1 : gI τ 577 z = 5) (c2 : gI τ 577 r = 4) (e1 : ∀ i, 0 ≤ i → i < 5 → en τ z i = en σ z i) (e2 : ∀ i, 0 ≤ i → i < 4 → en τ r i = en σ z (5 + i)) (l1 : gI τ 576 z = gI σ 576 z) (l2 : gI τ 576 r = gI σ 576 z) (rr : 0 ≤ r ∧ r < 640) (hk : ∀ k, 0 ≤ k → k < 9 → ∀ x, x ∈ itK σ l (en σ z k) → KE σ τ x ∧ OE σ τ x) (nc : NC σ l z) (f1 : gI τ 584 z ≠ 0) (f2 : gI τ 584 r ≠ 0) :
    WT τ l 4 8 z lo (ky τ r 0) ∧ WT τ l 4 8 r (ky τ r 0) hi ∧ NC τ l z ∧ NC τ l r ∧ ls τ l z ++ ls τ l r = ls σ l z ∧ (kl σ l z ++ [r]).Perm (kl τ l z ++ kl τ l r) := by
  obtain ⟨w1, w2, w3, w4⟩ := WT_it.mp h
  rw [hc] at w4
  have kr : ky τ r 0 = kyE (en σ z 5) := by
    show kyE (en τ r 0) = _
    rw [e2 0 (by omega) (by omega)]; rfl
  have l1' : gI τ 576 z = l := l1.trans w2
  have l2' : gI τ 576 r = l := l2.trans w2
  refine ⟨WT_it.mpr ⟨w1, l1', by rw [c1]; split <;> omega, ?_⟩, WT_it.mpr ⟨rr, l2', by rw [c2]; split <;> omega, ?_⟩, NC.of f1 (fun k k0 k1 => ?_), NC.of f2 (fun k k0 k1 => ?_), ?_, ?_⟩
  · rw [c1, kr]
    exact ((w4.fst (m := 5) (by omega)).fr (fun k k0 k1 x hx => (hk k k0 (by omega) x hx).1)).ext e1
  · rw [c2, kr]
    exact ((w4.snd (m := 5) (by omega)).fr (fun k k0 k1 x hx => (hk (5 + k) (by omega) (by omega) x hx).1)).ext e2
  · rw [c1] at k1
    rw [e1 k k0 k1]
    exact (nc.it k k0 (by omega)).fr (hk k k0 (by omega))
  · rw [c2] at k1
    rw [e2 k k0 k1]
    exact (nc.it (5 + k) (by omega) (by omega)).fr (hk (5 + k) (by omega) (by omega))
  · rw [ls_it, ls_it, ls_it, hc, c1, c2]
    show cat _ 5 ++ cat _ 4 = cat _ 9
    rw [cat_add _ 5 4]
    congr 1
    · refine cat_ext _ (fun i a b => ?_)
      rw [e1 i a (by omega)]; exact (it_fr (fun x hx => (hk i a (by omega) x hx).1)).1
    · refine cat_ext _ (fun i a b => ?_)
      rw [e2 i a (by omega)]; exact (it_fr (fun x hx => (hk (5 + i) (by omega) (by omega) x hx).1)).1
  · have k5 : cat (fun k => itK τ l (en τ z k)) 5 = cat (fun k => itK σ l (en σ z k)) 5 := cat_ext _ (fun i a b => by
      rw [e1 i a (by omega)]; exact (it_fr (fun x hx => (hk i a (by omega) x hx).1)).2.1)
    have k4 : cat (fun k => itK τ l (en τ r k)) 4 = cat (fun i => itK σ l (en σ z (((5 : Nat) : Int) + i))) 4 := cat_ext _ (fun i a b => by
      rw [e2 i a (by omega)]; exact (it_fr (fun x hx => (hk (5 + i) (by omega) (by omega) x hx).1)).2.1)
    rw [kl_it σ, kl_it τ l z, kl_it τ l r, hc, c1, c2]
    show (z :: cat _ 9 ++ [r]).Perm ((z :: cat _ 5) ++ r :: cat _ 4)
    rw [k5, k4, cat_add _ 5 4]
    generalize cat (fun k => itK σ l (en σ z k)) 5 = X
    generalize cat (fun i => itK σ l (en σ z (((5 : Nat) : Int) + i))) 4 = Y
    rw [List.cons_append, List.cons_append]
    refine List.Perm.cons z ?_
    rw [List.append_assoc]
    exact List.Perm.append_left X List.perm_append_comm
