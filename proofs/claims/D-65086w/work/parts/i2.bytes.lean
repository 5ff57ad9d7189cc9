/-! how many bytes fresh knots take; how they stand in line -/
theorem fS_cat {σ : St} {f : Int → List Int} {g : Int → List (Int × Int × Int × Int × Int × Int)} {a : Int} : ∀ n : Nat, (∀ i : Int, 0 ≤ i → i < n → fS σ (f i) + a ≤ 48 * ((g i).length : Int)) → fS σ (cat f n) + a * n ≤ 48 * ((cat g n).length : Int)
  | 0, _ => by
    show fS σ [] + a * 0 ≤ 48 * 0
    rw [Int.mul_zero]
    exact Int.le_refl _
  | n + 1, h => by
    have ih := fS_cat (σ := σ) (f := f) (g := g) (a := a) n (fun i a b => h i a (by omega))
    have q := h n (by omega) (by omega)
    show fS σ (cat f n ++ f n) + a * ((n : Int) + 1) ≤ 48 * ((cat g n ++ g n).length : Int)
    rw [fS_app, List.length_append, Int.mul_add, Int.mul_one]
    omega
theorem szK_36 {c : Int} (h : 4 ≤ c ∧ c ≤ 8) : szK c ≤ 36 * c := by
  have q : c = 4 ∨ c = 5 ∨ c = 6 ∨ c = 7 ∨ c = 8 := by omega
  rcases q with e | e | e | e | e <;> (rw [e]; decide)
theorem WT.bys {σ : St} : ∀ {l : Nat} {z lo hi : Int}, WT σ l 4 8 z lo hi → fS σ (kl σ l z) + 12 * gI σ 577 z ≤ 48 * ((ls σ l z).length : Int)
  | 0, z, lo, hi, h => by
    have c := h.cnt
    have e : (ls σ 0 z).length = (gI σ 577 z).toNat := cat_len1 _ _
    have s := szK_36 (c := gI σ 577 z) (by omega)
    rw [e]
    show fS σ [z] + _ ≤ _
    rw [fS_cons, show fS σ [] = 0 from rfl]
    split <;> omega
  | l + 1, z, lo, hi, h => by
    have c := h.cnt
    have s := szK_36 (c := gI σ 577 z) (by omega)
    have h2 := fS_cat (σ := σ) (f := fun k => kl σ l (be σ z k)) (g := fun k => ls σ l (be σ z k)) (a := 48) (gI σ 577 z).toNat (fun i a b => by
      have w := (h.2.2.2 i a (by omega)).2.2
      have w1 := w.bys
      have w2 := w.cnt
      omega)
    have e2 : (ls σ (l + 1) z).length = (cat (fun k => ls σ l (be σ z k)) (gI σ 577 z).toNat).length := rfl
    rw [e2]
    show fS σ (z :: cat (fun k => kl σ l (be σ z k)) (gI σ 577 z).toNat) + _ ≤ _
    rw [fS_cons]
    split <;> omega
theorem WT.bys0 {σ : St} {l : Nat} {z lo hi : Int} (h : WT σ l (if l = 0 then 0 else 2) 8 z lo hi) : fS σ (kl σ l z) ≤ 48 * ((ls σ l z).length : Int) + 64 := by
  cases l with
  | zero =>
    have c := h.cnt
    have e : (ls σ 0 z).length = (gI σ 577 z).toNat := cat_len1 _ _
    rw [e]
    show fS σ [z] ≤ _
    rw [fS_cons, show fS σ [] = 0 from rfl]
    unfold szK
    split <;> omega
  | succ l =>
    rw [if_neg (by omega)] at h
    have c := h.cnt
    have h2 := fS_cat (σ := σ) (f := fun k => kl σ l (be σ z k)) (g := fun k => ls σ l (be σ z k)) (a := 48) (gI σ 577 z).toNat (fun i a b => by
      have w := (h.2.2.2 i a (by omega)).2.2
      have w1 := w.bys
      have w2 := w.cnt
      omega)
    have e2 : (ls σ (l + 1) z).length = (cat (fun k => ls σ l (be σ z k)) (gI σ 577 z).toNat).length := rfl
    rw [e2]
    show fS σ (z :: cat (fun k => kl σ l (be σ z k)) (gI σ 577 z).toNat) ≤ _
    rw [fS_cons]
    unfold szK
    split <;> omega
/-- most keys that there may be -/
def kmx (cf : Cf) : Int := (cf.1 - 10 - cf.2.2 - 8) * ((cf.2.1 - 2) * 128 - 256) / 232 + 1
theorem cst_mono {cf : Cf} (hc : CfOK cf) {a b : Int} (h : a ≤ b) : cst cf a ≤ cst cf b := by
  have hP : 8 ≤ cf.2.1 ∧ cf.2.1 ≤ 32 := hc.2.1
  unfold cst
  have := Int.ediv_le_ediv (c := (cf.2.1 - 2) * 128 - 248) (by omega) (show a + tbl cf ≤ b + tbl cf by omega)
  omega
theorem ix_cbs {cf : Cf} (hc : CfOK cf) {σ : St} {o : Int} {L : List (Int × Int × Int × Int × Int × Int)} (h : IX σ o L) (hL : (L.length : Int) ≤ kmx cf) : cst cf (fS σ (krt σ o)) ≤ whl cf := by
  obtain ⟨l, z, a1, a2, a3, a4, a5⟩ := h.krt
  have q := a2.bys0
  rw [a5] at q
  rw [a1]
  exact cst_mono hc (by unfold kmx at hL; omega)
/-- knots in line: what is below one of them is not fresh, or ahead of it (or P) -/
def lnO (σ : St) : (Int → Prop) → List Int → Prop
  | _, [] => True
  | P, x :: R => (∀ k, 0 ≤ k → k < gI σ 577 x → be σ x k < 0 ∨ gI σ 584 (be σ x k) = 0 ∨ P (be σ x k)) ∧ lnO σ (fun y => P y ∨ y = x) R
theorem lnO.step {σ τ : St} (h1 : ∀ x, gI τ 577 x = gI σ 577 x) (h2 : ∀ x k, be τ x k = be σ x k) (h3 : ∀ x, gI σ 584 x = 0 → gI τ 584 x = 0) : ∀ {R : List Int} {P P' : Int → Prop}, lnO σ P R → (∀ y, P y → gI τ 584 y = 0 ∨ P' y) → lnO τ P' R
  | [], _, _, _, _ => trivial
  | x :: R, P, P', h, hp => by
    refine ⟨fun k k0 k1 => ?_, lnO.step h1 h2 h3 h.2 (fun y hy => ?_)⟩
    · rw [h1] at k1
      rw [h2]
      rcases h.1 k k0 k1 with q | q | q
      · exact Or.inl q
      · exact Or.inr (Or.inl (h3 _ q))
      · exact Or.inr (hp _ q)
    · rcases hy with q | q
      · rcases hp y q with w | w
        · exact Or.inl w
        · exact Or.inr (Or.inl w)
      · exact Or.inr (Or.inr q)
theorem lnO.app {σ : St} : ∀ {A B : List Int} {P : Int → Prop}, lnO σ P A → lnO σ (fun y => P y ∨ y ∈ A) B → lnO σ P (A ++ B)
  | [], B, P, _, h => lnO.step (fun _ => rfl) (fun _ _ => rfl) (fun _ q => q) h (fun y hy => by
      rcases hy with q | q
      · exact Or.inr q
      · exact absurd q List.not_mem_nil)
  | x :: A, B, P, h, k => ⟨h.1, lnO.app h.2 (lnO.step (fun _ => rfl) (fun _ _ => rfl) (fun _ q => q) k (fun y hy => Or.inr (by
      rcases hy with q | q
      · exact Or.inl (Or.inl q)
      · rcases List.mem_cons.mp q with w | w
        · exact Or.inl (Or.inr w)
        · exact Or.inr w)))⟩
theorem lnO_cat {σ : St} {f : Int → List Int} : ∀ (n : Nat), (∀ (i : Int) (P : Int → Prop), 0 ≤ i → i < n → lnO σ P (f i)) → ∀ P, lnO σ P (cat f n)
  | 0, _, _ => trivial
  | n + 1, h, P => lnO.app (lnO_cat n (fun i P a b => h i P a (by omega)) P) (h n _ (by omega) (by omega))
theorem lnL_O {σ : St} : ∀ {l : Nat} {mn mx z lo hi : Int}, WT σ l mn mx z lo hi → ∀ P, lnO σ P (lnL σ l z)
  | 0, mn, mx, z, lo, hi, h, P => by
    show lnO σ P (if gI σ 584 z = 0 then [] else [z])
    by_cases q : gI σ 584 z = 0
    · rw [if_pos q]; trivial
    · rw [if_neg q]
      exact ⟨fun k k0 k1 => Or.inl (by rw [(h.2.2.2 k k0 k1).2]; omega), trivial⟩
  | l + 1, mn, mx, z, lo, hi, h, P => by
    have c := h.2.2.1
    show lnO σ P (cat (fun k => lnL σ l (be σ z k)) (gI σ 577 z).toNat ++ (if gI σ 584 z = 0 then [] else [z]))
    refine lnO.app (lnO_cat _ (fun i P a b => lnL_O (h.2.2.2 i a (by omega)).2.2 P) P) ?_
    by_cases q : gI σ 584 z = 0
    · rw [if_pos q]; trivial
    · rw [if_neg q]
      refine ⟨fun k k0 k1 => ?_, trivial⟩
      by_cases w : gI σ 584 (be σ z k) = 0
      · exact Or.inr (Or.inl w)
      · exact Or.inr (Or.inr (Or.inr (mem_cat k0 (by omega) (kl_lnL l _ _ (kl_self _ _ _) w))))
theorem lnL_nd {σ : St} : ∀ {l : Nat} {mn mx z lo hi : Int}, WT σ l mn mx z lo hi → (lnL σ l z).Nodup
  | 0, mn, mx, z, lo, hi, h => by
    show (if gI σ 584 z = 0 then [] else [z]).Nodup
    split
    · exact List.nodup_nil
    · exact (List.nodup_cons.mpr ⟨List.not_mem_nil, List.nodup_nil⟩)
  | l + 1, mn, mx, z, lo, hi, h => by
    have nd := h.nd
    show (cat (fun k => lnL σ l (be σ z k)) (gI σ 577 z).toNat ++ (if gI σ 584 z = 0 then [] else [z])).Nodup
    have nd' : (z :: cat (fun k => kl σ l (be σ z k)) (gI σ 577 z).toNat).Nodup := nd
    obtain ⟨n1, n2⟩ := List.nodup_cons.mp nd'
    have c1 : ∀ n : Nat, (∀ i : Int, 0 ≤ i → i < n → i < gI σ 577 z) → (cat (fun k => kl σ l (be σ z k)) n).Nodup → (cat (fun k => lnL σ l (be σ z k)) n).Nodup := by
      intro n
      induction n with
      | zero => intro _ _; exact List.nodup_nil
      | succ n ih =>
        intro hi' hn
        have hn' : (cat (fun k => kl σ l (be σ z k)) n ++ kl σ l (be σ z n)).Nodup := hn
        show (cat (fun k => lnL σ l (be σ z k)) n ++ lnL σ l (be σ z n)).Nodup
        obtain ⟨a, b, d⟩ := List.nodup_append.mp hn'
        refine List.nodup_append.mpr ⟨ih (fun i i0 i1 => hi' i i0 (by omega)) a, lnL_nd (h.2.2.2 n (by omega) (hi' n (by omega) (by omega))).2.2, fun x hx y hy => ?_⟩
        obtain ⟨i, i1, i2⟩ := cat_mem hx
        exact d x (mem_cat i1.1 i1.2 (lnL_kl _ _ _ i2).1) y (lnL_kl _ _ _ hy).1
    refine List.nodup_append.mpr ⟨c1 _ (fun i i0 i1 => by omega) n2, by split; exact List.nodup_nil; exact (List.nodup_cons.mpr ⟨List.not_mem_nil, List.nodup_nil⟩), fun x hx y hy e => ?_⟩
    obtain ⟨i, i1, i2⟩ := cat_mem hx
    have yz : y = z := by
      by_cases q : gI σ 584 z = 0
      · rw [if_pos q] at hy; exact absurd hy List.not_mem_nil
      · rw [if_neg q] at hy; exact List.mem_singleton.mp hy
    have m := mem_cat (f := fun k => kl σ l (be σ z k)) i1.1 i1.2 (lnL_kl _ _ _ i2).1
    rw [e, yz] at m
    exact n1 m
