/-! House.handAttribute -/
/-- what the two nodes make of the items -/
def haM (M M4 : List (Int × Int × Int × (Int → Int))) (n x v g : Int) (P4 : Int → Int) : Prop := (g = 0 ∧ ∃ P1, atF P1 n x v ∧ M4 = mput (4 * n, 0, 48, P4) (mput (4 * n + 3, rev x, 48, P1) M)) ∨ (g ≠ 0 ∧ M4 = mput (4 * n, 0, 48, P4) (mdel (kap (4 * n + 3) (rev x)) M))
theorem sp_HhA {tv : Nat → Int} {cf : Cf} {σ : St} {S S' : List (Int × Int × Int × (Int → Int)) × Int} {W : List (Int × (List (Int × Int × Int × (Int → Int)) × Int))} {r : RT} {B : Int} {n kd lk sz en at' x v g : Int} {Q : St → Prop} (hc : CfOK cf) (h : HP tv cf σ S S' W r B) (hrk : RK σ) (hB : B + 49772 < 1073741000) (hx : rJ x) (hv : rJ v) (v1 : gI σ 640 0 = n) (v2 : gI σ 641 0 = kd) (v3 : gI σ 642 0 = lk) (v4 : gI σ 643 0 = sz) (v5 : gI σ 644 0 = en) (v6 : gI σ 645 0 = at') (hn : 1 ≤ n ∧ n < S.2) (hk : kd ≠ 0)
    (law : ∀ P4 M4, inF P4 n kd lk sz en at' → haM S.1 M4 n x v g P4 → WF cf (M4, S.2))
    (hQ : ∀ τ P4 M4 p0 S0 W0 k, inF P4 n kd lk sz en at' → haM S.1 M4 n x v g P4 → TKo cf σ 96 S S' W p0 S0 W0 → SFo (p0 + 96) (W0 ++ [(p0 + 96, (M4, S.2))]) k → HP tv cf τ (M4, S.2) (laS S0 ((W0 ++ [(p0 + 96, (M4, S.2))]).take k)) ((W0 ++ [(p0 + 96, (M4, S.2))]).drop k) r (B + 49772) → gI τ 451 0 ≠ -1 → gI τ 452 0 = p0 + 96 → Fr (fun f o' => mRow 6 f o' ∨ stS f o') σ τ → RK τ → Q τ) : wp_House_handAttribute cf tv x v g Q σ := by
  have n1 := h.nx
  have ok := h.okC hc
  unfold wp_House_handAttribute
  refine sp_Hbegin (S := S) (fun τ3 g3 f3 k3 _ => ?_)
  have fin : ∀ (τ4 : St) (M1 : List (Int × Int × Int × (Int → Int))), GR τ4 S 48 (M1, S.2) → okS (M1, S.2) → Fr (mRow 6) τ3 τ4 → RK τ4 → (∀ P4, haM S.1 (mput (4 * n, 0, 48, P4) M1) n x v g P4) → wp_House_addInode cf tv 0 1 (fun σ_34 => RK σ_34 → wp_House_hand cf tv (fun σ_36 => RK σ_36 → Q σ_36) σ_34) τ4 := by
    intro τ4 M1 g4 ok4 f4 k4 hm
    have f34 := f3.tr f4
    have vi : ∀ u, 640 ≤ u → u ≤ 645 → gI τ4 u 0 = gI σ u 0 := fun u a b => f34.i _ _ (by unfold mRow; omega)
    refine sp_gIno (l := 1) (a := n) (kd := kd) (lk := lk) (sz := sz) (en := en) (at' := at') k4 g4 (by omega) ok4 (by rw [vi _ (by decide) (by decide)]; exact v1) (by rw [vi _ (by decide) (by decide)]; exact v2) (by rw [vi _ (by decide) (by decide)]; exact v3) (by rw [vi _ (by decide) (by decide)]; exact v4) (by rw [vi _ (by decide) (by decide)]; exact v5) (by rw [vi _ (by decide) (by decide)]; exact v6) (by omega) (fun τ7 P4 p4 g7 f7 k7 _ => ?_)
    have g7 := g7.2 (by decide)
    have sI7 : sIn (M1, S.2) n kd P4 = (mput (4 * n, 0, 48, P4) M1, S.2) := by
      unfold sIn; rw [if_neg hk]
      show (_, max S.2 (n + 1)) = _
      rw [show max S.2 (n + 1) = S.2 by omega]
    rw [sI7] at g7
    have f37 := f34.tr f7
    have H7 := h.frH f37 (fun f o' q => (R6_s q).1) k7
    refine sp_handS (e := 96) hc H7 hB g7 (by omega) (law P4 _ p4 (hm P4)) (by show S.2 < 1073740000; omega) (fun τ8 p0 S0 W0 k tk sf H8 nn pl f8 k8 _ => ?_)
    exact hQ τ8 P4 _ p0 S0 W0 k p4 (hm P4) (tk.fr f37 ⟨by unfold mRow; omega, by unfold mRow; omega⟩) sf H8 nn pl ((f37.mono (fun f o' q => Or.inl q)).tr (f8.mono (fun f o' q => Or.inr (st_Hh q)))) k8
  refine sp_gAtt (l := 0) (D := n) (N := if g = 0 then 0 else 1) (X := x) (V := v) (d := fun τ => gI τ 640 0) (n := fun _ => if g = 0 then 0 else 1) (x := fun _ => x) (s := fun _ => v) k3 g3 (by omega) (ok.s (by omega)) (by omega) ((Classical.em (g = 0)).elim (fun q => Or.inl (if_pos q)) (fun q => Or.inr (if_neg q))) hx hv (fun τ f => by show gI τ 640 0 = n; rw [f.i _ _ (by unfold mRow; omega), f3.i _ _ (by unfold mRow; omega)]; exact v1) (fun _ _ => rfl) (fun _ _ => rfl) (fun _ _ => rfl) (fun q τ4 g4 f4 k4 => ?_) (fun q τ4 P1 p1 g4 f4 k4 => ?_)
  · have gn : g ≠ 0 := fun z => by rw [if_pos z] at q; omega
    exact fin τ4 _ (g4.1 rfl) ((ok.del (κ := kap (4 * n + 3) (rev x))).s (by omega)) f4 k4 (fun P4 => Or.inr ⟨gn, rfl⟩)
  · have gz : g = 0 := Classical.byContradiction (fun z => by rw [if_neg z] at q; omega)
    exact fin τ4 _ (g4.1 rfl) ((ok.put (x := (4 * n + 3, rev x, 48, P1)) (fun q => by have q : (4 * n + 3) % 4 = 0 := q; omega)).s (by omega)) f4 k4 (fun P4 => Or.inl ⟨gz, P1, p1, rfl⟩)
