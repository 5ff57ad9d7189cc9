/-! House.set -/
noncomputable def setA (cf : Cf) (S : List (Int × Int × Int × (Int → Int)) × Int) (n x : Int) : Int := cif (¬ nmV x) (-3) (cif (∃ k s, (n, k, s) ∈ nds S.1) (cif (∃ v, (n, x, v) ∈ ats S.1) (cn1 n (ats S.1)) (cif (capa cf < cpM S.1 + 240) (-10) (cn1 n (ats S.1) + 1))) (-4))
/-- the rows behind it: attributes A' -/
def setR (S S2 : List (Int × Int × Int × (Int → Int)) × Int) (n x v : Int) (A' : List (Int × Int × Int)) : Prop := RWS S2.1 (nds S.1) (ens S.1) ((n, x, v) :: A') (pcs S.1) ∧ S2.2 = S.2 ∧ ((∃ v0, (ats S.1).Perm ((n, x, v0) :: A')) ∨ (A' = ats S.1 ∧ ∀ v0, (n, x, v0) ∉ ats S.1))
theorem sp_Hset {tv : Nat → Int} {cf : Cf} {σ : St} {S S' : List (Int × Int × Int × (Int → Int)) × Int} {W : List (Int × (List (Int × Int × Int × (Int → Int)) × Int))} {r : RT} {B : Int} {n x v : Int} {Q : Int → St → Prop} (hc : CfOK cf) (h : HP tv cf σ S S' W r B) (hC : HC σ S) (hrk : RK σ) (hB : B + 49772 < 1073741000) (hn : rI n) (hx : rJ x) (hv : rJ v)
    (h0 : ∀ τ no, setA cf S n x = no → no < 0 → HP tv cf τ S S' W r B → Fr mHs σ τ → RK τ → Q no τ)
    (h1 : ∀ τ S2 A' p0 S0 W0 k, 0 ≤ setA cf S n x → setR S S2 n x v A' → TKo cf σ 96 S S' W p0 S0 W0 → SFo (p0 + 96) (W0 ++ [(p0 + 96, S2)]) k → HP tv cf τ S2 (laS S0 ((W0 ++ [(p0 + 96, S2)]).take k)) ((W0 ++ [(p0 + 96, S2)]).drop k) r (B + 49772) → HC τ S2 → gI τ 451 0 ≠ -1 → gI τ 452 0 = p0 + 96 → Fr mHo σ τ → RK τ → Q (setA cf S n x) τ) : wp_House_set cf tv n x v Q σ := by
  have wf := h.wf
  have n1 := h.nx
  have on : gI σ 69 0 = 1 := hC.2.2
  have cp := wf.2.2.2.2.2.2.2.2.2.2.1
  have cl := capa_le hc
  have c0 := cpM_0 hc wf
  have lim := (wf.x.ft hc).2.2
  unfold wp_House_set
  refine ⟨fun _ => ?_, fun w => by have w : gI σ 69 0 = 0 := w; omega⟩
  refine sp_HisName (fun nm _ _ => ⟨fun _ => ?_, fun w => absurd w (by decide)⟩) (fun nm _ _ => ⟨fun w => absurd rfl w, fun _ => h0 σ (-3) (cif_y nm) (by omega) h (Fr.rf _ _) hrk⟩)
  refine sp_Pread hc h hn (fun τ no H f k _ _ => ⟨fun w => absurd rfl w, fun _ => h0 τ (-4) (by unfold setA; rw [cif_n (fun q => q nm), cif_n (fun ⟨k, s, q⟩ => no k s q)]) (by omega) H (f.mono (fun f o' => Ri_s)) k⟩) (fun τ z z1 z2 z3 z4 z5 H f k _ _ => ⟨fun _ => ?_, fun w => absurd w (by decide)⟩)
  obtain ⟨nr, nn1, nn2, nk, ns, ⟨nc1, nc2, nc3⟩, ⟨ncd, ncl, nca⟩, nak⟩ := nd_put (M := S.1) (nx := S.2) wf z1 z2
  have A0 : setA cf S n x = cif (∃ v, (n, x, v) ∈ ats S.1) (cn1 n (ats S.1)) (cif (capa cf < cpM S.1 + 240) (-10) (cn1 n (ats S.1) + 1)) := by
    unfold setA; rw [cif_n (fun q => q nm), cif_y ⟨_, _, nn2⟩]
  have g1 : Fr mHs σ τ := f.mono (fun f o' => Ri_s)
  have ca := cn1_le (a := n) (R := ats S.1)
  have m0s : ∀ f o', mR0 0 f o' → mHs f o' := fun f o' q => ⟨mR0_h q, (mR0_k q).1⟩
  -- the rest, from behind attributeOf
  have fin : ∀ (τ2 : St) (y6 : Int), (y6 = 0 ∨ y6 = 240) → HP tv cf τ2 S S' W r B → Fr mHs σ τ2 → RK τ2 → (gI τ2 640 0 = n ∧ gI τ2 641 0 = rI4 z.2.2.2 28 ∧ gI τ2 642 0 = rI4 z.2.2.2 32 ∧ gI τ2 643 0 = rI4 z.2.2.2 36 ∧ gI τ2 644 0 = rI4 z.2.2.2 40 ∧ gI τ2 645 0 = rI4 z.2.2.2 44 + (if y6 = 0 then 0 else 1)) → setA cf S n x = rI4 z.2.2.2 44 + (if y6 = 0 then 0 else 1) → (∀ P4 M4, inF P4 n (rI4 z.2.2.2 28) (rI4 z.2.2.2 32) (rI4 z.2.2.2 36) (rI4 z.2.2.2 40) (rI4 z.2.2.2 44 + (if y6 = 0 then 0 else 1)) → haM S.1 M4 n x v 0 P4 → WF cf (M4, S.2) ∧ cpM M4 = cpM S.1 + y6 ∧ ∃ A', setR S (M4, S.2) n x v A') → cpM S.1 + y6 ≤ capa cf → wp_House_set_b93 cf tv n x v Q y6 τ2 := by
    intro τ2 y6 hy6 H2 g2 k2 ⟨a1, a2, a3, a4, a5, a6⟩ hA law hcap
    unfold wp_House_set_b93
    refine sp_HhA hc H2 k2 hB hx hv a1 a2 a3 a4 a5 a6 (by omega) (by omega) (fun P4 M4 p4 hm => (law P4 M4 p4 hm).1) (fun τ3 P4 M4 p0 S0 W0 kk p4 hm tk sf H3 nn pl f3 k3 _ => ?_)
    intro σ14 e14
    obtain ⟨L1, L2, A', L3⟩ := law P4 M4 p4 hm
    have hC3 : HC τ3 S := (hC.fr g2 (fun g q w => w.2 q)).fr f3 (fun g q w => by
      rcases w with w | w
      · exact (R6_s w).2 q
      · exact st_k w q)
    have l3 : gI τ3 71 0 = cpM S.1 := hC3.1
    rw [l3, w32_id (by unfold rI; omega)] at e14
    have f14 : Fr (fun f o' => (f = 71 ∨ f = 72) ∧ o' = 0) τ3 σ14 := by rw [e14]; exact (Fr.rf _ _).sI (by omega)
    have k14 : RK σ14 := by rw [e14]; exact k3.sI (f := 71) (by show rI _; unfold rI; omega)
    have e645 : gI σ14 645 0 = setA cf S n x := by
      rw [hA, f14.i _ _ (by omega), f3.i _ _ (by unfold mRow stS; omega)]; exact a6
    rw [e645]
    refine h1 σ14 (M4, S.2) A' p0 S0 W0 kk (by rw [hA]; split <;> omega) L3 (tk.fr g2 ⟨fun q => (mHs_W q).1 rfl, fun q => (mHs_W q).2 rfl⟩) sf (H3.frH f14 (fun f o' q => by unfold mHR; omega) k14) ⟨?_, ?_, ?_⟩ ?_ ?_ ((g2.mono (fun f o' => Or.inl)).tr ((f3.mono (fun f o' q => q.elim (fun w => Or.inl (R6_s w)) (fun w => Or.inr (Or.inl w)))).tr (f14.mono (fun f o' q => Or.inr (Or.inr q))))) k14
    · show gI σ14 71 0 = cpM M4
      rw [e14, gI_sI1, L2]
    · show gI σ14 72 0 = ((nds M4).length : Int)
      rw [e14, gI_sIo (by decide), L3.1.1.length_eq]; exact hC3.2.1
    · rw [e14, gI_sIo (by decide)]; exact hC3.2.2
    · rw [f14.i _ _ (by omega)]; exact nn
    · rw [f14.i _ _ (by omega)]; exact pl
  refine sp_Pattr hc H hn (by omega) hx (fun τ2 q1 q2 H2 f2 k2 _ _ => ?_) (fun τ2 a0 v0 b1 b2 b3 b4 b5 H2 f2 k2 _ _ => ?_)
  · intro y6 e6
    rw [if_pos rfl] at e6
    rw [e6]
    have g2 : Fr mHs σ τ2 := g1.tr (f2.mono m0s)
    have l2 : gI τ2 71 0 = cpM S.1 := (hC.fr g2 (fun g q w => w.2 q)).1
    have A1 : setA cf S n x = cif (capa cf < cpM S.1 + 240) (-10) (cn1 n (ats S.1) + 1) := by rw [A0, cif_n (fun ⟨v0, m⟩ => q2 _ m ⟨rfl, rfl⟩)]
    rw [l2, w32_id (by unfold rI; omega), cap_e]
    refine ⟨fun w => by omega, fun _ => ⟨fun hcap => ?_, fun hcap => h0 τ2 (-10) (by rw [A1]; exact cif_y (by omega)) (by omega) H2 g2 k2⟩⟩
    rw [cif_n (by omega)] at A1
    have zz : ndI τ2 0 z := z5.fr f2 (fun g a b q => (mR0_k q).2.1 ⟨a, b⟩)
    unfold wp_House_set_b75
    refine ⟨fun w => by omega, fun _ σ15 e15 => ?_⟩
    rw [show gI τ2 645 0 = rI4 z.2.2.2 44 from zz.2.2.2.2.2, w32_id (by unfold rI; omega)] at e15
    have k15 : RK σ15 := by rw [e15]; exact k2.sI (f := 645) (by show rI _; unfold rI; omega)
    have f15 : Fr (fun f o' => 640 ≤ f ∧ f < 704) τ2 σ15 := by rw [e15]; exact (Fr.rf _ _).sI (by omega)
    refine fin σ15 240 (Or.inr rfl) (H2.frH f15 (fun f o' q => (In_s (o' := o') q).1) k15) (g2.tr (f15.mono (fun f o' => In_s))) k15 ?_ ?_ (fun P4 M4 p4 hm => ?_) (by omega)
    · obtain ⟨c1, c2, c3, c4, c5, c6⟩ := zz
      rw [e15]; simp only [gI_sI]; simp
      exact ⟨by rw [c1]; omega, c2, c3, c4, c5⟩
    · rw [A1, nca, if_neg (by decide)]
    · rw [if_neg (by decide)] at p4
      rcases hm with ⟨-, P1, p1, eM⟩ | ⟨w, -⟩
      · obtain ⟨L1, L2, L3⟩ := at_new (cf := cf) (M := S.1) (nx := S.2) wf z1 z2 nm (new_a wf.iok q1 (fun y hy y3 e => by
          have o := (wf.iok y hy).2.2.1 y3
          have r1 := rev_r (rL8 y.2.2.2 32)
          have r2 := rev_r x
          rw [← o.2.2.2.2] at r1
          unfold rJ at r1 r2
          omega)) p1 p4 (by omega) eM
        exact ⟨L1, L2, _, L3, rfl, Or.inr ⟨rfl, fun v0 m => q2 _ m ⟨rfl, rfl⟩⟩⟩
      · exact absurd rfl w
  · intro y6 e6
    rw [if_neg (by decide)] at e6
    rw [e6]
    have g2 : Fr mHs σ τ2 := g1.tr (f2.mono m0s)
    have zz : ndI τ2 0 z := z5.fr f2 (fun g a b q => (mR0_k q).2.1 ⟨a, b⟩)
    have A1 : setA cf S n x = cn1 n (ats S.1) := by rw [A0]; exact cif_y ⟨v0, b5⟩
    refine ⟨fun _ => ?_, fun w => absurd (Int.le_refl 0) w⟩
    unfold wp_House_set_b75
    refine ⟨fun _ => ?_, fun w => absurd (Int.le_refl 0) w⟩
    refine fin τ2 0 (Or.inl rfl) H2 g2 k2 ?_ ?_ (fun P4 M4 p4 hm => ?_) (by omega)
    · obtain ⟨c1, c2, c3, c4, c5, c6⟩ := zz
      exact ⟨by rw [c1]; omega, c2, c3, c4, c5, by rw [if_pos rfl, Int.add_zero]; exact c6⟩
    · rw [A1, nca, if_pos rfl, Int.add_zero]
    · rw [if_pos rfl, Int.add_zero] at p4
      rcases hm with ⟨-, P1, p1, eM⟩ | ⟨w, -⟩
      · have pA : (ats S.1).Perm (arow a0 :: (ats S.1).erase (arow a0)) := List.perm_cons_erase (by rw [b4]; exact b5)
        obtain ⟨L1, L2, L3⟩ := at_old (cf := cf) (M := S.1) (nx := S.2) wf z1 z2 nm b1 b2 b3 pA p1 p4 eM
        rw [b4] at pA
        exact ⟨L1, by rw [L2]; omega, _, L3, rfl, Or.inl ⟨v0, by rw [b4]; exact pA⟩⟩
      · exact absurd rfl w
