/-! House.drop -/
noncomputable def drpA (S : List (Int × Int × Int × (Int → Int)) × Int) (n x : Int) : Int := cif (¬ nmV x) (-3) (cif ((∃ k s, (n, k, s) ∈ nds S.1) ∧ ∃ v, (n, x, v) ∈ ats S.1) (cn1 n (ats S.1) - 1) (-4))
theorem sp_Hdrop {tv : Nat → Int} {cf : Cf} {σ : St} {S S' : List (Int × Int × Int × (Int → Int)) × Int} {W : List (Int × (List (Int × Int × Int × (Int → Int)) × Int))} {r : RT} {B : Int} {n x : Int} {Q : Int → St → Prop} (hc : CfOK cf) (h : HP tv cf σ S S' W r B) (hC : HC σ S) (hrk : RK σ) (hB : B + 49772 < 1073741000) (hn : rI n) (hx : rJ x)
    (h0 : ∀ τ no, drpA S n x = no → no < 0 → HP tv cf τ S S' W r B → Fr mHs σ τ → RK τ → Q no τ)
    (h1 : ∀ τ S2 A' v0 p0 S0 W0 k, 0 ≤ drpA S n x → (ats S.1).Perm ((n, x, v0) :: A') → RWS S2.1 (nds S.1) (ens S.1) A' (pcs S.1) → S2.2 = S.2 → TKo cf σ 96 S S' W p0 S0 W0 → SFo (p0 + 96) (W0 ++ [(p0 + 96, S2)]) k → HP tv cf τ S2 (laS S0 ((W0 ++ [(p0 + 96, S2)]).take k)) ((W0 ++ [(p0 + 96, S2)]).drop k) r (B + 49772) → HC τ S2 → gI τ 451 0 ≠ -1 → gI τ 452 0 = p0 + 96 → Fr mHo σ τ → RK τ → Q (drpA S n x) τ) : wp_House_drop cf tv n x Q σ := by
  have wf := h.wf
  have n1 := h.nx
  have on : gI σ 69 0 = 1 := hC.2.2
  have cp := wf.2.2.2.2.2.2.2.2.2.2.1
  have cl := capa_le hc
  have c0 := cpM_0 hc wf
  have lim := (wf.x.ft hc).2.2
  unfold wp_House_drop
  refine ⟨fun _ => ?_, fun w => by have w : gI σ 69 0 = 0 := w; omega⟩
  refine sp_HisName (fun nm _ _ => ⟨fun _ => ?_, fun w => absurd w (by decide)⟩) (fun nm _ _ => ⟨fun w => absurd rfl w, fun _ => h0 σ (-3) (cif_y nm) (by omega) h (Fr.rf _ _) hrk⟩)
  have A0 : drpA S n x = cif ((∃ k s, (n, k, s) ∈ nds S.1) ∧ ∃ v, (n, x, v) ∈ ats S.1) (cn1 n (ats S.1) - 1) (-4) := cif_n (fun q => q nm)
  refine sp_Pread hc h hn (fun τ no H f k _ _ => ⟨fun _ => h0 τ (-4) (by rw [A0, cif_n (fun ⟨⟨k, s, q⟩, _⟩ => no k s q)]) (by omega) H (f.mono (fun f o' => Ri_s)) k, fun w => absurd rfl w⟩) (fun τ z z1 z2 z3 z4 z5 H f k _ _ => ⟨fun w => absurd w (by decide), fun _ => ?_⟩)
  obtain ⟨nr, nn1, nn2, nk, ns, ⟨nc1, nc2, nc3⟩, ⟨ncd, ncl, nca⟩, nak⟩ := nd_put (M := S.1) (nx := S.2) wf z1 z2
  have g1 : Fr mHs σ τ := f.mono (fun f o' => Ri_s)
  have ca := cn1_le (a := n) (R := ats S.1)
  have m0s : ∀ f o', mR0 0 f o' → mHs f o' := fun f o' q => ⟨mR0_h q, (mR0_k q).1⟩
  refine sp_Pattr hc H hn (by omega) hx (fun τ2 q1 q2 H2 f2 k2 _ _ => ⟨fun w => absurd rfl w, fun _ => h0 τ2 (-4) (by rw [A0, cif_n (fun ⟨_, v0, m⟩ => q2 _ m ⟨rfl, rfl⟩)]) (by omega) H2 (g1.tr (f2.mono m0s)) k2⟩) (fun τ2 a0 v0 b1 b2 b3 b4 b5 H2 f2 k2 _ _ => ⟨fun _ σ17 e17 => ?_, fun w => absurd w (by decide)⟩)
  have g2 : Fr mHs σ τ2 := g1.tr (f2.mono m0s)
  have zz : ndI τ2 0 z := z5.fr f2 (fun g a b q => (mR0_k q).2.1 ⟨a, b⟩)
  have A1 : drpA S n x = cn1 n (ats S.1) - 1 := by rw [A0]; exact cif_y ⟨⟨_, _, nn2⟩, v0, b5⟩
  have pA : (ats S.1).Perm (arow a0 :: (ats S.1).erase (arow a0)) := List.perm_cons_erase (by rw [b4]; exact b5)
  have c1 : 1 ≤ cn1 n (ats S.1) := by rw [perm_cn1 pA, cn1_i (by rw [b4])]; omega
  have sz240 : 240 ≤ cpM S.1 := by
    have a : cpM S.1 = szR (nds S.1) (ens S.1) (ats S.1) (pcs S.1) := wf.szr
    have b := (wf.x.fit hc).2.1
    unfold szR at a
    omega
  rw [show gI τ2 645 0 = rI4 z.2.2.2 44 from zz.2.2.2.2.2, w32_id (by unfold rI; omega)] at e17
  have k17 : RK σ17 := by rw [e17]; exact k2.sI (f := 645) (by show rI _; unfold rI; omega)
  have f17 : Fr (fun f o' => 640 ≤ f ∧ f < 704) τ2 σ17 := by rw [e17]; exact (Fr.rf _ _).sI (by omega)
  have v17 : gI σ17 640 0 = n ∧ gI σ17 641 0 = rI4 z.2.2.2 28 ∧ gI σ17 642 0 = rI4 z.2.2.2 32 ∧ gI σ17 643 0 = rI4 z.2.2.2 36 ∧ gI σ17 644 0 = rI4 z.2.2.2 40 ∧ gI σ17 645 0 = rI4 z.2.2.2 44 - 1 := by
    obtain ⟨c1, c2, c3, c4, c5, c6⟩ := zz
    rw [e17]; simp only [gI_sI]; simp
    exact ⟨by rw [c1]; omega, c2, c3, c4, c5⟩
  have g3 : Fr mHs σ σ17 := g2.tr (f17.mono (fun f o' => In_s))
  clear e17
  have law : ∀ P4 M4, inF P4 n (rI4 z.2.2.2 28) (rI4 z.2.2.2 32) (rI4 z.2.2.2 36) (rI4 z.2.2.2 40) (rI4 z.2.2.2 44 - 1) → haM S.1 M4 n x 0 1 P4 → WF cf (M4, S.2) ∧ cpM M4 = cpM S.1 - 240 ∧ RWS M4 (nds S.1) (ens S.1) ((ats S.1).erase (arow a0)) (pcs S.1) := fun P4 M4 p4 hm => by
    rcases hm with ⟨w, -⟩ | ⟨-, eM⟩
    · exact absurd w (by decide)
    · have ek : kap (4 * n + 3) (rev x) = ak a0 := by show _ = kap a0.1 a0.2.1; rw [b2, b3]
      rw [ek] at eM
      exact at_del (cf := cf) (M := S.1) (nx := S.2) wf z1 z2 b1 b2 pA p4 eM
  refine sp_HhA hc (H2.frH f17 (fun f o' q => (In_s (o' := o') q).1) k17) k17 hB hx (by unfold rJ; omega) v17.1 v17.2.1 v17.2.2.1 v17.2.2.2.1 v17.2.2.2.2.1 v17.2.2.2.2.2 (by omega) (by omega) (fun P4 M4 p4 hm => (law P4 M4 p4 hm).1) (fun τ3 P4 M4 p0 S0 W0 kk p4 hm tk sf H3 nn pl f3 k3 _ => ?_)
  intro σ14 e14
  obtain ⟨L1, L2, L3⟩ := law P4 M4 p4 hm
  have hC3 : HC τ3 S := (hC.fr g3 (fun g q w => w.2 q)).fr f3 (fun g q w => by
    rcases w with w | w
    · exact (R6_s w).2 q
    · exact st_k w q)
  have l3 : gI τ3 71 0 = cpM S.1 := hC3.1
  rw [l3, w32_id (by unfold rI; omega)] at e14
  have f14 : Fr (fun f o' => (f = 71 ∨ f = 72) ∧ o' = 0) τ3 σ14 := by rw [e14]; exact (Fr.rf _ _).sI (by omega)
  have k14 : RK σ14 := by rw [e14]; exact k3.sI (f := 71) (by show rI _; unfold rI; omega)
  have e645 : gI σ14 645 0 = drpA S n x := by
    rw [A1, ← nca, f14.i _ _ (by omega), f3.i _ _ (by unfold mRow stS; omega)]; exact v17.2.2.2.2.2
  rw [e645]
  rw [b4] at pA L3
  refine h1 σ14 (M4, S.2) _ v0 p0 S0 W0 kk (by rw [A1]; omega) pA L3 rfl (tk.fr g3 ⟨fun q => (mHs_W q).1 rfl, fun q => (mHs_W q).2 rfl⟩) sf (H3.frH f14 (fun f o' q => by unfold mHR; omega) k14) ⟨?_, ?_, ?_⟩ ?_ ?_ ((g3.mono (fun f o' => Or.inl)).tr ((f3.mono (fun f o' q => q.elim (fun w => Or.inl (R6_s w)) (fun w => Or.inr (Or.inl w)))).tr (f14.mono (fun f o' q => Or.inr (Or.inr q))))) k14
  · show gI σ14 71 0 = cpM M4
    rw [e14, gI_sI1, L2]
  · show gI σ14 72 0 = ((nds M4).length : Int)
    rw [e14, gI_sIo (by decide), L3.1.length_eq]; exact hC3.2.1
  · rw [e14, gI_sIo (by decide)]; exact hC3.2.2
  · rw [f14.i _ _ (by omega)]; exact nn
  · rw [f14.i _ _ (by omega)]; exact pl
