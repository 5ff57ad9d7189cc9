/-! House.close -/
theorem cl_law {cf : Cf} {M : List (Int × Int × Int × (Int → Int))} {nx w : Int} {z : Int × Int × Int × (Int → Int)} (W : WF cf (M, nx)) (hz : z ∈ M) (z1 : z.1 = 4 * w) (w1 : w ≠ 1) (c3 : cn3 w (ens M) = 0) (c1 : cn1 w (ens M) = 0) :
    WF cf (mforget w M, nx) ∧ cpM (mforget w M) = cpM M - cpM (M.filter (fun y => decide (ofT w y))) ∧ RWS (mforget w M) ((nds M).filter (fun n => decide (n.1 ≠ w))) (ens M) ((ats M).filter (fun r => decide (kpA w r))) ((pcs M).filter (fun p => decide (p.1 ≠ w))) := by
  have wr : WR (nds M) (ens M) (ats M) (pcs M) nx (fun _ => False) := W.wr
  have s0 : Srm M := W.1.1
  have o0 : IOK M nx := W.iok
  obtain ⟨n1, nn1, nn2, nk, ns, -, -, -⟩ := nd_put W hz z1
  have ff := fgt_fl (w := w) o0
  have R2 := (RWS.rf M).fg (w := w) o0
  have s2 : Srm (mforget w M) := mforget_srm s0
  have o2 : IOK (mforget w M) nx := by rw [ff]; exact o0.fl
  have mem : ∀ v, v ∈ mforget w M ↔ v ∈ M ∧ ¬ ofT w v := fun v => by
    rw [ff, List.mem_filter, Bool.not_eq_true', decide_eq_false_iff_not]
  have cC : cpM (mforget w M) = cpM M - cpM (M.filter (fun y => decide (ofT w y))) := by
    have := cpM_split (p := fun y => decide (ofT w y)) (M := M)
    rw [ff]; omega
  have cN := cpM_nn (M := M.filter (fun y => decide (ofT w y))) (fun v hv => o0.sz v (List.mem_filter.mp hv).1)
  have cp : cpM M ≤ capa cf := W.2.2.2.2.2.2.2.2.2.2.1
  have szE := szR_of R2 o2
  have z1' := cn1_z.mp c1
  have z3' := cn3_z.mp c3
  have WD := (wr.p (nd_fl wr.1.2 nn2) (List.Perm.refl _) (List.Perm.refl _) (List.Perm.refl _)).delN w1 z1' z3'
  obtain ⟨F1, F2⟩ := WF.mk (cf := cf) (S := (mforget w M, nx)) WD R2 (fun v v1 _ _ q => q) s2 o2 (fun v hv v4 => by
    obtain ⟨a, b⟩ := (mem v).mp hv
    exact (W.ct v a v4).ext rfl rfl (cn1_fl (fun t => b ⟨t, by omega⟩))) (by omega) (by
    have a := nlc_fl (w := w) (E := ens M) (E0 := ens M) (fun a ha => rfl) (N := nds M)
    have b : nlc (nds M) (ens M) ≤ 8 := W.nlr
    omega)
  exact ⟨F1, cC, R2⟩
/-- what is in use is a file -/
def HH (H : Int → Int) (N : List (Int × Int × Int)) : Prop := ∀ k, 0 ≤ k → k < 8 → H k = 0 ∨ ∃ s, (H k, 2, s) ∈ N
noncomputable def clA (S : List (Int × Int × Int × (Int → Int)) × Int) (H : Int → Int) (h : Int) : Int := cif ((0 ≤ h ∧ h < 8) ∧ H h ≠ 0) (cif (cn3 (H h) (ens S.1) ≠ 0 ∨ ∃ k, (0 ≤ k ∧ k < 8) ∧ k ≠ h ∧ H k = H h) 0 1) (-3)
theorem HH.u {tv : Nat → Int} {cf : Cf} {σ : St} {S S' : List (Int × Int × Int × (Int → Int)) × Int} {W : List (Int × (List (Int × Int × Int × (Int → Int)) × Int))} {r : RT} {B : Int} {H : Int → Int} {w k s : Int} (hh : HH H (nds S.1)) (wf : WF cf S) (hw : (w, k, s) ∈ nds S.1) (o : ∃ j, (0 ≤ j ∧ j < 8) ∧ H j = w) : k = 2 := by
  obtain ⟨j, ⟨j0, j1⟩, e⟩ := o
  have wr := wf.wr
  rcases hh j j0 j1 with q | ⟨s', q⟩
  · have := (wr.1.1 _ hw).1
    have : 1 ≤ w := this.1
    omega
  · rw [e] at q
    have := wr.u hw q rfl
    rw [Prod.mk.injEq, Prod.mk.injEq] at this
    exact this.2.1
theorem sp_Hclose {tv : Nat → Int} {cf : Cf} {σ : St} {S S' : List (Int × Int × Int × (Int → Int)) × Int} {W : List (Int × (List (Int × Int × Int × (Int → Int)) × Int))} {r : RT} {B : Int} {h : Int} {Q : Int → St → Prop} (hc : CfOK cf) (hp : HP tv cf σ S S' W r B) (hC : HC σ S) (hrk : RK σ) (hB : B + 49772 < 1073741000) (hh : HH (gA σ 70 0) (nds S.1))
    (h0 : clA S (gA σ 70 0) h = -3 → Q (-3) σ)
    (hz : ∀ τ, clA S (gA σ 70 0) h = 0 → 0 ≤ h → h < 8 → gA τ 70 0 = upF (gA σ 70 0) h 0 → HP tv cf τ S S' W r B → Fr (fun f o' => mHs f o' ∨ (f = 70 ∧ o' = 0)) σ τ → RK τ → Q 0 τ)
    (h1 : ∀ τ S2 w s p0 S0 W0 k, clA S (gA σ 70 0) h = 1 → 0 ≤ h → h < 8 → gA σ 70 0 h = w → (w, 2, s) ∈ nds S.1 → gA τ 70 0 = upF (gA σ 70 0) h 0 → RWS S2.1 ((nds S.1).filter (fun n => decide (n.1 ≠ w))) (ens S.1) ((ats S.1).filter (fun r => decide (kpA w r))) ((pcs S.1).filter (fun p => decide (p.1 ≠ w))) → S2.2 = S.2 → TKo cf σ 48 S S' W p0 S0 W0 → SFo (p0 + 48) (W0 ++ [(p0 + 48, S2)]) k → HP tv cf τ S2 (laS S0 ((W0 ++ [(p0 + 48, S2)]).take k)) ((W0 ++ [(p0 + 48, S2)]).drop k) r (B + 49772) → HC τ S2 → gI τ 451 0 ≠ -1 → gI τ 452 0 = p0 + 48 → Fr (fun f o' => mHo f o' ∨ (f = 70 ∧ o' = 0)) σ τ → RK τ → Q 1 τ) : wp_House_close cf tv h Q σ := by
  have wf := hp.wf
  have wr := wf.wr
  have n1 := hp.nx
  have ok := hp.okC hc
  have cp := wf.2.2.2.2.2.2.2.2.2.2.1
  have cl := capa_le hc
  have lim := (wf.x.ft hc).2.2
  have on : gI σ 69 0 = 1 := hC.2.2
  unfold wp_House_close
  refine ⟨fun _ => ?_, fun w => by have w : gI σ 69 0 = 0 := w; omega⟩
  refine sp_HisHandle hrk (fun hd _ _ => ⟨fun _ => ?_, fun w => absurd w (by decide)⟩) (fun hd _ _ => ⟨fun w => absurd rfl w, fun _ => h0 (cif_n (fun q => hd ⟨q.1, by
    rcases hh h q.1.1 q.1.2 with v | ⟨s, v⟩
    · exact absurd v q.2
    · have := (wr.1.1 _ v).1
      have : 1 ≤ gA σ 70 0 h := this.1
      omega⟩))⟩)
  obtain ⟨⟨hd0, hd1⟩, hd2⟩ := hd
  refine ⟨⟨hd0, hd1⟩, fun y2 e2 => ⟨⟨hd0, hd1⟩, fun σ23 e23 => ?_⟩⟩
  obtain ⟨s, row⟩ : ∃ s, (gA σ 70 0 h, 2, s) ∈ nds S.1 := (hh h hd0 hd1).elim (fun q => by omega) id
  have ry2 : rI (gA σ 70 0 h) := hrk.2 70 0 h
  rw [e2]
  generalize hw : gA σ 70 0 h = w at *
  have A0 : clA S (gA σ 70 0) h = cif (cn3 w (ens S.1) ≠ 0 ∨ ∃ k, (0 ≤ k ∧ k < 8) ∧ k ≠ h ∧ gA σ 70 0 k = w) 0 1 := by
    unfold clA; rw [hw]; exact cif_y ⟨⟨hd0, hd1⟩, by omega⟩
  have f23 : Fr (fun f o' => f = 70 ∧ o' = 0) σ σ23 := by rw [e23]; exact (Fr.rf _ _).sA ⟨rfl, rfl⟩
  have k23 : RK σ23 := by rw [e23]; exact hrk.sA (f := 70) (by show rI 0; unfold rI; omega)
  have h23 : gA σ23 70 0 = upF (gA σ 70 0) h 0 := by rw [e23]; exact sA_up _ _ _ _ _
  have H23 : HP tv cf σ23 S S' W r B := hp.frH f23 (fun f o' q => by unfold mHR; omega) k23
  clear e23
  refine sp_Pread hc H23 ry2 (fun τ no => absurd row (no _ _)) (fun τ z z1 z2 z3 z4 z5 H f k _ _ => ?_)
  have z4' := z4
  rw [z3] at z4'
  have u := wr.u row z4' rfl
  rw [Prod.mk.injEq, Prod.mk.injEq] at u
  obtain ⟨nr, nn1, nn2, nk, ns, ⟨nc1, nc2, nc3⟩, ⟨-, ncl, nca⟩, nak⟩ := nd_put (M := S.1) (nx := S.2) wf z1 z2
  have lk := ncl (by omega)
  have li : gI τ 642 0 = cn3 w (ens S.1) := (show gI τ 642 0 = rI4 z.2.2.2 32 from z5.2.2.1).trans lk
  have g1 : Fr (fun f o' => mHs f o' ∨ (f = 70 ∧ o' = 0)) σ τ := (f23.mono (fun f o' => Or.inr)).tr (f.mono (fun f o' q => Or.inl (Ri_s q)))
  have hτ : gA τ 70 0 = upF (gA σ 70 0) h 0 := by rw [f.a _ _ (fun q => (mRi_k q).1 (by unfold hK; omega))]; exact h23
  rw [li]
  have op : opn τ w ↔ ∃ k, (0 ≤ k ∧ k < 8) ∧ k ≠ h ∧ gA σ 70 0 k = w := by
    unfold opn
    rw [show gA τ 70 0 = upF (gA σ 70 0) h 0 from hτ]
    refine ⟨fun ⟨k, a, b⟩ => ⟨k, a, ?_⟩, fun ⟨k, a, b, c⟩ => ⟨k, a, by unfold upF; rw [if_neg b]; exact c⟩⟩
    unfold upF at b
    by_cases q : k = h
    · rw [if_pos q] at b; omega
    · rw [if_neg q] at b; exact ⟨q, b⟩
  refine ⟨fun q => hz τ (by rw [A0]; exact cif_y (Or.inl (by omega))) hd0 hd1 hτ H g1 k, fun q => ?_⟩
  refine sp_HisOpen (fun o _ _ => ⟨fun v => absurd v (by decide), fun _ => hz τ (by rw [A0]; exact cif_y (Or.inr (op.mp o))) hd0 hd1 hτ H g1 k⟩) (fun o _ _ => ⟨fun _ => ?_, fun v => absurd rfl v⟩)
  have c3 : cn3 w (ens S.1) = 0 := by omega
  have A1 : clA S (gA σ 70 0) h = 1 := by rw [A0]; exact cif_n (fun v => v.elim (fun t => t c3) (fun t => o (op.mpr t)))
  have w1 : w ≠ 1 := fun e => by
    rw [e] at row
    have := wr.u row wr.2.1 rfl
    rw [Prod.mk.injEq, Prod.mk.injEq] at this
    omega
  have c1 : cn1 w (ens S.1) = 0 := cn1_z.mpr (fun e he v => by
    have a := (wr.2.2.1 e he).1
    rw [v] at a
    have := wr.u row a rfl
    rw [Prod.mk.injEq, Prod.mk.injEq] at this
    omega)
  obtain ⟨L1, L2, L3⟩ := cl_law (cf := cf) (M := S.1) (nx := S.2) wf z1 z2 w1 c3 c1
  refine H.room hc ry2 (fun τ2 fr kr _ _ => ?_)
  intro σ30 e30 σ31 e31 σ32 e32
  have rm0 := cpM_nn (M := S.1.filter (fun y => decide (ofT w y))) (fun v hv => IOK.sz wf.iok v (List.mem_filter.mp hv).1)
  have rm1 := cpM_fl (p := fun y => decide (ofT w y)) (M := S.1) (IOK.sz wf.iok)
  generalize hrm : cpM (S.1.filter (fun y => decide (ofT w y))) = rm at *
  have lv : gI τ 71 0 = cpM S.1 := by
    rw [f.i _ _ (fun q => (mRi_k q).1 (by unfold hK; omega)), f23.i _ _ (by omega)]; exact hC.1
  have th : gI τ 72 0 = ((nds S.1).length : Int) := by
    rw [f.i _ _ (fun q => (mRi_k q).1 (by unfold hK; omega)), f23.i _ _ (by omega)]; exact hC.2.1
  have onT : gI τ 69 0 = 1 := by
    rw [f.i _ _ (fun q => (mRi_k q).1 (by unfold hK; omega)), f23.i _ _ (by omega)]; exact on
  rw [lv, w32_id (by unfold rI; omega)] at e30
  have t30 : gI σ30 72 0 = ((nds S.1).length : Int) := by rw [e30, gI_sIo (by decide), fr.i _ _ (by unfold mIs; omega)]; exact th
  rw [t30, w32_id (by unfold rI; omega)] at e31
  have k32 : RK σ32 := by rw [e32, e31, e30]; exact ((kr.sI (f := 71) (by show rI _; unfold rI; omega)).sI (f := 72) (by show rI _; unfold rI; omega)).sI (f := 641) (by show rI _; unfold rI; omega)
  have f32 : Fr (fun f o' => ((640 ≤ f ∧ f < 704) ∧ o' = 0) ∨ mIs 0 f o' ∨ ((f = 71 ∨ f = 72) ∧ o' = 0)) τ σ32 := by
    rw [e32, e31, e30]
    exact (((fr.mono (fun f o' q => Or.inr (Or.inl q))).sI (Or.inr (Or.inr ⟨Or.inl rfl, rfl⟩))).sI (Or.inr (Or.inr ⟨Or.inr rfl, rfl⟩))).sI (Or.inl (by omega))
  have v32 : gI σ32 641 0 = 0 ∧ ∀ g, g ≠ 641 → 640 ≤ g → g ≤ 645 → gI σ32 g 0 = gI τ g 0 := by
    rw [e32, e31, e30]
    refine ⟨by rw [gI_sI1], fun g g1 g2 g3 => ?_⟩
    rw [gI_sIo g1, gI_sIo (by omega), gI_sIo (by omega), fr.i _ _ (by unfold mIs; omega)]
  have lv32 : gI σ32 71 0 = cpM S.1 - rm := by rw [e32, gI_sIo (by decide), e31, gI_sIo (by decide), e30, gI_sI1]
  have th32 : gI σ32 72 0 = ((nds S.1).length : Int) - 1 := by rw [e32, gI_sIo (by decide), e31, gI_sI1]
  clear e32 e31 e30
  obtain ⟨i1, i2, i3, i4, i5, i6⟩ := z5
  refine sp_Hbegin (S := S) (fun τ3 g3 f3 k3 _ => ?_)
  have vi : ∀ g, g ≠ 641 → 640 ≤ g → g ≤ 645 → gI τ3 g 0 = gI τ g 0 := fun g c a b => by rw [f3.i _ _ (by unfold mRow; omega)]; exact v32.2 g c a b
  refine sp_gIno (l := 1) (a := w) (kd := 0) (lk := rI4 z.2.2.2 32) (sz := rI4 z.2.2.2 36) (en := rI4 z.2.2.2 40) (at' := rI4 z.2.2.2 44) k3 g3 (by omega) (ok.s (by omega)) (by rw [vi _ (by decide) (by decide) (by decide), i1]; omega) (by rw [f3.i _ _ (by unfold mRow; omega)]; exact v32.1) (by rw [vi _ (by decide) (by decide) (by decide)]; exact i3) (by rw [vi _ (by decide) (by decide) (by decide)]; exact i4) (by rw [vi _ (by decide) (by decide) (by decide)]; exact i5) (by rw [vi _ (by decide) (by decide) (by decide)]; exact i6) (by omega) (fun τ5 P2 p2 g5 f5 k5 _ => ?_)
  have g5 := g5.2 (by decide)
  have sI5 : sIn (S.1, S.2) w 0 P2 = (mforget w S.1, S.2) := by
    unfold sIn; rw [if_pos rfl]
    show (_, max S.2 (w + 1)) = _
    rw [show max S.2 (w + 1) = S.2 by omega]
  rw [show sIn S w 0 P2 = (mforget w S.1, S.2) from sI5] at g5
  have fS : Fr (fun f o' => mHs f o' ∨ ((f = 71 ∨ f = 72) ∧ o' = 0)) τ τ5 := ((f32.mono (fun f o' q => by
    rcases q with q | q | q
    · exact Or.inl (In_s q.1)
    · exact Or.inl (Is_s q)
    · exact Or.inr q)).tr (f3.mono (fun f o' q => Or.inl (R6_s q)))).tr (f5.mono (fun f o' q => Or.inl (R6_s q)))
  have H5 := H.frH fS (fun f o' q => by
    rcases q with q | q
    · exact q.1
    · unfold mHR; omega) k5
  refine sp_handS (e := 48) hc H5 hB g5 (by omega) L1 (by show S.2 < 1073740000; omega) (fun τ8 p0 S0 W0 k' tk sf H8 nn pl f8 k8 _ => ?_)
  have f8s : Fr stS τ5 τ8 := f8.mono (fun f o' => st_Hh)
  have fW : Fr (fun f o' => (mHs f o' ∨ ((f = 71 ∨ f = 72) ∧ o' = 0)) ∨ (f = 70 ∧ o' = 0)) σ τ5 := (g1.mono (fun f o' q => q.elim (fun v => Or.inl (Or.inl v)) Or.inr)).tr (fS.mono (fun f o' => Or.inl))
  have nh : ∀ g, (g = 69 ∨ g = 70) → ¬ (mHs g 0 ∨ ((g = 71 ∨ g = 72) ∧ (0 : Int) = 0)) := fun g a q => by
    rcases q with q | q
    · exact q.2 (by unfold hK; omega)
    · omega
  refine h1 τ8 (mforget w S.1, S.2) w s p0 S0 W0 k' A1 hd0 hd1 rfl row (by rw [f8s.a _ _ (by unfold stS; omega), fS.a _ _ (nh _ (Or.inr rfl))]; exact hτ) L3 rfl (tk.fr fW ⟨fun q => ?_, fun q => ?_⟩) sf H8 ⟨?_, ?_, ?_⟩ nn pl ((fW.mono (fun f o' q => ?_)).tr (f8s.mono (fun f o' q => Or.inl (Or.inr (Or.inl q))))) k8
  · rcases q with (q | q) | q
    · exact (mHs_W q).1 rfl
    · omega
    · omega
  · rcases q with (q | q) | q
    · exact (mHs_W q).2 rfl
    · omega
    · omega
  · show gI τ8 71 0 = cpM (mforget w S.1)
    rw [f8s.i _ _ (by unfold stS; omega), f5.i _ _ (by unfold mRow; omega), f3.i _ _ (by unfold mRow; omega), L2]; exact lv32
  · show gI τ8 72 0 = ((nds (mforget w S.1)).length : Int)
    have c := (nd_fl wr.1.2 row).length_eq
    rw [List.length_cons] at c
    rw [f8s.i _ _ (by unfold stS; omega), f5.i _ _ (by unfold mRow; omega), f3.i _ _ (by unfold mRow; omega), L3.1.length_eq, th32]
    omega
  · show gI τ8 69 0 = 1
    rw [f8s.i _ _ (by unfold stS; omega), fS.i _ _ (nh _ (Or.inl rfl))]; exact onT
  · rcases q with (q | q) | q
    · exact Or.inl (Or.inl q)
    · exact Or.inl (Or.inr (Or.inr q))
    · exact Or.inr q
