/-! House.unname -/
theorem HP.room {tv : Nat → Int} {cf : Cf} {σ : St} {S S' : List (Int × Int × Int × (Int → Int)) × Int} {W : List (Int × (List (Int × Int × Int × (Int → Int)) × Int))} {r : RT} {B : Int} {w : Int} {Q : Int → St → Prop} (hc : CfOK cf) (h : HP tv cf σ S S' W r B) (hw : rI w) (hQ : ∀ τ, Fr (mIs 0) σ τ → RK τ → Q (cpM (S.1.filter (fun y => decide (ofT w y)))) τ) : wp_House_roomOf cf tv w Q σ := by
  have H := h
  obtain ⟨dk, db, L, p, ⟨a, b⟩, wf, -⟩ := h
  have len : L.length ≤ 880 := by have := wf.len hc; rw [← a] at this; unfold AM at this; rw [List.length_map] at this; omega
  refine sp_HroomOf p.rd hw len (fun τ f k => ?_)
  rw [a]
  exact hQ τ f k
/-- what goes with its last name -/
def gnP (σ : St) (w k : Int) (E0 : List (Int × Int × Int)) : Prop := k = 1 ∨ (cn3 w E0 = 0 ∧ ¬ opn σ w)
theorem sp_Hunn {tv : Nat → Int} {cf : Cf} {σ : St} {S S' : List (Int × Int × Int × (Int → Int)) × Int} {W : List (Int × (List (Int × Int × Int × (Int → Int)) × Int))} {r : RT} {B : Int} {d w x kd sz : Int} {y z x0 : Int × Int × Int × (Int → Int)} {E0 : List (Int × Int × Int)} {Q : St → Prop} (hc : CfOK cf) (h : HP tv cf σ S S' W r B) (hC : HC σ S) (hrk : RK σ) (hB : B + 49772 < 1073741000) (hx : rJ x) (hy : y ∈ S.1) (y1 : y.1 = 4 * d) (yk : rI4 y.2.2.2 28 = 1) (yn : ndI σ 0 y) (hz : z ∈ S.1) (z1 : z.1 = 4 * w) (zk : rI4 z.2.2.2 28 = kd) (zs : rI4 z.2.2.2 36 = sz) (zn : ndI σ 1 z) (w1 : w ≠ 1) (hx0 : x0 ∈ S.1) (x1 : x0.1 = 4 * d + 2) (x2 : erow x0 = (d, x, w)) (hsl : gI σ 91 0 = rI4 x0.2.2.2 40) (hE : (ens S.1).Perm ((d, x, w) :: E0)) (hd : kd = 1 → cn1 w (ens S.1) = 0) (hop : opn σ w → kd = 2) (hNU : NU σ (nds S.1) (ens S.1))
    (hQ : ∀ τ S2 p0 S0 W0 k, (¬ gnP σ w kd E0 → RWS S2.1 (nds S.1) E0 (ats S.1) (pcs S.1) ∧ NU σ (nds S.1) E0) → (gnP σ w kd E0 → RWS S2.1 ((nds S.1).filter (fun n => decide (n.1 ≠ w))) E0 ((ats S.1).filter (fun r => decide (kpA w r))) ((pcs S.1).filter (fun p => decide (p.1 ≠ w)))) → S2.2 = S.2 → TKo cf σ 144 S S' W p0 S0 W0 → SFo (p0 + 144) (W0 ++ [(p0 + 144, S2)]) k → HP tv cf τ S2 (laS S0 ((W0 ++ [(p0 + 144, S2)]).take k)) ((W0 ++ [(p0 + 144, S2)]).drop k) r (B + 49772) → HC τ S2 → gI τ 642 1 = w32 (rI4 z.2.2.2 32 - 1) → gI τ 640 1 = w → gI τ 451 0 ≠ -1 → gI τ 452 0 = p0 + 144 → Fr mHo σ τ → RK τ → Q τ) : wp_House_unname cf tv d x Q σ := by
  have wf := h.wf
  have wr := wf.wr
  have n1 := h.nx
  have ok := h.okC hc
  have cp := wf.2.2.2.2.2.2.2.2.2.2.1
  have cl := capa_le hc
  have lim := (wf.x.ft hc).2.2
  obtain ⟨dr, dn1, dn2, dk, ds, ⟨dc1, dc2, dc3⟩, ⟨dcy, -, dca⟩, dak⟩ := nd_put (M := S.1) (nx := S.2) wf hy y1
  obtain ⟨nr, nn1, nn2, nk, ns, ⟨nc1, nc2, nc3⟩, ⟨-, ncl, nca⟩, nak⟩ := nd_put (M := S.1) (nx := S.2) wf hz z1
  have dE := dcy yk
  have oe := (wf.iok x0 hx0).2.1 (by omega)
  have ex : rL8 x0.2.2.2 32 = x ∧ rI4 x0.2.2.2 28 = w := by
    unfold erow at x2; rw [Prod.mk.injEq, Prod.mk.injEq] at x2; exact x2.2
  have ke : kap (4 * d + 2) (hs x + rI4 x0.2.2.2 40) = ak x0 := by
    show _ = kap x0.1 x0.2.1
    rw [x1, oe.2.2.2.2.1, ex.1]
  have cD := cn1_le (a := d) (R := ens S.1)
  have en1 : 1 ≤ rI4 y.2.2.2 40 := by
    rw [dE.1, perm_cn1 hE, cn1_i (show ((d, x, w) : Int × Int × Int).1 = d from rfl)]; omega
  have cE : 240 ≤ cpM S.1 := by
    have a : cpM S.1 = szR (nds S.1) (ens S.1) (ats S.1) (pcs S.1) := wf.szr
    have b := (wf.x.fit hc).2.1
    have c := hE.length_eq
    rw [List.length_cons] at c
    unfold szR at a
    omega
  have lw : rI4 z.2.2.2 32 ≤ 2147483647 ∧ 0 ≤ rI4 z.2.2.2 32 := ⟨by
    have := hrk.i 642 1 rfl
    rw [zn.2.2.1] at this
    unfold rI at this; omega, nc1⟩
  unfold wp_House_unname
  intro σ13 e13 σ14 e14
  have q0 : gI σ 644 0 = rI4 y.2.2.2 40 := yn.2.2.2.2.1
  rw [q0, w32_id (by unfold rI; omega)] at e13
  have q1 : gI σ13 71 0 = cpM S.1 := by rw [e13]; simp only [gI_sI]; simp; exact hC.1
  rw [q1, w32_id (by unfold rI; omega)] at e14
  have k14 : RK σ14 := by rw [e14, e13]; exact (hrk.sI (f := 644) (by show rI _; unfold rI; omega)).sI (f := 71) (by show rI _; unfold rI; omega)
  have f14 : Fr (fun f o' => (640 ≤ f ∧ f < 704) ∨ (f = 71 ∧ o' = 0)) σ σ14 := by rw [e14, e13]; exact ((Fr.rf _ _).sI (by omega)).sI (by omega)
  have l14 : gI σ14 71 0 = cpM S.1 - 240 := by rw [e14, gI_sI1]
  have vb : gI σ14 640 0 = d ∧ gI σ14 641 0 = 1 ∧ gI σ14 642 0 = rI4 y.2.2.2 32 ∧ gI σ14 643 0 = 0 ∧ gI σ14 644 0 = rI4 y.2.2.2 40 + -1 ∧ gI σ14 645 0 = rI4 y.2.2.2 44 := by
    obtain ⟨b1, b2, b3, b4, b5, b6⟩ := yn
    rw [e14, e13]; simp only [gI_sI]; simp
    exact ⟨by rw [b1]; omega, by rw [b2]; exact yk, b3, by rw [b4]; exact dE.2, by omega, b6⟩
  have va : gI σ14 640 1 = w ∧ gI σ14 641 1 = kd ∧ gI σ14 642 1 = rI4 z.2.2.2 32 ∧ gI σ14 643 1 = rI4 z.2.2.2 36 ∧ gI σ14 644 1 = rI4 z.2.2.2 40 ∧ gI σ14 645 1 = rI4 z.2.2.2 44 := by
    obtain ⟨b1, b2, b3, b4, b5, b6⟩ := zn
    rw [e14, e13]; simp only [gI_sI]; simp
    exact ⟨by rw [b1]; omega, by rw [b2]; exact zk, b3, b4, b5, b6⟩
  have s14 : gI σ14 91 0 = rI4 x0.2.2.2 40 := by rw [f14.i _ _ (by omega)]; exact hsl
  clear e14 e13
  refine sp_Hbegin (S := S) (fun τ3 g3 f3 k3 _ => ?_)
  have s3 : gI τ3 91 0 = rI4 x0.2.2.2 40 := by rw [f3.i _ _ (by unfold mRow; omega)]; exact s14
  rw [s3]
  refine sp_gEnt k3 g3 (by omega) (ok.s (by omega)) (by omega) (by unfold rI; omega) hx (by unfold rI; omega) (fun τ4 P1 p1 g4 f4 k4 _ => ?_)
  have f34 := f3.tr f4
  have sE : sEn S d 0 x (rI4 x0.2.2.2 40) P1 = (mdel (ak x0) S.1, S.2) := by unfold sEn; rw [if_pos rfl, ke]
  rw [sE] at g4
  have ok4 : okC (mdel (ak x0) S.1, S.2) 1 := ok.del
  have s0 : Srm S.1 := wf.1.1
  have K8 : ∀ (τ6 : St) (M2 : List (Int × Int × Int × (Int → Int))), GR τ6 S 96 (M2, S.2) → okS (M2, S.2) → Fr (fun f o' => ((640 ≤ f ∧ f < 704) ∧ o' = 1) ∨ mRow 6 f o' ∨ mIs 0 f o' ∨ ((f = 71 ∨ f = 72) ∧ o' = 0)) σ14 τ6 → RK τ6 → gI τ6 642 1 = w32 (rI4 z.2.2.2 32 - 1) → gI τ6 640 1 = w → (∀ P4, dirI y P4 d (-1) → WF cf (mput (4 * d, 0, 48, P4) M2, S.2) ∧ cpM (mput (4 * d, 0, 48, P4) M2) = gI τ6 71 0 ∧ ((nds (mput (4 * d, 0, 48, P4) M2)).length : Int) = gI τ6 72 0 ∧ (¬ gnP σ w kd E0 → RWS (mput (4 * d, 0, 48, P4) M2) (nds S.1) E0 (ats S.1) (pcs S.1) ∧ NU σ (nds S.1) E0) ∧ (gnP σ w kd E0 → RWS (mput (4 * d, 0, 48, P4) M2) ((nds S.1).filter (fun n => decide (n.1 ≠ w))) E0 ((ats S.1).filter (fun r => decide (kpA w r))) ((pcs S.1).filter (fun p => decide (p.1 ≠ w))))) → wp_House_addInode cf tv 0 1 (fun σ_22 => RK σ_22 → wp_House_hand cf tv (fun σ_24 => RK σ_24 → Q σ_24) σ_22) τ6 := by
    intro τ6 M2 g6 ok6 f6 k6 l6 n6 law
    have vi : ∀ g, 640 ≤ g → g ≤ 645 → gI τ6 g 0 = gI σ14 g 0 := fun g a b => f6.i _ _ (by unfold mRow mIs; omega)
    refine sp_gIno (l := 1) (a := d) (kd := 1) (lk := rI4 y.2.2.2 32) (sz := 0) (en := rI4 y.2.2.2 40 + -1) (at' := rI4 y.2.2.2 44) k6 g6 (by omega) ok6 (by rw [vi _ (by decide) (by decide)]; exact vb.1) (by rw [vi _ (by decide) (by decide)]; exact vb.2.1) (by rw [vi _ (by decide) (by decide)]; exact vb.2.2.1) (by rw [vi _ (by decide) (by decide)]; exact vb.2.2.2.1) (by rw [vi _ (by decide) (by decide)]; exact vb.2.2.2.2.1) (by rw [vi _ (by decide) (by decide)]; exact vb.2.2.2.2.2) (by omega) (fun τ7 P4 p4 g7 f7 k7 _ => ?_)
    have g7 := g7.2 (by decide)
    obtain ⟨L1, L2, L3, L4, L5⟩ := law P4 p4
    generalize hM4 : mput (4 * d, 0, 48, P4) M2 = M4 at *
    have sI7 : sIn (M2, S.2) d 1 P4 = (M4, S.2) := by
      unfold sIn; rw [if_neg (by decide)]
      show (mput (4 * d, 0, 48, P4) M2, max S.2 (d + 1)) = _
      rw [hM4, show max S.2 (d + 1) = S.2 by omega]
    rw [sI7] at g7
    have fT : Fr (fun f o' => mHs f o' ∨ ((f = 71 ∨ f = 72) ∧ o' = 0)) σ τ7 := ((f14.mono (fun f o' q => ?_)).tr (f6.mono (fun f o' q => ?_))).tr (f7.mono (fun f o' q => Or.inl (R6_s q)))
    · have H7 := h.frH fT (fun f o' q => by
        rcases q with q | q
        · exact q.1
        · unfold mHR; omega) k7
      refine sp_handS (e := 144) hc H7 hB g7 (by omega) L1 (by show S.2 < 1073740000; omega) (fun τ8 p0 S0 W0 k tk sf H8 nn pl f8 k8 _ => ?_)
      have f8s : Fr stS τ7 τ8 := f8.mono (fun f o' => st_Hh)
      refine hQ τ8 (M4, S.2) p0 S0 W0 k L4 L5 rfl (tk.fr fT ⟨fun q => ?_, fun q => ?_⟩) sf H8 ⟨?_, ?_, ?_⟩ ?_ ?_ nn pl ((fT.mono (fun f o' q => ?_)).tr (f8s.mono (fun f o' q => Or.inr (Or.inl q)))) k8
      · rcases q with q | q
        · exact (mHs_W q).1 rfl
        · omega
      · rcases q with q | q
        · exact (mHs_W q).2 rfl
        · omega
      · show gI τ8 71 0 = cpM M4
        rw [f8s.i _ _ (by unfold stS; omega), f7.i _ _ (by unfold mRow; omega)]; exact L2.symm
      · show gI τ8 72 0 = ((nds M4).length : Int)
        rw [f8s.i _ _ (by unfold stS; omega), f7.i _ _ (by unfold mRow; omega)]; exact L3.symm
      · show gI τ8 69 0 = 1
        rw [f8s.i _ _ (by unfold stS; omega), f7.i _ _ (by unfold mRow; omega), f6.i _ _ (by unfold mRow mIs; omega), f14.i _ _ (by omega)]; exact hC.2.2
      · rw [f8s.i _ _ (by unfold stS; omega), f7.i _ _ (by unfold mRow; omega)]; exact l6
      · rw [f8s.i _ _ (by unfold stS; omega), f7.i _ _ (by unfold mRow; omega)]; exact n6
      · rcases q with q | q
        · exact Or.inl q
        · exact Or.inr (Or.inr q)
    · rcases q with q | q
      · exact Or.inl (In_s q)
      · exact Or.inr ⟨Or.inl q.1, q.2⟩
    · rcases q with q | q | q | q
      · exact Or.inl (In_s q.1)
      · exact Or.inl (R6_s q)
      · exact Or.inl (Is_s q)
      · exact Or.inr q
  have va4 : ∀ g, 640 ≤ g → g ≤ 645 → gI τ4 g 1 = gI σ14 g 1 := fun g a b => f34.i _ _ (by unfold mRow; omega)
  have op4 : ∀ τ : St, gA τ 70 0 = gA σ 70 0 → (opn τ w ↔ opn σ w) := fun τ e => by unfold opn; rw [e]
  unfold wp_House_loses
  intro σ18 e18
  rw [show gI τ4 642 1 = rI4 z.2.2.2 32 by rw [va4 _ (by decide) (by decide)]; exact va.2.2.1] at e18
  have f18 : Fr (fun f o' => (640 ≤ f ∧ f < 704) ∧ o' = 1) τ4 σ18 := by rw [e18]; exact (Fr.rf _ _).sI (by omega)
  have k18 : RK σ18 := by rw [e18]; exact k4.sI (f := 642) (by show rI _; exact w32_r _)
  have g18 : GR σ18 S 48 (mdel (ak x0) S.1, S.2) := by
    have := g4.fr f18 ⟨by omega, by omega⟩
    exact this
  have l18 : gI σ18 642 1 = w32 (rI4 z.2.2.2 32 - 1) := by rw [e18, gI_sI1]
  have v18 : gI σ18 640 1 = w ∧ gI σ18 641 1 = kd ∧ gI σ18 643 1 = rI4 z.2.2.2 36 ∧ gI σ18 644 1 = rI4 z.2.2.2 40 ∧ gI σ18 645 1 = rI4 z.2.2.2 44 := by
    rw [e18]; simp only [gI_sI]; simp
    rw [va4 640 (by decide) (by decide), va4 641 (by decide) (by decide), va4 643 (by decide) (by decide), va4 644 (by decide) (by decide), va4 645 (by decide) (by decide)]
    exact ⟨va.1, va.2.1, va.2.2.2.1, va.2.2.2.2.1, va.2.2.2.2.2⟩
  clear e18
  have fA : Fr (fun f o' => ((640 ≤ f ∧ f < 704) ∧ o' = 1) ∨ mRow 6 f o' ∨ mIs 0 f o' ∨ ((f = 71 ∨ f = 72) ∧ o' = 0)) σ14 σ18 := (f34.mono (fun f o' q => Or.inr (Or.inl q))).tr (f18.mono (fun f o' q => Or.inl q))
  have h70 : gA σ18 70 0 = gA σ 70 0 := by rw [fA.a _ _ (by unfold mRow mIs; omega), f14.a _ _ (by omega)]
  have lr : kd ≠ 1 → rI4 z.2.2.2 32 = cn3 w E0 + 1 := fun q => by
    have := ncl (by rw [zk]; exact q)
    rw [perm_cn3 hE, cn3_i (show ((d, x, w) : Int × Int × Int).2.2 = w from rfl)] at this
    omega
  have l18' : gI σ18 71 0 = cpM S.1 - 240 := by rw [f18.i _ _ (by omega), f34.i _ _ (by unfold mRow; omega)]; exact l14
  have th18 : gI σ18 72 0 = ((nds S.1).length : Int) := by rw [f18.i _ _ (by omega), f34.i _ _ (by unfold mRow; omega), f14.i _ _ (by omega)]; exact hC.2.1
  have row : (w, kd, sz) ∈ nds S.1 := by rw [zk, zs] at nn2; exact nn2
  have kr3 : 1 ≤ kd ∧ kd ≤ 3 := by rw [← zk]; exact nk
  have one3 : kd ≠ 2 → cn3 w E0 = 0 := fun q => by
    have := wr.2.2.2.2.2.2.1 _ row q w1 id
    have : cn3 w (ens S.1) = 1 := this
    rw [perm_cn3 hE, cn3_i (show ((d, x, w) : Int × Int × Int).2.2 = w from rfl)] at this
    omega
  have gone : gnP σ w kd E0 → wp_House_loses_b36 cf tv 1 0 (fun r_19 σ_20 => rZ r_19 → RK σ_20 → wp_House_addInode cf tv 0 1 (fun σ_22 => RK σ_22 → wp_House_hand cf tv (fun σ_24 => RK σ_24 → Q σ_24) σ_22) σ_20) (wp_House_loses_b41 cf tv 1 0 (fun r_19 σ_20 => rZ r_19 → RK σ_20 → wp_House_addInode cf tv 0 1 (fun σ_22 => RK σ_22 → wp_House_hand cf tv (fun σ_24 => RK σ_24 → Q σ_24) σ_22) σ_20)) σ18 := by
    intro g
    unfold wp_House_loses_b36 wp_House_loses_b41 wp_House_loses_b78
    refine ⟨fun v => absurd v (by decide), fun _ => ?_⟩
    have fS : Fr (fun f o' => mHR f o') σ σ18 := (f14.mono (fun f o' q => by unfold mHR; omega)).tr (fA.mono (fun f o' q => by
      rcases q with q | q | q | q
      · unfold mHR; omega
      · exact (R6_s q).1
      · exact (Is_s q).1
      · unfold mHR; omega))
    rw [v18.1]
    refine (h.frH fS (fun f o' q => q) k18).room hc (by unfold rI; omega) (fun τ fr kr _ _ => ?_)
    intro σ15 e15 σ16 e16 σ17 e17
    have c3 : cn3 w E0 = 0 := by
      rcases g with g | g
      · exact one3 (by omega)
      · exact g.1
    have c1 : cn1 w (ens S.1) = 0 := by
      by_cases q : kd = 1
      · exact hd q
      · refine cn1_z.mpr (fun e he v => q ?_)
        have a := (wr.2.2.1 e he).1
        rw [v] at a
        have := wr.u row a rfl
        rw [Prod.mk.injEq, Prod.mk.injEq] at this
        exact this.2.1
    have rm0 := cpM_nn (M := S.1.filter (fun y => decide (ofT w y))) (fun v hv => IOK.sz wf.iok v (List.mem_filter.mp hv).1)
    have rm1 := cpM_fl (p := fun y => decide (ofT w y)) (M := S.1) (IOK.sz wf.iok)
    generalize hrm : cpM (S.1.filter (fun y => decide (ofT w y))) = rm at *
    rw [l18', w32_id (by unfold rI; omega)] at e15
    have t15 : gI σ15 72 0 = ((nds S.1).length : Int) := by rw [e15, gI_sIo (by decide), fr.i _ _ (by unfold mIs; omega)]; exact th18
    rw [t15, w32_id (by unfold rI; omega)] at e16
    have k17 : RK σ17 := by rw [e17, e16, e15]; exact ((kr.sI (f := 71) (by show rI _; unfold rI; omega)).sI (f := 72) (by show rI _; unfold rI; omega)).sI (f := 641) (by show rI _; unfold rI; omega)
    have f17 : Fr (fun f o' => ((640 ≤ f ∧ f < 704) ∧ o' = 1) ∨ mIs 0 f o' ∨ ((f = 71 ∨ f = 72) ∧ o' = 0)) σ18 σ17 := by
      rw [e17, e16, e15]
      exact (((fr.mono (fun f o' q => Or.inr (Or.inl q))).sI (Or.inr (Or.inr ⟨Or.inl rfl, rfl⟩))).sI (Or.inr (Or.inr ⟨Or.inr rfl, rfl⟩))).sI (Or.inl (by omega))
    have v17 : gI σ17 641 1 = 0 ∧ ∀ g, g ≠ 641 → 640 ≤ g → g ≤ 645 → gI σ17 g 1 = gI σ18 g 1 := by
      rw [e17, e16, e15]
      refine ⟨by rw [gI_sI1], fun g g1 g2 g3 => ?_⟩
      rw [gI_sIo g1, gI_sIo (by omega), gI_sIo (by omega), fr.i _ _ (by unfold mIs; omega)]
    have lv17 : gI σ17 71 0 = cpM S.1 - 240 - rm := by rw [e17, gI_sIo (by decide), e16, gI_sIo (by decide), e15, gI_sI1]
    have th17 : gI σ17 72 0 = ((nds S.1).length : Int) - 1 := by rw [e17, gI_sIo (by decide), e16, gI_sI1]
    clear e17 e16 e15
    have g17 := g18.fr f17 ⟨by unfold mIs; omega, by unfold mIs; omega⟩
    refine sp_gIno (l := 0) (a := w) (kd := 0) (lk := w32 (rI4 z.2.2.2 32 - 1)) (sz := rI4 z.2.2.2 36) (en := rI4 z.2.2.2 40) (at' := rI4 z.2.2.2 44) k17 g17 (by omega) (ok4.s (by omega)) ((v17.2 640 (by decide) (by decide) (by decide)).trans v18.1) v17.1 ((v17.2 642 (by decide) (by decide) (by decide)).trans l18) ((v17.2 643 (by decide) (by decide) (by decide)).trans v18.2.2.1) ((v17.2 644 (by decide) (by decide) (by decide)).trans v18.2.2.2.1) ((v17.2 645 (by decide) (by decide) (by decide)).trans v18.2.2.2.2) (by omega) (fun τ5 P2 p2 g5 f5 k5 _ _ _ => ?_)
    have g5 := g5.1 rfl
    have sI5 : sIn (mdel (ak x0) S.1, S.2) w 0 P2 = (mforget w (mdel (ak x0) S.1), S.2) := by
      unfold sIn; rw [if_pos rfl]
      show (_, max S.2 (w + 1)) = _
      rw [show max S.2 (w + 1) = S.2 by omega]
    rw [sI5] at g5
    have ok5 : okC (mforget w (mdel (ak x0) S.1), S.2) 2 := ok4.forget
    refine K8 τ5 _ g5 (ok5.s (by omega)) ((fA.tr (f17.mono (fun f o' q => ?_))).tr (f5.mono (fun f o' q => Or.inr (Or.inl q)))) k5 (by rw [f5.i _ _ (by unfold mRow; omega)]; exact (v17.2 642 (by decide) (by decide) (by decide)).trans l18) (by rw [f5.i _ _ (by unfold mRow; omega)]; exact (v17.2 640 (by decide) (by decide) (by decide)).trans v18.1) (fun P4 p4 => ?_)
    · rcases q with q | q | q
      · exact Or.inl q
      · exact Or.inr (Or.inr (Or.inl q))
      · exact Or.inr (Or.inr (Or.inr q))
    · obtain ⟨L1, L2, L3⟩ := go_law (cf := cf) (M := S.1) (nx := S.2) wf hy y1 yk hz z1 w1 hx0 x1 x2 hE c3 c1 p4 rfl
      refine ⟨L1, ?_, ?_, fun v => absurd g v, fun _ => L3⟩
      · rw [f5.i _ _ (by unfold mRow; omega), L2, hrm]; exact lv17.symm
      · have c := (nd_fl wr.1.2 row).length_eq
        rw [List.length_cons] at c
        rw [f5.i _ _ (by unfold mRow; omega), L3.1.length_eq, show gI σ17 72 0 = ((nds S.1).length : Int) - 1 from th17]
        omega
  have keep : ¬ gnP σ w kd E0 → wp_House_loses_b40 cf tv 1 0 (fun r_19 σ_20 => rZ r_19 → RK σ_20 → wp_House_addInode cf tv 0 1 (fun σ_22 => RK σ_22 → wp_House_hand cf tv (fun σ_24 => RK σ_24 → Q σ_24) σ_22) σ_20) (wp_House_loses_b41 cf tv 1 0 (fun r_19 σ_20 => rZ r_19 → RK σ_20 → wp_House_addInode cf tv 0 1 (fun σ_22 => RK σ_22 → wp_House_hand cf tv (fun σ_24 => RK σ_24 → Q σ_24) σ_22) σ_20)) σ18 := by
    intro g
    have kn1 : kd ≠ 1 := fun v => g (Or.inl v)
    have kd2 : kd = 2 := Classical.byContradiction (fun v => by
      have c := one3 v
      exact v (hop (Classical.byContradiction (fun o => g (Or.inr ⟨c, o⟩)))))
    have le := lr kn1
    have cw := cn3_le (a := w) (R := E0)
    have wl : w32 (rI4 z.2.2.2 32 - 1) = rI4 z.2.2.2 32 - 1 := w32_id (by unfold rI; omega)
    have nu : NU σ (nds S.1) E0 := fun n hn q2 q3 => by
      by_cases v : n.1 = w
      · rw [v] at q3 ⊢
        exact Classical.byContradiction (fun o => g (Or.inr ⟨q3, o⟩))
      · exact hNU n hn q2 (by rw [perm_cn3 hE, cn3_o (fun t => v t.symm)]; exact q3)
    unfold wp_House_loses_b40 wp_House_loses_b41 wp_House_loses_b78
    refine ⟨fun _ => ?_, fun v => absurd rfl v⟩
    refine sp_gIno (l := 0) (a := w) (kd := 2) (lk := rI4 z.2.2.2 32 - 1) (sz := rI4 z.2.2.2 36) (en := rI4 z.2.2.2 40) (at' := rI4 z.2.2.2 44) k18 g18 (by omega) (ok4.s (by omega)) v18.1 (v18.2.1.trans kd2) (l18.trans wl) v18.2.2.1 v18.2.2.2.1 v18.2.2.2.2 (by omega) (fun τ5 P2 p2 g5 f5 k5 _ _ _ => ?_)
    have g5 := g5.1 rfl
    have sI5 : sIn (mdel (ak x0) S.1, S.2) w 2 P2 = (mput (4 * w, 0, 48, P2) (mdel (ak x0) S.1), S.2) := by
      unfold sIn; rw [if_neg (by decide)]
      show (_, max S.2 (w + 1)) = _
      rw [show max S.2 (w + 1) = S.2 by omega]
    rw [sI5] at g5
    have ok5 : okC (mput (4 * w, 0, 48, P2) (mdel (ak x0) S.1), S.2) 2 := ok4.put (fun _ => rfl)
    refine K8 τ5 _ g5 (ok5.s (by omega)) (fA.tr (f5.mono (fun f o' q => Or.inr (Or.inl q)))) k5 (by rw [f5.i _ _ (by unfold mRow; omega)]; exact l18) (by rw [f5.i _ _ (by unfold mRow; omega)]; exact v18.1) (fun P4 p4 => ?_)
    obtain ⟨L1, L2, L3⟩ := un_law (cf := cf) (M := S.1) (nx := S.2) wf hy y1 yk hz z1 (zk.trans kd2) hx0 x1 x2 hE p2 p4 (nlc_hd wr.1.2 nu) rfl
    refine ⟨L1, ?_, ?_, fun _ => ⟨L3, nu⟩, fun v => absurd v g⟩
    · rw [f5.i _ _ (by unfold mRow; omega), L2]; exact l18'.symm
    · rw [f5.i _ _ (by unfold mRow; omega), L3.1.length_eq]; exact th18.symm
  refine ⟨fun q => gone (Or.inl (by rw [← v18.2.1]; exact q)), fun q => ⟨fun q2 => keep (fun g => ?_), fun q2 => ?_⟩⟩
  · rcases g with g | g
    · exact q (by rw [v18.2.1]; exact g)
    · have := lr (fun v => q (by rw [v18.2.1]; exact v))
      rw [l18, this, w32_id (by unfold rI; omega)] at q2
      omega
  · have kn : kd ≠ 1 := fun v => q (by rw [v18.2.1]; exact v)
    have := lr kn
    rw [l18, this, w32_id (by unfold rI; omega)] at q2
    rw [v18.1]
    refine sp_HisOpen (fun o _ _ => ⟨fun _ => keep (fun g => ?_), fun v => absurd v (by decide)⟩) (fun o _ _ => ⟨fun v => absurd rfl v, fun _ => gone (Or.inr ⟨by omega, fun v => o ((op4 σ18 h70).mpr v)⟩)⟩)
    rcases g with g | g
    · exact kn g
    · exact g.2 ((op4 σ18 h70).mp o)
