/-! House.link -/
/-- a file that has a name, or why not -/
noncomputable def fileA (S : List (Int × Int × Int × (Int → Int)) × Int) (n z : Int) : Int := cif (∃ s, (n, 2, s) ∈ nds S.1) (cif (cn3 n (ens S.1) = 0) (-4) z) (cif ((n, 1, 0) ∈ nds S.1) (-7) (cif (∃ s, (n, 3, s) ∈ nds S.1) (-11) (-4)))
theorem fileA_2 {cf : Cf} {S : List (Int × Int × Int × (Int → Int)) × Int} {n s z : Int} (_ : WF cf S) (h : (n, 2, s) ∈ nds S.1) : fileA S n z = cif (cn3 n (ens S.1) = 0) (-4) z := cif_y ⟨s, h⟩
theorem fileA_1 {cf : Cf} {S : List (Int × Int × Int × (Int → Int)) × Int} {n s z : Int} (w : WF cf S) (h : (n, 1, s) ∈ nds S.1) : fileA S n z = -7 := by
  have s0 : s = 0 := (w.wr.1.1 _ h).2 rfl
  rw [s0] at h
  unfold fileA
  rw [cif_n (fun ⟨t, q⟩ => by have := w.n1 h q rfl; rw [Prod.mk.injEq, Prod.mk.injEq] at this; exact absurd this.2.1 (by decide)), cif_y h]
theorem fileA_3 {cf : Cf} {S : List (Int × Int × Int × (Int → Int)) × Int} {n s z : Int} (w : WF cf S) (h : (n, 3, s) ∈ nds S.1) : fileA S n z = -11 := by
  unfold fileA
  rw [cif_n (fun ⟨t, q⟩ => by have := w.n1 h q rfl; rw [Prod.mk.injEq, Prod.mk.injEq] at this; exact absurd this.2.1 (by decide)), cif_n (fun q => by have := w.n1 h q rfl; rw [Prod.mk.injEq, Prod.mk.injEq] at this; exact absurd this.2.1 (by decide)), cif_y ⟨s, h⟩]
theorem fileA_0 {S : List (Int × Int × Int × (Int → Int)) × Int} {n z : Int} (h : ∀ k s, (n, k, s) ∉ nds S.1) : fileA S n z = -4 := by
  unfold fileA
  rw [cif_n (fun ⟨t, q⟩ => h _ _ q), cif_n (h _ _), cif_n (fun ⟨t, q⟩ => h _ _ q)]
noncomputable def lkA (cf : Cf) (S : List (Int × Int × Int × (Int → Int)) × Int) (n d x : Int) : Int := cif (¬ nmV x) (-3) (fileA S n (dirA (nds S.1) d (cif (∃ e, e ∈ ens S.1 ∧ e.1 = d ∧ e.2.1 = x) (-5) (cif (capa cf < cpM S.1 + 240) (-10) (cn3 n (ens S.1) + 1)))))
theorem sp_Hlink {tv : Nat → Int} {cf : Cf} {σ : St} {S S' : List (Int × Int × Int × (Int → Int)) × Int} {W : List (Int × (List (Int × Int × Int × (Int → Int)) × Int))} {r : RT} {B : Int} {n d x : Int} {Q : Int → St → Prop} (hc : CfOK cf) (h : HP tv cf σ S S' W r B) (hC : HC σ S) (hrk : RK σ) (hB : B + 49772 < 1073741000) (hn : rI n) (hd : rI d) (hx : rJ x)
    (h0 : ∀ τ no, lkA cf S n d x = no → no < 0 → HP tv cf τ S S' W r B → Fr mHs σ τ → RK τ → Q no τ)
    (h1 : ∀ τ S2 p0 S0 W0 k, lkA cf S n d x = cn3 n (ens S.1) + 1 → RWS S2.1 (nds S.1) ((d, x, n) :: ens S.1) (ats S.1) (pcs S.1) → S2.2 = S.2 → TKo cf σ 144 S S' W p0 S0 W0 → SFo (p0 + 144) (W0 ++ [(p0 + 144, S2)]) k → HP tv cf τ S2 (laS S0 ((W0 ++ [(p0 + 144, S2)]).take k)) ((W0 ++ [(p0 + 144, S2)]).drop k) r (B + 49772) → HC τ S2 → gI τ 451 0 ≠ -1 → gI τ 452 0 = p0 + 144 → Fr mHo σ τ → RK τ → Q (cn3 n (ens S.1) + 1) τ) : wp_House_link cf tv n d x Q σ := by
  have wf := h.wf
  have wr := wf.wr
  have n1 := h.nx
  have ok := h.okC hc
  have on : gI σ 69 0 = 1 := hC.2.2
  have lv : gI σ 71 0 = cpM S.1 := hC.1
  have cp := wf.2.2.2.2.2.2.2.2.2.2.1
  have cl := capa_le hc
  have c0 := cpM_0 hc wf
  have lim := (wf.x.ft hc).2.2
  unfold wp_House_link
  refine ⟨fun _ => ?_, fun w => by have w : gI σ 69 0 = 0 := w; omega⟩
  refine sp_HisName (fun nm _ _ => ⟨fun _ => ?_, fun w => absurd w (by decide)⟩) (fun nm _ _ => ⟨fun w => absurd rfl w, fun _ => h0 σ (-3) (cif_y nm) (by omega) h (Fr.rf _ _) hrk⟩)
  have A0 : lkA cf S n d x = fileA S n (dirA (nds S.1) d (cif (∃ e, e ∈ ens S.1 ∧ e.1 = d ∧ e.2.1 = x) (-5) (cif (capa cf < cpM S.1 + 240) (-10) (cn3 n (ens S.1) + 1)))) := cif_n (fun q => q nm)
  refine sp_Pread hc h hn (fun τ no H1 f1 k1 _ _ => ⟨fun _ => h0 τ (-4) (by rw [A0]; exact fileA_0 no) (by omega) H1 (f1.mono (fun f o' => Ri_s)) k1, fun w => absurd rfl w⟩) (fun τ z z0 z1 z2 z3 z4 H1 f1 k1 _ _ => ⟨fun w => absurd w (by decide), fun _ => ?_⟩)
  obtain ⟨nr, nn1, nn2, nk, ns, ⟨nc1, nc2, nc3⟩, ⟨-, ncl, nca⟩, nak⟩ := nd_put (M := S.1) (nx := S.2) wf z0 z1
  have g1 : Fr mHs σ τ := f1.mono (fun f o' => Ri_s)
  have kd : gI τ 641 1 = rI4 z.2.2.2 28 := z4.2.1
  have lk : gI τ 642 1 = rI4 z.2.2.2 32 := z4.2.2.1
  have B56 : (rI4 z.2.2.2 28 = 2 → rI4 z.2.2.2 32 ≠ 0) → wp_House_link_b56 cf tv n d x Q τ := by
    intro nz
    unfold wp_House_link_b56
    rw [kd]
    refine ⟨fun zk => ?_, fun zk => ?_⟩
    · rw [zk] at nn2
      have nE := ncl (by rw [zk]; decide)
      have nz := nz zk
      rw [fileA_2 wf nn2, cif_n (by omega)] at A0
      refine sp_Pdir hc H1 hd (fun τ1 y y1 y2 y3 y4 y5' H2 f2 k2 _ _ => ⟨fun _ => ?_, fun w => absurd (Int.le_refl 0) w⟩) (fun τ1 no n0 hz f2 k2 _ _ => ⟨fun w => by omega, fun _ => h0 τ1 no (by rw [A0]; exact hz _) n0 (H1.frH f2 (fun f o' => mRi_h) k2) (g1.tr (f2.mono (fun f o' => Ri_s))) k2⟩)
      rw [dir_y y4] at A0
      obtain ⟨dr, dn1, dn2, dk, ds, ⟨dc1, dc2, dc3⟩, ⟨dcy, -, dca⟩, dak⟩ := nd_put (M := S.1) (nx := S.2) wf y1 y2
      have dE := dcy y3
      have g2 : Fr mHs σ τ1 := g1.tr (f2.mono (fun f o' => Ri_s))
      have z5 : ndI τ1 1 z := z4.fr f2 (fun g a b q => by
        rcases q with q | q
        · exact (mR0_k q).2.1 ⟨a, b⟩
        · omega)
      refine sp_Pent hc H2 hd (fun τ2 fs f1' f2' f3' f4' H3 f3 k3 _ _ => ⟨fun _ => ?_, fun w => absurd (Int.le_refl 0) w⟩) (fun τ2 v t v1 v2 v3 v4 v5 v6 H3 f3 k3 _ _ => ⟨fun w => by omega, fun _ => h0 τ2 (-5) (by rw [A0]; exact cif_y ⟨_, v4, rfl, rfl⟩) (by omega) H3 (g2.tr (f3.mono (fun f o' => Re_s))) k3⟩)
      rw [cif_n (fun ⟨e, e1, e2, e3⟩ => f3' e e1 ⟨e2, e3⟩)] at A0
      have g3 : Fr mHs σ τ2 := g2.tr (f3.mono (fun f o' => Re_s))
      have lv3 : gI τ2 71 0 = cpM S.1 := by rw [g3.i _ _ (fun q => q.2 (by unfold hK; omega))]; exact lv
      have nd2 : ndI τ2 0 y := y5'.fr f3 (fun g a b q => (mRe_k q).2 ⟨a, b⟩)
      have nz2 : ndI τ2 1 z := z5.fr f3 (fun g a b q => (mRe_k q).2 ⟨a, b⟩)
      have hC3 : HC τ2 S := hC.fr g3 (fun g q v => v.2 q)
      rw [lv3, w32_id (x := cpM S.1 + 48) (by unfold rI; omega), w32_id (by unfold rI; omega), cap_e]
      refine ⟨fun hcap σ26 e26 σ27 e27 => ?_, fun hcap => h0 τ2 (-10) (by rw [A0]; exact cif_y (by omega)) (by omega) H3 g3 k3⟩
      rw [cif_n (by omega)] at A0
      have cE := cn3_le (a := n) (R := ens S.1)
      have cD := cn1_le (a := d) (R := ens S.1)
      have q1 : gI τ2 642 1 = rI4 z.2.2.2 32 := nz2.2.2.1
      rw [q1, w32_id (by unfold rI; omega)] at e26
      have q0 : gI σ26 644 0 = rI4 y.2.2.2 40 := by rw [e26]; simp only [gI_sI]; simp; exact nd2.2.2.2.2.1
      rw [q0, w32_id (by unfold rI; omega)] at e27
      have k27 : RK σ27 := by rw [e27, e26]; exact (k3.sI (f := 642) (by show rI _; unfold rI; omega)).sI (f := 644) (by show rI _; unfold rI; omega)
      have f27 : Fr (fun f _ => 640 ≤ f ∧ f < 704) τ2 σ27 := by rw [e27, e26]; exact ((Fr.rf _ _).sI (by omega)).sI (by omega)
      have va : gI σ27 640 1 = n ∧ gI σ27 641 1 = 2 ∧ gI σ27 642 1 = rI4 z.2.2.2 32 + 1 ∧ gI σ27 643 1 = rI4 z.2.2.2 36 ∧ gI σ27 644 1 = rI4 z.2.2.2 40 ∧ gI σ27 645 1 = rI4 z.2.2.2 44 := by
        obtain ⟨b1, b2, b3, b4, b5, b6⟩ := nz2
        rw [e27, e26]; simp only [gI_sI]; simp
        exact ⟨by rw [b1]; omega, by rw [b2]; exact zk, b4, b5, b6⟩
      have vb : gI σ27 640 0 = d ∧ gI σ27 641 0 = 1 ∧ gI σ27 642 0 = rI4 y.2.2.2 32 ∧ gI σ27 643 0 = 0 ∧ gI σ27 644 0 = rI4 y.2.2.2 40 + 1 ∧ gI σ27 645 0 = rI4 y.2.2.2 44 := by
        obtain ⟨b1, b2, b3, b4, b5, b6⟩ := nd2
        rw [e27, e26]; simp only [gI_sI]; simp
        exact ⟨by rw [b1]; omega, by rw [b2]; exact y3, b3, by rw [b4]; exact dE.2, b6⟩
      have sl : gI σ27 91 0 = fs := by rw [f27.i _ _ (by omega)]; exact f4'
      clear e27 e26
      refine sp_Hbegin (S := S) (fun τ3 g3' f3x k3' _ => ?_)
      have s3 : gI τ3 91 0 = fs := by rw [f3x.i _ _ (by unfold mRow; omega)]; exact sl
      rw [s3]
      refine sp_gEnt k3' g3' (by omega) (ok.s (by omega)) (by omega) (by unfold rI; omega) hx (by unfold rI; omega) (fun τ4 P1 p1 g4 f4 k4 _ => ?_)
      have f34 := f3x.tr f4
      have sE : sEn S d n x fs P1 = (mput (4 * d + 2, hs x + fs, 48, P1) S.1, S.2) := by unfold sEn; rw [if_neg (by omega)]
      rw [sE] at g4
      have ok4 : okC (mput (4 * d + 2, hs x + fs, 48, P1) S.1, S.2) 1 := ok.put (fun q => by have q : (4 * d + 2) % 4 = 0 := q; omega)
      have vi : ∀ g i, 640 ≤ g → g ≤ 645 → gI τ4 g i = gI σ27 g i := fun g i a b => f34.i _ _ (by unfold mRow; omega)
      refine sp_gIno (l := 0) (a := n) (kd := 2) (lk := rI4 z.2.2.2 32 + 1) (sz := rI4 z.2.2.2 36) (en := rI4 z.2.2.2 40) (at' := rI4 z.2.2.2 44) k4 g4 (by omega) (ok4.s (by omega)) (by rw [vi _ _ (by decide) (by decide)]; exact va.1) (by rw [vi _ _ (by decide) (by decide)]; exact va.2.1) (by rw [vi _ _ (by decide) (by decide)]; exact va.2.2.1) (by rw [vi _ _ (by decide) (by decide)]; exact va.2.2.2.1) (by rw [vi _ _ (by decide) (by decide)]; exact va.2.2.2.2.1) (by rw [vi _ _ (by decide) (by decide)]; exact va.2.2.2.2.2) (by omega) (fun τ5 P2 p2 g5 f5 k5 _ => ?_)
      have f35 := f34.tr f5
      have g5 := g5.1 rfl
      have sI5 : sIn (mput (4 * d + 2, hs x + fs, 48, P1) S.1, S.2) n 2 P2 = (mput (4 * n, 0, 48, P2) (mput (4 * d + 2, hs x + fs, 48, P1) S.1), S.2) := by
        unfold sIn; rw [if_neg (by omega)]
        show (_, max S.2 (n + 1)) = _
        rw [show max S.2 (n + 1) = S.2 by omega]
      rw [sI5] at g5
      have ok5 : okC (mput (4 * n, 0, 48, P2) (mput (4 * d + 2, hs x + fs, 48, P1) S.1), S.2) 2 := ok4.put (fun _ => rfl)
      have vj : ∀ g i, 640 ≤ g → g ≤ 645 → gI τ5 g i = gI σ27 g i := fun g i a b => f35.i _ _ (by unfold mRow; omega)
      refine sp_gIno (l := 1) (a := d) (kd := 1) (lk := rI4 y.2.2.2 32) (sz := 0) (en := rI4 y.2.2.2 40 + 1) (at' := rI4 y.2.2.2 44) k5 g5 (by omega) (ok5.s (by omega)) (by rw [vj _ _ (by decide) (by decide)]; exact vb.1) (by rw [vj _ _ (by decide) (by decide)]; exact vb.2.1) (by rw [vj _ _ (by decide) (by decide)]; exact vb.2.2.1) (by rw [vj _ _ (by decide) (by decide)]; exact vb.2.2.2.1) (by rw [vj _ _ (by decide) (by decide)]; exact vb.2.2.2.2.1) (by rw [vj _ _ (by decide) (by decide)]; exact vb.2.2.2.2.2) (by omega) (fun τ7 P4 p4 g7 f7 k7 _ => ?_)
      have g7 := g7.2 (by decide)
      generalize hM4 : mput (4 * d, 0, 48, P4) (mput (4 * n, 0, 48, P2) (mput (4 * d + 2, hs x + fs, 48, P1) S.1)) = M4
      have sI7 : sIn (mput (4 * n, 0, 48, P2) (mput (4 * d + 2, hs x + fs, 48, P1) S.1), S.2) d 1 P4 = (M4, S.2) := by
        unfold sIn; rw [if_neg (by decide)]
        show (mput (4 * d, 0, 48, P4) (mput (4 * n, 0, 48, P2) (mput (4 * d + 2, hs x + fs, 48, P1) S.1)), max S.2 (d + 1)) = _
        rw [hM4, show max S.2 (d + 1) = S.2 by omega]
      rw [sI7] at g7
      obtain ⟨L1, L2, L3⟩ := lk_law (cf := cf) (M := S.1) (nx := S.2) hc wf y1 y2 y3 z0 z1 zk nm (fun e e1 q => f3' e e1 q) f1' f2' p1 p2 p4 (by omega) hM4.symm
      have fT : Fr (fun f o' => (640 ≤ f ∧ f < 704) ∨ mRow 6 f o') τ2 τ7 := (f27.mono (fun f o' q => Or.inl q)).tr ((f35.tr f7).mono (fun f o' q => Or.inr q))
      have fTs : Fr mHs τ2 τ7 := fT.mono (fun f o' q => by
        rcases q with q | q
        · exact In_s q
        · exact R6_s q)
      refine sp_handS (e := 144) hc (H3.frH fTs (fun f o' q => q.1) k7) hB g7 (by omega) L1 (by show S.2 < 1073740000; omega) (fun τ8 p0 S0 W0 k tk sf H8 nn pl f8 k8 _ => ?_)
      intro σ38 e38
      have f8s : Fr stS τ7 τ8 := f8.mono (fun f o' => st_Hh)
      have hC7 : HC τ8 S := (hC3.fr fTs (fun g q v => v.2 q)).fr f8s (fun g q v => st_k v q)
      have l8 : gI τ8 71 0 = cpM S.1 := hC7.1
      rw [l8, w32_id (by unfold rI; omega)] at e38
      have n8 : gI τ8 642 1 = rI4 z.2.2.2 32 + 1 := by rw [f8s.i _ _ (by unfold stS; omega), f7.i _ _ (by unfold mRow; omega), vj _ _ (by decide) (by decide)]; exact va.2.2.1
      have f38 : Fr (fun f o' => (f = 71 ∨ f = 72) ∧ o' = 0) τ8 σ38 := by rw [e38]; exact (Fr.rf _ _).sI (by omega)
      have k38 : RK σ38 := by rw [e38]; exact k8.sI (f := 71) (by show rI _; unfold rI; omega)
      have n9 : gI σ38 642 1 = cn3 n (ens S.1) + 1 := by rw [f38.i _ _ (by omega), n8, nE]
      rw [n9]
      refine h1 σ38 (M4, S.2) p0 S0 W0 k A0 L3 rfl (tk.fr (g3.tr fTs) ⟨fun q => (mHs_W q).1 rfl, fun q => (mHs_W q).2 rfl⟩) sf (H8.frH f38 (fun f o' q => by unfold mHR; omega) k38) ⟨?_, ?_, ?_⟩ ?_ ?_ (((g3.tr fTs).mono (fun f o' => Or.inl)).tr ((f8s.mono (fun f o' q => Or.inr (Or.inl q))).tr (f38.mono (fun f o' q => Or.inr (Or.inr q))))) k38
      · show gI σ38 71 0 = cpM M4
        rw [e38, gI_sI1, L2]
      · show gI σ38 72 0 = ((nds M4).length : Int)
        rw [e38, gI_sIo (by decide), L3.1.length_eq]; exact hC7.2.1
      · rw [e38, gI_sIo (by decide)]; exact hC7.2.2
      · rw [f38.i _ _ (by omega)]; exact nn
      · rw [f38.i _ _ (by omega)]; exact pl
    · by_cases q : rI4 z.2.2.2 28 = 1
      · rw [if_pos q]
        rw [q] at nn2
        exact h0 τ (-7) (by rw [A0]; exact fileA_1 wf nn2) (by omega) H1 g1 k1
      · rw [if_neg q]
        rw [show rI4 z.2.2.2 28 = 3 by omega] at nn2
        exact h0 τ (-11) (by rw [A0]; exact fileA_3 wf nn2) (by omega) H1 g1 k1
  rw [kd, lk]
  refine ⟨fun q => B56 (fun w => absurd w q), fun q => ⟨fun q2 => B56 (fun _ => q2), fun q2 => ?_⟩⟩
  rw [q] at nn2
  have nE := ncl (by rw [q]; decide)
  exact h0 τ (-4) (by rw [A0, fileA_2 wf nn2]; exact cif_y (by omega)) (by omega) H1 g1 k1
