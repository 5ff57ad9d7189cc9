/-! House.resize -/
def rsOk (H : Int → Int) (h s : Int) : Prop := ((0 ≤ h ∧ h < 8) ∧ H h ≠ 0) ∧ (0 ≤ s ∧ s ≤ 16384)
/-- whether a piece is made shorter -/
def rsC (S : List (Int × Int × Int × (Int → Int)) × Int) (w s : Int) : Prop := ∃ l b, (w, s / 64, l, b) ∈ pcs S.1 ∧ 0 < s % 64 ∧ s % 64 < l
noncomputable def rsE (S : List (Int × Int × Int × (Int → Int)) × Int) (w s s0 : Int) : Int := cif (s0 < s) 48 (88 + cif (rsC S w s) (32 + (s % 64 + 7) / 8 * 8) 0)
theorem kpP_mem {P : List (Int × Int × Int × (Int → Int))} {w c : Int} {p : Int × Int × Int × (Int → Int)} : p ∈ P.filter (fun p => decide (kpP w c p)) ↔ p ∈ P ∧ kpP w c p := fl_mem (p := fun p => kpP w c p)
theorem sp_Hresize {tv : Nat → Int} {cf : Cf} {σ : St} {S S' : List (Int × Int × Int × (Int → Int)) × Int} {W : List (Int × (List (Int × Int × Int × (Int → Int)) × Int))} {r : RT} {B : Int} {h s : Int} {Q : Int → St → Prop} (hc : CfOK cf) (hp : HP tv cf σ S S' W r B) (hC : HC σ S) (hrk : RK σ) (hB : B + 49772 < 1073741000) (hh : HH (gA σ 70 0) (nds S.1))
    (h0 : ¬ rsOk (gA σ 70 0) h s → Q (-3) σ)
    (hz : ∀ τ w, rsOk (gA σ 70 0) h s → gA σ 70 0 h = w → (w, 2, s) ∈ nds S.1 → HP tv cf τ S S' W r B → Fr mHs σ τ → RK τ → Q s τ)
    (h1 : ∀ τ w s0 N0 P2 S2 p0 S0 W0 k, rsOk (gA σ 70 0) h s → gA σ 70 0 h = w → (nds S.1).Perm ((w, 2, s0) :: N0) → s0 ≠ s → cutR w s s0 (pcs S.1) P2 → RWS S2.1 ((w, 2, s) :: N0) (ens S.1) (ats S.1) P2 → S2.2 = S.2 → TKo cf σ (rsE S w s s0) S S' W p0 S0 W0 → SFo (p0 + rsE S w s s0) (W0 ++ [(p0 + rsE S w s s0, S2)]) k → HP tv cf τ S2 (laS S0 ((W0 ++ [(p0 + rsE S w s s0, S2)]).take k)) ((W0 ++ [(p0 + rsE S w s s0, S2)]).drop k) r (B + 49772) → HC τ S2 → gI τ 451 0 ≠ -1 → gI τ 452 0 = p0 + rsE S w s s0 → Fr mHo σ τ → RK τ → Q s0 τ) : wp_House_resize cf tv h s Q σ := by
  have wf := hp.wf
  have wr := wf.wr
  have n1 := hp.nx
  have ok := hp.okC hc
  have cp := wf.2.2.2.2.2.2.2.2.2.2.1
  have cl := capa_le hc
  have on : gI σ 69 0 = 1 := hC.2.2
  unfold wp_House_resize
  refine ⟨fun _ => ?_, fun w => by have w : gI σ 69 0 = 0 := w; omega⟩
  refine sp_HisHandle hrk (fun hd _ _ => ⟨fun w => absurd w (by decide), fun _ => ?_⟩) (fun hd _ _ => ⟨fun _ => h0 (fun q => hd ⟨q.1.1, (hh.pos wf q.1.1 q.1.2).1⟩), fun w => absurd rfl w⟩)
  refine sp_isIn (fun hs _ _ => ⟨fun _ => ⟨hd.1, fun y3 e3 => ?_⟩, fun w => absurd w (by decide)⟩) (fun hs _ _ => ⟨fun w => absurd rfl w, fun _ => h0 (fun q => hs q.2)⟩)
  have okr : rsOk (gA σ 70 0) h s := ⟨⟨hd.1, by omega⟩, hs⟩
  obtain ⟨hw, sR, row⟩ := hh.pos wf hd.1 (by omega)
  have row : (gA σ 70 0 h, 2, sR) ∈ nds S.1 := row
  have ry : rI (gA σ 70 0 h) := hrk.2 70 0 h
  have e3 : y3 = gA σ 70 0 h := e3
  rw [e3]
  generalize hgw : gA σ 70 0 h = w at *
  refine sp_Pread hc hp ry (fun τ no => absurd row (no _ _)) (fun τ z z1 z2 z3 z4 z5 H f k _ _ => ?_)
  have z4' := z4
  rw [z3] at z4'
  have u := wr.u row z4' rfl
  rw [Prod.mk.injEq, Prod.mk.injEq] at u
  have zk : rI4 z.2.2.2 28 = 2 := u.2.1.symm
  obtain ⟨nr, nn1, nn2, nk, ns, ⟨nc1, nc2, nc3⟩, ⟨-, ncl, nca⟩, nak⟩ := nd_put (M := S.1) (nx := S.2) wf z1 z2
  obtain ⟨i1, i2, i3, i4, i5, i6⟩ := z5
  have g0 : Fr mHs σ τ := f.mono (fun f o' => Ri_s)
  intro y4 e4
  rw [show gI τ 643 0 = rI4 z.2.2.2 36 from i4] at e4
  rw [zk] at nn2
  generalize hs0 : rI4 z.2.2.2 36 = s0 at *
  refine ⟨fun ne => ?_, fun eq => by rw [← eq]; rw [← e4, ← eq] at nn2; exact hz τ w okr rfl nn2 H g0 k⟩
  have ne' : s0 ≠ s := fun q => ne (by rw [e4, q])
  have hN : (nds S.1).Perm ((w, 2, s0) :: (nds S.1).filter (fun n => decide (n.1 ≠ w))) := nd_fl wr.1.2 nn2
  refine H.room hc ry (fun τ1 fr1 k1 _ _ => ?_)
  generalize hrm : cpM (S.1.filter (fun y => decide (ofT w y))) = rm at *
  have rm0 : 0 ≤ rm := by rw [← hrm]; exact cpM_nn (fun v hv => IOK.sz wf.iok v (List.mem_filter.mp hv).1)
  have rm1 : rm ≤ cpM S.1 := by rw [← hrm]; exact cpM_fl (p := fun y => decide (ofT w y)) (IOK.sz wf.iok)
  have H1 : HP tv cf τ1 S S' W r B := H.frH fr1 (fun f o' q => (Is_s q).1) k1
  have g1 : Fr mHs σ τ1 := g0.tr (fr1.mono (fun f o' => Is_s))
  intro σ62 e62
  have f62 : Fr (fun f o' => 640 ≤ f ∧ f < 704) τ1 σ62 := by rw [e62]; exact (Fr.rf _ _).sI (by omega)
  have k62 : RK σ62 := by rw [e62]; exact k1.sI (f := 643) (by show rI s; unfold rI; omega)
  have vi1 : ∀ g, 640 ≤ g → g ≤ 645 → gI τ1 g 0 = gI τ g 0 := fun g a b => fr1.i _ _ (by unfold mIs; omega)
  have v62 : gI σ62 640 0 = w ∧ gI σ62 641 0 = 2 ∧ gI σ62 642 0 = rI4 z.2.2.2 32 ∧ gI σ62 643 0 = s ∧ gI σ62 644 0 = rI4 z.2.2.2 40 ∧ gI σ62 645 0 = rI4 z.2.2.2 44 := by
    rw [e62]; simp only [gI_sI]; simp
    rw [vi1 640 (by decide) (by decide), vi1 641 (by decide) (by decide), vi1 642 (by decide) (by decide), vi1 644 (by decide) (by decide), vi1 645 (by decide) (by decide)]
    exact ⟨i1.trans (by omega), i2.trans zk, i3, i5, i6⟩
  clear e62
  refine sp_Hbegin (S := S) (fun τ3 g3 f3 k3 _ => ?_)
  have vi : ∀ g, 640 ≤ g → g ≤ 645 → gI τ3 g 0 = gI σ62 g 0 := fun g a b => f3.i _ _ (by unfold mRow; omega)
  refine sp_gIno (l := if s ≤ y4 then (0 : Int) else (1 : Int)) (a := w) (kd := 2) (lk := rI4 z.2.2.2 32) (sz := s) (en := rI4 z.2.2.2 40) (at' := rI4 z.2.2.2 44) k3 g3 (by omega) (ok.s (by omega)) (by rw [vi _ (by decide) (by decide)]; exact v62.1) (by rw [vi _ (by decide) (by decide)]; exact v62.2.1) (by rw [vi _ (by decide) (by decide)]; exact v62.2.2.1) (by rw [vi _ (by decide) (by decide)]; exact v62.2.2.2.1) (by rw [vi _ (by decide) (by decide)]; exact v62.2.2.2.2.1) (by rw [vi _ (by decide) (by decide)]; exact v62.2.2.2.2.2) (by omega) (fun τ4 P4 p4 g4 f4 k4 _ => ?_)
  have sI4 : sIn S w 2 P4 = (mput (4 * w, 0, 48, P4) S.1, S.2) := by
    unfold sIn; rw [if_neg (by decide)]
    show (_, max S.2 (w + 1)) = _
    rw [show max S.2 (w + 1) = S.2 by omega]
  rw [sI4] at g4
  obtain ⟨it4, r4, -⟩ := it_n p4 (by omega) nc1 hs nc2 (by omega)
  have s1 : Srm (mput (4 * w, 0, 48, P4) S.1) := mput_srm wf.1.1
  have o1 : IOK (mput (4 * w, 0, 48, P4) S.1) S.2 := wf.iok.put it4 (by show 1 ≤ 4 * w / 4 ∧ 4 * w / 4 < S.2; omega)
  have R1 : RWS (mput (4 * w, 0, 48, P4) S.1) ((w, 2, s) :: (nds S.1).filter (fun n => decide (n.1 ≠ w))) (ens S.1) (ats S.1) (pcs S.1) := by
    have R2 := (RWS.rf S.1).pm hN (List.Perm.refl _) (List.Perm.refl _) (List.Perm.refl _)
    rw [show ((w, 2, s0) : Int × Int × Int) = nrow z by rw [nn1, zk]] at R2
    have R4 := R2.o0 wf.1.1 z1 (nak P4 48) (show 4 * w % 4 = 0 by omega) (by omega)
    rw [r4] at R4; exact R4
  have m1 : ∀ v, v ∈ mput (4 * w, 0, 48, P4) S.1 → v.1 % 4 = 0 → v = (4 * w, 0, 48, P4) ∨ v ∈ S.1 := fun v hv _ => (mput_mem.mp hv).imp id (fun q => q.1)
  have ofw : ∀ t l s' (P : Int → Int), (t = 0 ∨ t = 1) → ofT w (4 * w + t, l, s', P) := fun t l s' P ht => by
    refine ⟨?_, ?_⟩
    · show (4 * w + t) / 4 = w; omega
    · show (4 * w + t) % 4 ≠ 2; omega
  have no1 := no_mput (M := S.1) (x := (4 * w, 0, 48, P4)) (w := w) wf.1.1 (by have := ofw 0 0 48 P4 (Or.inl rfl); rw [Int.add_zero] at this; exact this)
  have ok1 : okC (mput (4 * w, 0, 48, P4) S.1, S.2) 1 := ok.put (fun _ => rfl)
  have g4s : Fr mHs σ τ4 := ((g1.tr (f62.mono (fun f o' => In_s))).tr (f3.mono (fun f o' => R6_s))).tr (f4.mono (fun f o' => R6_s))
  -- the rest
  have fin : ∀ (τ5 : St) (M4 : List (Int × Int × Int × (Int → Int))) (P2 : List (Int × Int × Int × (Int → Int))), GL τ5 S (rsE S w s s0) (M4, S.2) → rsE S w s s0 ≤ 508 → 0 < rsE S w s s0 → cutR w s s0 (pcs S.1) P2 → RWS M4 ((w, 2, s) :: (nds S.1).filter (fun n => decide (n.1 ≠ w))) (ens S.1) (ats S.1) P2 → Srm M4 → IOK M4 S.2 → (∀ v, v ∈ M4 → v.1 % 4 = 0 → v = (4 * w, 0, 48, P4) ∨ v ∈ S.1) → cpM (M4.filter (fun y => !decide (ofT w y))) = cpM (S.1.filter (fun y => !decide (ofT w y))) → Fr mHs σ τ5 → RK τ5 → wp_House_resize_b222 cf tv h s Q w y4 rm τ5 := by
    intro τ5 M4 P2 g5 e508 e0 hcR R4 s4 o4 m4 no4 f5 k5
    have L1 : WF cf (M4, S.2) := rs_fin (cf := cf) (M := S.1) (nx := S.2) (P4 := P4) wf z1 z2 zk (by rw [hs0]; exact hN) (by rw [hs0]; exact hcR) R4 s4 o4 m4 hs p4
    unfold wp_House_resize_b222
    have H5 := hp.frH f5 (fun f o' q => q.1) k5
    refine sp_handS (e := rsE S w s s0) hc H5 hB g5 e508 L1 (by show S.2 < 1073740000; omega) (fun τ8 p0 S0 W0 kk tk sf H8 nn pl f8 k8 _ => ?_)
    have f8s : Fr stS τ5 τ8 := f8.mono (fun f o' => st_Hh)
    have hC8 : HC τ8 S := (hC.fr f5 (fun g q v => v.2 q)).fr f8s (fun g q v => by unfold hK at q; unfold stS at v; omega)
    refine H8.room hc ry (fun τ9 fr9 k9 _ _ => ?_)
    intro σ51 e51
    have sp1 := cpM_split (p := fun y => decide (ofT w y)) (M := S.1)
    have sp2 := cpM_split (p := fun y => decide (ofT w y)) (M := M4)
    have rmn : 0 ≤ cpM (M4.filter (fun y => decide (ofT w y))) := cpM_nn (fun v hv => IOK.sz o4 v (List.mem_filter.mp hv).1)
    have rmx : cpM (M4.filter (fun y => decide (ofT w y))) ≤ cpM M4 := cpM_fl (p := fun y => decide (ofT w y)) (IOK.sz o4)
    have cp4 : cpM M4 ≤ capa cf := L1.2.2.2.2.2.2.2.2.2.2.1
    rw [hrm] at sp1
    rw [show gI τ8 71 0 = cpM S.1 from hC8.1, w32_id (x := cpM (M4.filter (fun y => decide (ofT w y))) - rm) (by unfold rI; omega), w32_id (by unfold rI; omega)] at e51
    have f51 : Fr (fun f o' => (f = 71 ∨ f = 72) ∧ o' = 0) τ9 σ51 := by rw [e51]; exact (Fr.rf _ _).sI (by omega)
    have k51 : RK σ51 := by rw [e51]; exact k9.sI (f := 71) (by show rI _; unfold rI; omega)
    have lv51 : gI σ51 71 0 = cpM M4 := by rw [e51, gI_sI1]; omega
    have th51 : gI σ51 72 0 = gI τ9 72 0 := by rw [e51, gI_sIo (by decide)]
    clear e51
    have ey : y4 = s0 := e4
    rw [ey]
    refine h1 σ51 w s0 _ P2 (M4, S.2) p0 S0 W0 kk okr rfl hN ne' hcR R4 rfl (tk.fr f5 ⟨fun q => (mHs_W q).1 rfl, fun q => (mHs_W q).2 rfl⟩) sf ((H8.frH fr9 (fun f o' q => (Is_s q).1) k9).frH f51 (fun f o' q => by unfold mHR; omega) k51) ⟨lv51, ?_, ?_⟩ ?_ ?_ ((f5.mono (fun f o' => Or.inl)).tr ((f8s.mono (fun f o' q => Or.inr (Or.inl q))).tr ((fr9.mono (fun f o' q => Or.inl (Is_s q))).tr (f51.mono (fun f o' q => Or.inr (Or.inr q)))))) k51
    · show gI σ51 72 0 = ((nds M4).length : Int)
      have a := hN.length_eq
      rw [List.length_cons] at a
      rw [th51, fr9.i _ _ (by unfold mIs; omega), R4.1.length_eq, List.length_cons, ← a]; exact hC8.2.1
    · show gI σ51 69 0 = 1
      rw [f51.i _ _ (by omega), fr9.i _ _ (by unfold mIs; omega)]; exact hC8.2.2
    · rw [f51.i _ _ (by omega), fr9.i _ _ (by unfold mIs; omega)]; exact nn
    · rw [f51.i _ _ (by omega), fr9.i _ _ (by unfold mIs; omega)]; exact pl
  have ey : y4 = s0 := e4
  refine ⟨fun gr => ?_, fun gr => ?_⟩
  · have lt : s0 < s := by omega
    have eE : rsE S w s s0 = 48 := cif_y lt
    rw [if_neg (by omega)] at g4
    have g4 := g4.2 (by decide)
    exact fin τ4 _ (pcs S.1) (by rw [eE]; exact g4) (by omega) (by omega) (Or.inl ⟨by omega, List.Perm.refl _⟩) R1 s1 o1 m1 no1 g4s k4
  · have lt : s < s0 := by omega
    rw [if_pos (by omega)] at g4
    have g4 := g4.1 rfl
    have eE : rsE S w s s0 = 88 + cif (rsC S w s) (32 + (s % 64 + 7) / 8 * 8) 0 := cif_n (by omega)
    have s2 : Srm (mcut (4 * w + 1) ((s + 63) / 64) (mput (4 * w, 0, 48, P4) S.1)) := mcut_srm s1
    have o2 : IOK (mcut (4 * w + 1) ((s + 63) / 64) (mput (4 * w, 0, 48, P4) S.1)) S.2 := by unfold mcut; exact o1.fl
    have R2 := R1.cut (w := w) (c := (s + 63) / 64) o1 (by omega)
    have m2 : ∀ v, v ∈ mcut (4 * w + 1) ((s + 63) / 64) (mput (4 * w, 0, 48, P4) S.1) → v.1 % 4 = 0 → v = (4 * w, 0, 48, P4) ∨ v ∈ S.1 := fun v hv => m1 v (mcut_mem hv)
    have no2 := (no_mcut (M := mput (4 * w, 0, 48, P4) S.1) (w := w) (c := (s + 63) / 64)).trans no1
    have ok2 : okC (mcut (4 * w + 1) ((s + 63) / 64) (mput (4 * w, 0, 48, P4) S.1), S.2) 2 := ok1.cut
    rw [jdv_nn hs.1 (by omega) (by omega), jrm_nn hs.1 (by omega) (by omega)]
    -- a piece that is shorter, or none
    have cut0 : ∀ τ5, ¬ rsC S w s → GR τ5 S 48 (mput (4 * w, 0, 48, P4) S.1, S.2) → Fr mHs σ τ5 → RK τ5 → wp_House_resize_b153 cf tv h s Q (wp_House_resize_b154 cf tv h s Q (wp_House_resize_b222 cf tv h s Q)) w y4 rm τ5 := by
      intro τ5 nC g5 f5 k5
      rw [cif_n nC, Int.add_zero] at eE
      unfold wp_House_resize_b153 wp_House_resize_b154
      refine sp_gSho k5 g5 (by omega) (ok1.s (by omega)) (by omega) hs (fun τ6 g6 f6 k6 => ?_)
      rw [if_pos rfl] at g6
      have g6 := g6.2 (by decide)
      refine ⟨fun _ => fin τ6 _ _ (by rw [eE]; exact g6) (by omega) (by omega) (Or.inr ⟨lt, Or.inr ⟨fun l b hm hx => nC ⟨l, b, (kpP_mem.mp hm).1, hx⟩, List.Perm.refl _⟩⟩) R2 s2 o2 m2 no2 (f5.tr (f6.mono (fun f o' => R6_s))) k6, fun q => absurd rfl q⟩
    have B131 : ∀ τ5 l b P0, pcI S.1 w (s / 64) l b P0 → (0 ≤ l ∧ l ≤ 64) → (0 < s % 64 → ∀ i, 0 ≤ i → i < 64 → gA τ5 77 0 i = b i) → (∀ i, ¬ (0 ≤ i ∧ i < l) → b i = 0) → (s % 64 = 0 → l = 0 ∨ True) → ∀ l', (s % 64 ≠ 0 → l' = l) → (s % 64 = 0 → l' = 0) → GR τ5 S 48 (mput (4 * w, 0, 48, P4) S.1, S.2) → Fr mHs σ τ5 → RK τ5 → wp_House_resize_b131 cf tv h s Q (wp_House_resize_b222 cf tv h s Q) w y4 rm l' τ5 := by
      intro τ5 l b P0 pI hl hb hbz _ l' hl1 hl2 g5 f5 k5
      have pO := pI.o (cf := cf) (M := S.1) (nx := S.2) wf
      unfold wp_House_resize_b131
      rw [jrm_nn hs.1 (by omega) (by omega)]
      have nC : (l' ≤ s % 64 ∨ s % 64 = 0) → ¬ rsC S w s := by
        rintro hq ⟨l2, b2, hm, hx1, hx2⟩
        have : l' = l := hl1 (by omega)
        rcases pO with ⟨a1, a2⟩ | ⟨a1, a2, a3, a4⟩
        · have := WF.p1 (cf := cf) wf hm (a2.mem_iff.mpr List.mem_cons_self) rfl rfl
          rw [Prod.mk.injEq, Prod.mk.injEq, Prod.mk.injEq] at this
          omega
        · exact a4 _ hm ⟨rfl, rfl⟩
      refine ⟨fun q => cut0 τ5 (nC (Or.inl q)) g5 f5 k5, fun q => ⟨fun q2 => cut0 τ5 (nC (Or.inr (by omega))) g5 f5 k5, fun q2 => ?_⟩⟩
      have el : l' = l := hl1 (by omega)
      rw [el] at q
      obtain ⟨y, y1, y2, y3, y4', y5⟩ : ∃ y, y ∈ S.1 ∧ y.1 = 4 * w + 1 ∧ y.2.1 = s / 64 ∧ prow y = (w, s / 64, l, b) ∧ (pcs S.1).Perm ((w, s / 64, l, b) :: P0) := by
        rcases pI with v | ⟨v, -⟩
        · exact v
        · omega
      have cC : rsC S w s := ⟨l, b, y5.mem_iff.mpr List.mem_cons_self, by omega, by omega⟩
      rw [cif_y cC] at eE
      unfold wp_House_resize_b154
      refine sp_gSho k5 g5 (by omega) (ok1.s (by omega)) (by omega) hs (fun τ6 g6 f6 k6 => ?_)
      rw [if_neg (by decide)] at g6
      have g6 := g6.1 rfl
      refine ⟨fun q => absurd q (by decide), fun _ => ?_⟩
      have by6 : ∀ i, 0 ≤ i → i < s % 64 → gA τ6 77 0 i = (fun j => if 0 ≤ j ∧ j < s % 64 then b j else 0) i := fun i i0 i1 => by
        rw [f6.a _ _ (by unfold mRow; omega), hb (by omega) i i0 (by omega)]
        show _ = if 0 ≤ i ∧ i < s % 64 then b i else 0
        rw [if_pos ⟨i0, i1⟩]
      rw [jdv_nn hs.1 (by omega) (by omega), jrm_nn hs.1 (by omega) (by omega)]
      refine sp_gPieL (b := fun j => if 0 ≤ j ∧ j < s % 64 then b j else 0) k6 g6 (by omega) (ok2.s (by omega)) (by omega) (by omega) (by omega) by6 (fun τ7 P3 p3 g7 f7 k7 => ?_)
      obtain ⟨it3, r3⟩ := it_p p3 (by omega) (by omega) (fun i hi => if_neg hi)
      have hk : ak y = ak (4 * w + 1, s / 64, 32 + (s % 64 + 7) / 8 * 8, P3) := by show kap y.1 y.2.1 = kap (4 * w + 1) (s / 64); rw [y2, y3]
      have y1m : y ∈ mcut (4 * w + 1) ((s + 63) / 64) (mput (4 * w, 0, 48, P4) S.1) := by
        unfold mcut
        refine List.mem_filter.mpr ⟨mput_mem.mpr (Or.inr ⟨y1, fun q => ?_⟩), decide_eq_true (fun q => ?_)⟩
        · have := (ak_x q).1
          have : y.1 = 4 * w := this
          omega
        · have q2 := q.2
          unfold ak kap at q2
          rw [y2, y3] at q2
          omega
      have pf : ((pcs S.1).filter (fun p => decide (kpP w ((s + 63) / 64) p))).Perm ((w, s / 64, l, b) :: P0.filter (fun p => decide (kpP w ((s + 63) / 64) p))) := by
        have := y5.filter (fun p => decide (kpP w ((s + 63) / 64) p))
        rw [List.filter_cons, if_pos (decide_eq_true (show kpP w ((s + 63) / 64) (w, s / 64, l, b) from fun q => by
          have q2 : (s + 63) / 64 ≤ s / 64 := q.2
          omega))] at this
        exact this
      have R2' := R2.pm (List.Perm.refl _) (List.Perm.refl _) (List.Perm.refl _) pf
      rw [← y4'] at R2'
      have R3 := R2'.o1 s2 y1m hk (show (4 * w + 1) % 4 = 1 by omega) (by omega)
      rw [r3] at R3
      refine fin τ7 _ _ (by rw [eE]; exact g7) (by omega) (by omega) (Or.inr ⟨lt, Or.inl ⟨l, b, _, pf, by omega, by omega, List.Perm.refl _⟩⟩) R3 (mput_srm s2) (o2.put it3 (by show 1 ≤ (4 * w + 1) / 4 ∧ (4 * w + 1) / 4 < S.2; omega)) (fun v hv v4 => ?_) ((no_mput s2 (ofw 1 _ _ P3 (Or.inr rfl))).trans no2) ((f5.tr (f6.mono (fun f o' => R6_s))).tr (f7.mono (fun f o' => R6_s))) k7
      rcases mput_mem.mp hv with q | q
      · rw [q] at v4; have v4 : (4 * w + 1) % 4 = 0 := v4; omega
      · exact m2 v q.1 v4
    have H4 := hp.frH g4s (fun f o' q => q.1) k4
    refine ⟨fun q => ?_, fun q => ?_⟩
    · refine sp_Ppc hc H4 (by unfold rI; omega) (by unfold rI; omega) (fun τ5 l b P0 pI hl hb hbz H5 f5 k5 _ _ => ?_)
      exact B131 τ5 l b P0 pI hl (fun _ => hb) hbz (fun _ => Or.inr trivial) l (fun _ => rfl) (fun z => absurd z q) (g4.fr f5 ⟨by unfold mRpc mR0 mRd2 mPg mRow mIs; omega, by unfold mRpc mR0 mRd2 mPg mRow mIs; omega⟩) (g4s.tr (f5.mono (fun f o' => Rpc_s))) k5
    · by_cases hx : ∃ y, y ∈ S.1 ∧ y.1 = 4 * w + 1 ∧ y.2.1 = s / 64
      · obtain ⟨y, y1, y2, y3⟩ := hx
        have o := (wf.iok y y1).2.2.2.1 (by omega)
        have mem : prow y ∈ pcs S.1 := List.mem_map.mpr ⟨y, List.mem_filter.mpr ⟨y1, decide_eq_true (by omega)⟩, rfl⟩
        obtain ⟨u, v, uv⟩ := List.append_of_mem mem
        have e : prow y = (w, s / 64, plen y, (prow y).2.2.2) := by
          unfold prow; rw [y3, show y.1 / 4 = w by omega]
        exact B131 τ4 (plen y) (prow y).2.2.2 (u ++ v) (Or.inl ⟨y, y1, y2, y3, e, by rw [← e, uv]; exact List.perm_middle⟩) (by omega) (fun z => by omega) (by have := wf.pz mem; rw [e] at this; exact this) (fun _ => Or.inr trivial) 0 (fun z => absurd q z) (fun _ => rfl) g4 g4s k4
      · exact B131 τ4 0 (fun _ => 0) (pcs S.1) (Or.inr ⟨rfl, rfl, rfl, fun y y1 y2 y3 => hx ⟨y, y1, y2, y3⟩⟩) (by omega) (fun z => by omega) (fun _ _ => rfl) (fun _ => Or.inr trivial) 0 (fun z => absurd q z) (fun _ => rfl) g4 g4s k4
