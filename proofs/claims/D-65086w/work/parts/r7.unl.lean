/-! an entry less: the tree after it -/
theorem cpM_split {p : Int × Int × Int × (Int → Int) → Bool} : ∀ {M : List (Int × Int × Int × (Int → Int))}, cpM M = cpM (M.filter p) + cpM (M.filter (fun y => !p y))
  | [] => rfl
  | x :: M => by
    have ih := cpM_split (p := p) (M := M)
    rw [List.filter_cons, List.filter_cons, cpM_cons, ih]
    by_cases q : p x = true
    · rw [if_pos q, if_neg (by rw [q]; decide), cpM_cons]; omega
    · have q' : p x = false := Bool.eq_false_iff.mpr q
      rw [if_neg q, if_pos (by rw [q']; decide), cpM_cons]; omega
/-- what belongs to a thing -/
abbrev ofT (w : Int) (y : Int × Int × Int × (Int → Int)) : Prop := y.1 / 4 = w ∧ y.1 % 4 ≠ 2
theorem fgt_fl {M : List (Int × Int × Int × (Int → Int))} {nx w : Int} (ho : IOK M nx) : mforget w M = M.filter (fun y => !decide (ofT w y)) := by
  unfold mforget mdel mcut
  rw [List.filter_filter, List.filter_filter]
  refine List.filter_congr (fun y hy => ?_)
  have key : (ak y ≠ kap (4 * w) 0 ∧ ¬ (y.1 = 4 * w + 3 ∧ kap (4 * w + 3) 0 ≤ ak y) ∧ ¬ (y.1 = 4 * w + 1 ∧ kap (4 * w + 1) 0 ≤ ak y)) ↔ ¬ ofT w y := by
    refine ⟨fun ⟨a, b, c⟩ ⟨e, f⟩ => ?_, fun n => ⟨fun q => ?_, fun q => n ⟨by omega, by omega⟩, fun q => n ⟨by omega, by omega⟩⟩⟩
    · have : y.1 % 4 = 0 ∨ y.1 % 4 = 1 ∨ y.1 % 4 = 3 := by omega
      rcases this with q | q | q
      · exact a (by show kap y.1 y.2.1 = _; rw [((ho y hy).1 q).1, show y.1 = 4 * w by omega])
      · exact c ⟨by omega, by show _ ≤ kap y.1 y.2.1; unfold kap; rw [show y.1 = 4 * w + 1 by omega]; omega⟩
      · exact b ⟨by omega, by show _ ≤ kap y.1 y.2.1; unfold kap; rw [show y.1 = 4 * w + 3 by omega]; omega⟩
    · have := (kap_in2 q).1
      exact n ⟨by omega, by omega⟩
  rw [Bool.eq_iff_iff]
  simp only [Bool.and_eq_true, decide_eq_true_iff, Bool.not_eq_true', decide_eq_false_iff_not]
  exact ⟨fun h => key.mp ⟨h.1.1, h.1.2, h.2⟩, fun h => ⟨⟨(key.mpr h).1, (key.mpr h).2.1⟩, (key.mpr h).2.2⟩⟩
theorem un_law {cf : Cf} {M : List (Int × Int × Int × (Int → Int))} {nx d w x : Int} {y z x0 : Int × Int × Int × (Int → Int)} {E0 : List (Int × Int × Int)} {P2 P4 : Int → Int} (W : WF cf (M, nx)) (hy : y ∈ M) (y1 : y.1 = 4 * d) (yk : rI4 y.2.2.2 28 = 1) (hz : z ∈ M) (z1 : z.1 = 4 * w) (zk : rI4 z.2.2.2 28 = 2) (hx : x0 ∈ M) (x1 : x0.1 = 4 * d + 2) (x2 : erow x0 = (d, x, w)) (hE : (ens M).Perm ((d, x, w) :: E0)) (p2 : inF P2 w 2 (rI4 z.2.2.2 32 - 1) (rI4 z.2.2.2 36) (rI4 z.2.2.2 40) (rI4 z.2.2.2 44)) (p4 : dirI y P4 d (-1)) (hnl : nlc (nds M) E0 ≤ 8) {M4 : List (Int × Int × Int × (Int → Int))} (e4 : M4 = mput (4 * d, 0, 48, P4) (mput (4 * w, 0, 48, P2) (mdel (ak x0) M))) :
    WF cf (M4, nx) ∧ cpM M4 = cpM M - 240 ∧ RWS M4 (nds M) E0 (ats M) (pcs M) := by
  have wr : WR (nds M) (ens M) (ats M) (pcs M) nx (fun _ => False) := W.wr
  have s0 : Srm M := W.1.1
  have o0 : IOK M nx := W.iok
  obtain ⟨d1, dn1, dn2, dk, ds, ⟨dc1, dc2, dc3⟩, ⟨dcy, -, dca⟩, dak⟩ := nd_put W hy y1
  obtain ⟨n1, nn1, nn2, nk, ns, ⟨nc1, nc2, nc3⟩, ⟨-, ncl, nca⟩, nak⟩ := nd_put W hz z1
  have dE := dcy yk
  have nE := ncl (by rw [zk]; decide)
  rw [perm_cn1 hE, cn1_i (show ((d, x, w) : Int × Int × Int).1 = d from rfl)] at dE
  rw [perm_cn3 hE, cn3_i (show ((d, x, w) : Int × Int × Int).2.2 = w from rfl)] at nE
  rw [yk, dE.2] at dn2
  rw [zk] at nn2
  have dne : d ≠ w := fun q => by
    have := wr.u dn2 nn2 q
    rw [Prod.mk.injEq, Prod.mk.injEq] at this
    exact absurd this.2.1 (by decide)
  obtain ⟨i2, r2, c2⟩ := it_n p2 (by omega) (by omega) ns nc2 nc3
  obtain ⟨i4, r4, c4⟩ := it_n p4 (by omega) dc1 (by omega) (by omega) dc3
  have R0 := (RWS.rf M).pm (List.Perm.refl _) hE (List.Perm.refl _) (List.Perm.refl _)
  rw [← x2] at R0
  have R1 := R0.d2 s0 hx (by omega)
  have s1 : Srm (mdel (ak x0) M) := mdel_srm s0
  have o1 : IOK (mdel (ak x0) M) nx := by unfold mdel; exact o0.fl
  have nx0 : ∀ v, v ∈ M → v.1 % 4 = 0 → v ∈ mdel (ak x0) M := fun v hv v4 => mdel_mem.mpr ⟨hv, fun q => by
    have := (kap_in2 q).1
    omega⟩
  have y1' := nx0 y hy (by omega)
  have z1' := nx0 z hz (by omega)
  have m1 : ∀ v, v ∈ mdel (ak x0) M → v ∈ M := fun v hv => (mdel_mem.mp hv).1
  generalize mdel (ak x0) M = M1 at *
  have R2 := R1.same0 s1 z1' (nak P2 48) (show 4 * w % 4 = 0 by omega) (by omega) (by rw [r2, nn1, zk])
  have s2 : Srm (mput (4 * w, 0, 48, P2) M1) := mput_srm s1
  have o2 : IOK (mput (4 * w, 0, 48, P2) M1) nx := o1.put i2 (by show 1 ≤ 4 * w / 4 ∧ 4 * w / 4 < nx; omega)
  have y2' : y ∈ mput (4 * w, 0, 48, P2) M1 := mput_mem.mpr (Or.inr ⟨y1', fun q => by
    have := (ak_x q).1
    have : y.1 = 4 * w := this
    omega⟩)
  have m2 : ∀ v, v ∈ mput (4 * w, 0, 48, P2) M1 → v.1 % 4 = 0 → v = (4 * w, 0, 48, P2) ∨ (v ∈ M ∧ v.1 / 4 ≠ w) := fun v hv v4 => by
    rcases mput_mem.mp hv with q | ⟨q, q'⟩
    · exact Or.inl q
    · exact Or.inr ⟨m1 v q, o1.ne q v4 q'⟩
  generalize mput (4 * w, 0, 48, P2) M1 = M2 at *
  have R4 := R2.same0 s2 y2' (dak P4 48) (show 4 * d % 4 = 0 by omega) (by omega) (by rw [r4, dn1, yk, dE.2])
  rw [← e4] at R4
  have WE := (wr.p (List.Perm.refl _) hE (List.Perm.refl _) (List.Perm.refl _)).delE
  have zz : cpM M = szR (nds M) (ens M) (ats M) (pcs M) := W.szr
  have cp : cpM M ≤ capa cf := W.2.2.2.2.2.2.2.2.2.2.1
  have szE : szR (nds M) E0 (ats M) (pcs M) = cpM M - 240 := by
    rw [zz]; unfold szR; rw [hE.length_eq, List.length_cons]; omega
  obtain ⟨F1, F2⟩ := WF.mk (cf := cf) (S := (M4, nx)) WE R4 (fun v v1 v2 _ q => q.elim id (fun u => by
    have := wr.u v1 nn2 u
    rw [this] at v2
    exact v2 rfl)) (by show Srm M4; rw [e4]; exact mput_srm s2) (by show IOK M4 nx; rw [e4]; exact o2.put i4 (by show 1 ≤ 4 * d / 4 ∧ 4 * d / 4 < nx; omega)) (fun v hv v4 => by
    have hv : v ∈ M4 := hv
    rw [e4] at hv
    rcases mput_mem.mp hv with u | ⟨u, u'⟩
    · rw [u]
      exact c4 _ _ (fun _ => by omega) (fun q => absurd rfl q) dca
    · have vd := o2.ne u v4 u'
      rcases m2 v u v4 with q | ⟨q, q'⟩
      · rw [q]
        exact c2 _ _ (fun q => absurd q (by decide)) (fun _ => by omega) nca
      · have c := (W.ct v q v4).p (E' := (d, x, w) :: E0) hE (List.Perm.refl _)
        exact c.ext (cn1_o (fun t => vd t.symm)).symm (cn3_o (fun t => q' t.symm)).symm rfl) (by rw [szE]; omega) hnl
  exact ⟨F1, by rw [← szE]; exact F2, R4⟩
