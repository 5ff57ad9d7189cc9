/-! link: the tree after it -/
/-- a thing's item, with other counters -/
theorem nd_put {cf : Cf} {M : List (Int × Int × Int × (Int → Int))} {nx a : Int} {y : Int × Int × Int × (Int → Int)} (w : WF cf (M, nx)) (hy : y ∈ M) (y1 : y.1 = 4 * a) : (1 ≤ a ∧ a < nx) ∧ nrow y = (a, rI4 y.2.2.2 28, rI4 y.2.2.2 36) ∧ (a, rI4 y.2.2.2 28, rI4 y.2.2.2 36) ∈ nds M ∧ (1 ≤ rI4 y.2.2.2 28 ∧ rI4 y.2.2.2 28 ≤ 3) ∧ (0 ≤ rI4 y.2.2.2 36 ∧ rI4 y.2.2.2 36 ≤ 16384) ∧ (0 ≤ rI4 y.2.2.2 32 ∧ 0 ≤ rI4 y.2.2.2 40 ∧ 0 ≤ rI4 y.2.2.2 44) ∧ ((rI4 y.2.2.2 28 = 1 → rI4 y.2.2.2 40 = cn1 a (ens M) ∧ rI4 y.2.2.2 36 = 0) ∧ (rI4 y.2.2.2 28 ≠ 1 → rI4 y.2.2.2 32 = cn3 a (ens M)) ∧ rI4 y.2.2.2 44 = cn1 a (ats M)) ∧ ∀ P s, ak y = ak (4 * a, 0, s, P) := by
  have o := w.iok y hy
  have n := w.nat hy y1
  have q4 : y.1 % 4 = 0 := by omega
  have qa : y.1 / 4 = a := by omega
  have on := o.1 q4
  have c := w.2.2.2.2.2.2.1 y hy q4
  rw [qa] at c
  refine ⟨by have := o.2.2.2.2; rw [qa] at this; exact this, n.1, by rw [← n.1]; exact n.2, on.2.2.2.1, on.2.2.2.2.2.1, ⟨on.2.2.2.2.1, on.2.2.2.2.2.2.1, on.2.2.2.2.2.2.2⟩, c, fun P s => ?_⟩
  show kap y.1 y.2.1 = kap (4 * a) 0
  rw [y1, on.1]
theorem lk_law {cf : Cf} (hc : CfOK cf) {M : List (Int × Int × Int × (Int → Int))} {nx d n x f : Int} {y z : Int × Int × Int × (Int → Int)} {P1 P2 P4 : Int → Int} (w : WF cf (M, nx)) (hy : y ∈ M) (y1 : y.1 = 4 * d) (yk : rI4 y.2.2.2 28 = 1) (hz : z ∈ M) (z1 : z.1 = 4 * n) (zk : rI4 z.2.2.2 28 = 2) (hnm : nmV x) (he : ∀ e, e ∈ ens M → ¬ (e.1 = d ∧ e.2.1 = x)) (hf : 0 ≤ f ∧ f < 1024) (hk : ∀ z, z ∈ M → z.1 = 4 * d + 2 → z.2.1 ≠ hs x + f) (p1 : enF P1 d n x f) (p2 : inF P2 n 2 (rI4 z.2.2.2 32 + 1) (rI4 z.2.2.2 36) (rI4 z.2.2.2 40) (rI4 z.2.2.2 44)) (p4 : dirI y P4 d 1) (hcap : cpM M + 240 ≤ capa cf) {M4 : List (Int × Int × Int × (Int → Int))} (e4 : M4 = mput (4 * d, 0, 48, P4) (mput (4 * n, 0, 48, P2) (mput (4 * d + 2, hs x + f, 48, P1) M))) :
    WF cf (M4, nx) ∧ cpM M4 = cpM M + 240 ∧ RWS M4 (nds M) ((d, x, n) :: ens M) (ats M) (pcs M) := by
  have wr : WR (nds M) (ens M) (ats M) (pcs M) nx (fun _ => False) := w.wr
  have s0 : Srm M := w.1.1
  have o0 : IOK M nx := w.iok
  obtain ⟨d1, dn1, dn2, dk, ds, ⟨dc1, dc2, dc3⟩, ⟨dcy, -, dca⟩, dak⟩ := nd_put w hy y1
  obtain ⟨n1, nn1, nn2, nk, ns, ⟨nc1, nc2, nc3⟩, ⟨-, ncl, nca⟩, nak⟩ := nd_put w hz z1
  have dE := dcy yk
  have nE := ncl (by rw [zk]; decide)
  rw [yk, dE.2] at dn2
  rw [zk] at nn2
  have dne : d ≠ n := fun q => by
    have := wr.u dn2 nn2 q
    rw [Prod.mk.injEq, Prod.mk.injEq] at this
    exact absurd this.2.1 (by decide)
  obtain ⟨i1, r1⟩ := it_e p1 hnm (by omega) hf
  obtain ⟨i2, r2, c2⟩ := it_n p2 (by omega) (by omega) ns nc2 nc3
  obtain ⟨i4, r4, c4⟩ := it_n p4 (by omega) dc1 (by omega) (by omega) dc3
  have hn1 := new_e (n := 48) (P := P1) o0 hf hk
  have R1 := (RWS.rf M).n2 s0 hn1 (show (4 * d + 2) % 4 = 2 by omega)
  rw [r1] at R1
  have s1 : Srm (mput (4 * d + 2, hs x + f, 48, P1) M) := mput_srm s0
  have o1 : IOK (mput (4 * d + 2, hs x + f, 48, P1) M) nx := o0.put i1 (by show 1 ≤ (4 * d + 2) / 4 ∧ (4 * d + 2) / 4 < nx; omega)
  have m1 : ∀ v, v ∈ mput (4 * d + 2, hs x + f, 48, P1) M → v.1 % 4 = 0 → v ∈ M := fun v hv v4 => by
    rcases mput_mem.mp hv with q | q
    · rw [q] at v4; have v4 : (4 * d + 2) % 4 = 0 := v4; omega
    · exact q.1
  have y1' : y ∈ mput (4 * d + 2, hs x + f, 48, P1) M := mput_mem.mpr (Or.inr ⟨hy, hn1 y hy⟩)
  have z1' : z ∈ mput (4 * d + 2, hs x + f, 48, P1) M := mput_mem.mpr (Or.inr ⟨hz, hn1 z hz⟩)
  generalize mput (4 * d + 2, hs x + f, 48, P1) M = M1 at *
  have R2 := R1.same0 s1 z1' (nak P2 48) (show 4 * n % 4 = 0 by omega) (by omega) (by rw [r2, nn1, zk])
  have s2 : Srm (mput (4 * n, 0, 48, P2) M1) := mput_srm s1
  have o2 : IOK (mput (4 * n, 0, 48, P2) M1) nx := o1.put i2 (by show 1 ≤ 4 * n / 4 ∧ 4 * n / 4 < nx; omega)
  have y2' : y ∈ mput (4 * n, 0, 48, P2) M1 := mput_mem.mpr (Or.inr ⟨y1', fun q => by
    have := (ak_x q).1
    have : y.1 = 4 * n := this
    omega⟩)
  have m2 : ∀ v, v ∈ mput (4 * n, 0, 48, P2) M1 → v.1 % 4 = 0 → v = (4 * n, 0, 48, P2) ∨ (v ∈ M ∧ v.1 / 4 ≠ n) := fun v hv v4 => by
    rcases mput_mem.mp hv with q | ⟨q, q'⟩
    · exact Or.inl q
    · exact Or.inr ⟨m1 v q v4, o1.ne q v4 q'⟩
  generalize mput (4 * n, 0, 48, P2) M1 = M2 at *
  have R4 := R2.same0 s2 y2' (dak P4 48) (show 4 * d % 4 = 0 by omega) (by omega) (by rw [r4, dn1, yk, dE.2])
  rw [← e4] at R4
  have WE := wr.addE (d := d) (x := x) (t := n) dn2 nn2 (fun q => by
    have := wr.u nn2 wr.2.1 q
    rw [Prod.mk.injEq, Prod.mk.injEq] at this
    exact absurd this.2.1 (by decide)) he (fun q => absurd rfl q) (fun q => absurd q (by decide))
  have zz : cpM M = szR (nds M) (ens M) (ats M) (pcs M) := w.szr
  have szE : szR (nds M) ((d, x, n) :: ens M) (ats M) (pcs M) = cpM M + 240 := by
    rw [zz]; unfold szR; rw [List.length_cons]; omega
  obtain ⟨F1, F2⟩ := WF.mk (cf := cf) (S := (M4, nx)) WE R4 (fun _ _ _ _ q => q.1) (by show Srm M4; rw [e4]; exact mput_srm s2) (by show IOK M4 nx; rw [e4]; exact o2.put i4 (by show 1 ≤ 4 * d / 4 ∧ 4 * d / 4 < nx; omega)) (fun v hv v4 => by
    have hv : v ∈ M4 := hv
    rw [e4] at hv
    rcases mput_mem.mp hv with u | ⟨u, u'⟩
    · rw [u]
      refine c4 _ _ (fun _ => ?_) (fun q => absurd rfl q) dca
      rw [cn1_i (show ((d, x, n) : Int × Int × Int).1 = d from rfl), dE.1]; omega
    · have vd := o2.ne u v4 u'
      rcases m2 v u v4 with q | ⟨q, q'⟩
      · rw [q]
        refine c2 _ _ (fun q => absurd q (by decide)) (fun _ => ?_) nca
        rw [cn3_i (show ((d, x, n) : Int × Int × Int).2.2 = n from rfl), nE]; omega
      · exact (w.ct v q v4).ext (cn1_o (fun t => vd t.symm)) (cn3_o (fun t => q' t.symm)) rfl) (by rw [szE]; exact hcap) (by
    have a := nlc_addE (N := nds M) (E := ens M) (e := (d, x, n))
    have b : nlc (nds M) (ens M) ≤ 8 := w.nlr
    omega)
  exact ⟨F1, by rw [← szE]; exact F2, R4⟩
