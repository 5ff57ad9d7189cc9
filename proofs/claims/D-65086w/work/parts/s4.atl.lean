/-! attributes: the tree after a change -/
theorem at_law {cf : Cf} {M M1 : List (Int × Int × Int × (Int → Int))} {nx n : Int} {z : Int × Int × Int × (Int → Int)} {A' : List (Int × Int × Int)} {P4 : Int → Int} (W : WF cf (M, nx)) (hz : z ∈ M) (z1 : z.1 = 4 * n) (R1 : RWS M1 (nds M) (ens M) A' (pcs M)) (s1 : Srm M1) (o1 : IOK M1 nx) (z1' : z ∈ M1) (m1 : ∀ v, v ∈ M1 → v.1 % 4 = 0 → v ∈ M) (hA : ∀ a, a ∈ A' → inN (nds M) a.1) (hc : ∀ a, a ≠ n → cn1 a A' = cn1 a (ats M)) (p4 : inF P4 n (rI4 z.2.2.2 28) (rI4 z.2.2.2 32) (rI4 z.2.2.2 36) (rI4 z.2.2.2 40) (cn1 n A')) (hcap : cpM M + 240 * (A'.length - (ats M).length : Int) ≤ capa cf) {M4 : List (Int × Int × Int × (Int → Int))} (e4 : M4 = mput (4 * n, 0, 48, P4) M1) :
    WF cf (M4, nx) ∧ cpM M4 = cpM M + 240 * (A'.length - (ats M).length : Int) ∧ RWS M4 (nds M) (ens M) A' (pcs M) := by
  have wr : WR (nds M) (ens M) (ats M) (pcs M) nx (fun _ => False) := W.wr
  obtain ⟨n1, nn1, nn2, nk, ns, ⟨nc1, nc2, nc3⟩, ⟨ncd, ncl, nca⟩, nak⟩ := nd_put W hz z1
  obtain ⟨i4, r4, c4⟩ := it_n p4 nk nc1 ns nc2 (by omega)
  have R4 := R1.same0 s1 z1' (nak P4 48) (show 4 * n % 4 = 0 by omega) (by omega) (by rw [r4, nn1])
  rw [← e4] at R4
  have zz : cpM M = szR (nds M) (ens M) (ats M) (pcs M) := W.szr
  have szE : szR (nds M) (ens M) A' (pcs M) = cpM M + 240 * (A'.length - (ats M).length : Int) := by
    rw [zz]; unfold szR; omega
  obtain ⟨F1, F2⟩ := WF.mk (cf := cf) (S := (M4, nx)) (wr.at' hA) R4 (fun _ _ _ _ q => q) (by show Srm M4; rw [e4]; exact mput_srm s1) (by show IOK M4 nx; rw [e4]; exact o1.put i4 (by show 1 ≤ 4 * n / 4 ∧ 4 * n / 4 < nx; omega)) (fun v hv v4 => by
    have hv : v ∈ M4 := hv
    rw [e4] at hv
    rcases mput_mem.mp hv with u | ⟨u, u'⟩
    · rw [u]
      exact c4 _ _ (fun q => (ncd q).1) ncl rfl
    · have vn := o1.ne u v4 u'
      exact (W.ct v (m1 v u v4) v4).ext rfl rfl (hc _ vn)) (by rw [szE]; exact hcap) W.nlr
  exact ⟨F1, by rw [← szE]; exact F2, R4⟩
/-- an attribute's key is new -/
theorem new_a {M : List (Int × Int × Int × (Int → Int))} {nx n nm sz : Int} {P : Int → Int} (ho : IOK M nx) (hk : ∀ y, y ∈ M → y.1 = 4 * n + 3 → y.2.1 ≠ rev nm) (hr : ∀ y, y ∈ M → y.1 % 4 = 3 → y.2.1 % 18446744073709551616 = rev nm % 18446744073709551616 → y.2.1 = rev nm) : ∀ v, v ∈ M → ak v ≠ ak (4 * n + 3, rev nm, sz, P) := fun v hv q => by
  obtain ⟨q1, q2⟩ := ak_x q
  exact hk v hv q1 (hr v hv (by omega) q2)
theorem at_new {cf : Cf} {M : List (Int × Int × Int × (Int → Int))} {nx n x v : Int} {z : Int × Int × Int × (Int → Int)} {P1 P4 : Int → Int} (W : WF cf (M, nx)) (hz : z ∈ M) (z1 : z.1 = 4 * n) (hnm : nmV x) (hn : ∀ y, y ∈ M → ak y ≠ ak (4 * n + 3, rev x, 48, P1)) (p1 : atF P1 n x v) (p4 : inF P4 n (rI4 z.2.2.2 28) (rI4 z.2.2.2 32) (rI4 z.2.2.2 36) (rI4 z.2.2.2 40) (rI4 z.2.2.2 44 + 1)) (hcap : cpM M + 240 ≤ capa cf) {M4 : List (Int × Int × Int × (Int → Int))} (e4 : M4 = mput (4 * n, 0, 48, P4) (mput (4 * n + 3, rev x, 48, P1) M)) :
    WF cf (M4, nx) ∧ cpM M4 = cpM M + 240 ∧ RWS M4 (nds M) (ens M) ((n, x, v) :: ats M) (pcs M) := by
  have s0 : Srm M := W.1.1
  have o0 : IOK M nx := W.iok
  have wr : WR (nds M) (ens M) (ats M) (pcs M) nx (fun _ => False) := W.wr
  obtain ⟨n1, nn1, nn2, nk, ns, -, ⟨ncd, ncl, nca⟩, nak⟩ := nd_put W hz z1
  obtain ⟨i1, r1⟩ := it_a p1 hnm
  have R1 := (RWS.rf M).n3 s0 hn (show (4 * n + 3) % 4 = 3 by omega)
  rw [r1] at R1
  have c : cn1 n ((n, x, v) :: ats M) = cn1 n (ats M) + 1 := cn1_i rfl
  have L := at_law (cf := cf) (A' := (n, x, v) :: ats M) W hz z1 R1 (mput_srm s0) (o0.put i1 (by show 1 ≤ (4 * n + 3) / 4 ∧ (4 * n + 3) / 4 < nx; omega)) (mput_mem.mpr (Or.inr ⟨hz, hn z hz⟩)) (fun u hu u4 => by
    rcases mput_mem.mp hu with q | q
    · rw [q] at u4; have u4 : (4 * n + 3) % 4 = 0 := u4; omega
    · exact q.1) (fun a ha => by
    rcases List.mem_cons.mp ha with q | q
    · rw [q]; exact ⟨_, _, nn2⟩
    · exact wr.2.2.2.1 a q) (fun a ha => cn1_o (fun q => ha q.symm)) (by rw [c, show ((cn1 n (ats M) + 1 : Nat) : Int) = rI4 z.2.2.2 44 + 1 by omega]; exact p4) (by rw [List.length_cons]; omega) e4
  exact ⟨L.1, by rw [L.2.1, List.length_cons]; omega, L.2.2⟩
theorem at_old {cf : Cf} {M : List (Int × Int × Int × (Int → Int))} {nx n x v : Int} {z a0 : Int × Int × Int × (Int → Int)} {A0 : List (Int × Int × Int)} {P1 P4 : Int → Int} (W : WF cf (M, nx)) (hz : z ∈ M) (z1 : z.1 = 4 * n) (hnm : nmV x) (ha : a0 ∈ M) (a1 : a0.1 = 4 * n + 3) (a2 : a0.2.1 = rev x) (hA : (ats M).Perm (arow a0 :: A0)) (p1 : atF P1 n x v) (p4 : inF P4 n (rI4 z.2.2.2 28) (rI4 z.2.2.2 32) (rI4 z.2.2.2 36) (rI4 z.2.2.2 40) (rI4 z.2.2.2 44)) {M4 : List (Int × Int × Int × (Int → Int))} (e4 : M4 = mput (4 * n, 0, 48, P4) (mput (4 * n + 3, rev x, 48, P1) M)) :
    WF cf (M4, nx) ∧ cpM M4 = cpM M ∧ RWS M4 (nds M) (ens M) ((n, x, v) :: A0) (pcs M) := by
  have s0 : Srm M := W.1.1
  have o0 : IOK M nx := W.iok
  have wr : WR (nds M) (ens M) (ats M) (pcs M) nx (fun _ => False) := W.wr
  have cp : cpM M ≤ capa cf := W.2.2.2.2.2.2.2.2.2.2.1
  obtain ⟨n1, nn1, nn2, nk, ns, -, ⟨ncd, ncl, nca⟩, nak⟩ := nd_put W hz z1
  obtain ⟨i1, r1⟩ := it_a p1 hnm
  have hk : ak a0 = ak (4 * n + 3, rev x, 48, P1) := by show kap a0.1 a0.2.1 = kap (4 * n + 3) (rev x); rw [a1, a2]
  have R1 := ((RWS.rf M).pm (List.Perm.refl _) (List.Perm.refl _) hA (List.Perm.refl _)).o3 s0 ha hk (show (4 * n + 3) % 4 = 3 by omega) (by omega)
  rw [r1] at R1
  have ar : (arow a0).1 = n := by show a0.1 / 4 = n; omega
  have c : cn1 n ((n, x, v) :: A0) = cn1 n (ats M) := by rw [perm_cn1 hA, cn1_i ar, cn1_i (show ((n, x, v) : Int × Int × Int).1 = n from rfl)]
  have le := hA.length_eq
  rw [List.length_cons] at le
  have L := at_law (cf := cf) (A' := (n, x, v) :: A0) W hz z1 R1 (mput_srm s0) (o0.put i1 (by show 1 ≤ (4 * n + 3) / 4 ∧ (4 * n + 3) / 4 < nx; omega)) (mput_mem.mpr (Or.inr ⟨hz, fun q => by have := (ak_x q).1; have : z.1 = 4 * n + 3 := this; omega⟩)) (fun u hu u4 => by
    rcases mput_mem.mp hu with q | q
    · rw [q] at u4; have u4 : (4 * n + 3) % 4 = 0 := u4; omega
    · exact q.1) (fun a ha => by
    rcases List.mem_cons.mp ha with q | q
    · rw [q]; exact ⟨_, _, nn2⟩
    · exact wr.2.2.2.1 a (hA.mem_iff.mpr (List.mem_cons_of_mem _ q))) (fun a ha => by rw [perm_cn1 hA, cn1_o (fun q => ha q.symm), cn1_o (fun q => ha (by rw [← q, ar]))]) (by rw [c, ← nca]; exact p4) (by rw [List.length_cons, le]; omega) e4
  exact ⟨L.1, by rw [L.2.1, List.length_cons, le]; omega, L.2.2⟩
theorem at_del {cf : Cf} {M : List (Int × Int × Int × (Int → Int))} {nx n : Int} {z a0 : Int × Int × Int × (Int → Int)} {A0 : List (Int × Int × Int)} {P4 : Int → Int} (W : WF cf (M, nx)) (hz : z ∈ M) (z1 : z.1 = 4 * n) (ha : a0 ∈ M) (a1 : a0.1 = 4 * n + 3) (hA : (ats M).Perm (arow a0 :: A0)) (p4 : inF P4 n (rI4 z.2.2.2 28) (rI4 z.2.2.2 32) (rI4 z.2.2.2 36) (rI4 z.2.2.2 40) (rI4 z.2.2.2 44 - 1)) {M4 : List (Int × Int × Int × (Int → Int))} (e4 : M4 = mput (4 * n, 0, 48, P4) (mdel (ak a0) M)) :
    WF cf (M4, nx) ∧ cpM M4 = cpM M - 240 ∧ RWS M4 (nds M) (ens M) A0 (pcs M) := by
  have s0 : Srm M := W.1.1
  have o0 : IOK M nx := W.iok
  have wr : WR (nds M) (ens M) (ats M) (pcs M) nx (fun _ => False) := W.wr
  have cp : cpM M ≤ capa cf := W.2.2.2.2.2.2.2.2.2.2.1
  obtain ⟨n1, nn1, nn2, nk, ns, -, ⟨ncd, ncl, nca⟩, nak⟩ := nd_put W hz z1
  have R1 := ((RWS.rf M).pm (List.Perm.refl _) (List.Perm.refl _) hA (List.Perm.refl _)).d3 s0 ha (by omega)
  have ar : (arow a0).1 = n := by show a0.1 / 4 = n; omega
  have c : cn1 n (ats M) = cn1 n A0 + 1 := by rw [perm_cn1 hA, cn1_i ar]
  have le := hA.length_eq
  rw [List.length_cons] at le
  have L := at_law (cf := cf) (A' := A0) W hz z1 R1 (mdel_srm s0) (by unfold mdel; exact o0.fl) (mdel_mem.mpr ⟨hz, fun q => by have := (kap_in2 q).1; omega⟩) (fun u hu _ => (mdel_mem.mp hu).1) (fun a ha => wr.2.2.2.1 a (hA.mem_iff.mpr (List.mem_cons_of_mem _ ha))) (fun a ha => by rw [perm_cn1 hA, cn1_o (fun q => ha (by rw [← q, ar]))]) (by rw [show (cn1 n A0 : Int) = rI4 z.2.2.2 44 - 1 by omega]; exact p4) (by rw [le]; omega) e4
  exact ⟨L.1, by rw [L.2.1, le]; omega, L.2.2⟩
