/-! a thing less: the tree after it -/
theorem nd_fl {w k s : Int} : ∀ {N : List (Int × Int × Int)}, (N.map (fun n => n.1)).Nodup → (w, k, s) ∈ N → N.Perm ((w, k, s) :: N.filter (fun n => decide (n.1 ≠ w)))
  | [], _, h => absurd h List.not_mem_nil
  | r :: N, nd, h => by
    have nd' := nd
    rw [List.map_cons] at nd
    obtain ⟨n1, n2⟩ := List.nodup_cons.mp nd
    rw [List.filter_cons]
    by_cases q : r.1 = w
    · have e : r = (w, k, s) := nd_u nd' List.mem_cons_self h q
      rw [if_neg (by rw [decide_eq_true_iff]; exact fun u => u q), fl_all (p := fun n : Int × Int × Int => n.1 ≠ w) (fun a ha u => n1 (List.mem_map.mpr ⟨a, ha, by rw [u, q]⟩)), e]
    · rw [if_pos (decide_eq_true q)]
      have h' : (w, k, s) ∈ N := by
        rcases List.mem_cons.mp h with v | v
        · exact absurd (by rw [← v]) q
        · exact v
      exact ((nd_fl n2 h').cons r).trans (List.Perm.swap _ _ _)
theorem cn1_fl {a w : Int} (h : a ≠ w) : ∀ {A : List (Int × Int × Int)}, cn1 a (A.filter (fun r => decide (kpA w r))) = cn1 a A
  | [] => rfl
  | r :: A => by
    have ih := cn1_fl h (A := A)
    rw [List.filter_cons]
    by_cases q : kpA w r
    · rw [if_pos (decide_eq_true q), cn1_cons, cn1_cons, ih]
    · rw [if_neg (by rw [decide_eq_true_iff]; exact q), ih, cn1_o (fun v => q (by show r.1 ≠ w; rw [v]; exact h))]
theorem nlc_fl {w : Int} {E E0 : List (Int × Int × Int)} (hE : ∀ a, a ≠ w → cn3 a E = cn3 a E0) : ∀ {N : List (Int × Int × Int)}, nlc (N.filter (fun n => decide (n.1 ≠ w))) E0 ≤ nlc N E
  | [] => Nat.le_refl _
  | n :: N => by
    have ih := nlc_fl hE (N := N)
    rw [List.filter_cons, nlc_cons]
    by_cases q : n.1 ≠ w
    · rw [if_pos (decide_eq_true q), nlc_cons, hE _ q]; omega
    · rw [if_neg (by rw [decide_eq_true_iff]; exact q)]; omega
theorem cpM_nn {M : List (Int × Int × Int × (Int → Int))} (h : ∀ x, x ∈ M → 0 ≤ x.2.2.1) : 0 ≤ cpM M := by
  have := cpM_fl (p := fun _ => false) h
  rw [List.filter_eq_nil_iff.mpr (fun _ _ q => by exact absurd q (by decide))] at this
  exact this
theorem IOK.sz {M : List (Int × Int × Int × (Int → Int))} {nx : Int} (h : IOK M nx) : ∀ x, x ∈ M → 0 ≤ x.2.2.1 := fun x hx => by
  obtain ⟨a, b, c, e, -⟩ := h x hx
  have : x.1 % 4 = 0 ∨ x.1 % 4 = 1 ∨ x.1 % 4 = 2 ∨ x.1 % 4 = 3 := by omega
  rcases this with q | q | q | q
  · have := (a q).2.1; omega
  · have := (e q); have := this.2.2.2.2.1; have := (e q).2.2.2.1; omega
  · have := (b q).1; omega
  · have := (c q).1; omega
theorem go_law {cf : Cf} {M : List (Int × Int × Int × (Int → Int))} {nx d w x : Int} {y z x0 : Int × Int × Int × (Int → Int)} {E0 : List (Int × Int × Int)} {P4 : Int → Int} (W : WF cf (M, nx)) (hy : y ∈ M) (y1 : y.1 = 4 * d) (yk : rI4 y.2.2.2 28 = 1) (hz : z ∈ M) (z1 : z.1 = 4 * w) (w1 : w ≠ 1) (hx : x0 ∈ M) (x1 : x0.1 = 4 * d + 2) (x2 : erow x0 = (d, x, w)) (hE : (ens M).Perm ((d, x, w) :: E0)) (c3 : cn3 w E0 = 0) (c1 : cn1 w (ens M) = 0) (p4 : dirI y P4 d (-1)) {M4 : List (Int × Int × Int × (Int → Int))} (e4 : M4 = mput (4 * d, 0, 48, P4) (mforget w (mdel (ak x0) M))) :
    WF cf (M4, nx) ∧ cpM M4 = cpM M - 240 - cpM (M.filter (fun y => decide (ofT w y))) ∧ RWS M4 ((nds M).filter (fun n => decide (n.1 ≠ w))) E0 ((ats M).filter (fun r => decide (kpA w r))) ((pcs M).filter (fun p => decide (p.1 ≠ w))) := by
  have wr : WR (nds M) (ens M) (ats M) (pcs M) nx (fun _ => False) := W.wr
  have s0 : Srm M := W.1.1
  have o0 : IOK M nx := W.iok
  obtain ⟨d1, dn1, dn2, dk, ds, ⟨dc1, dc2, dc3⟩, ⟨dcy, -, dca⟩, dak⟩ := nd_put W hy y1
  obtain ⟨n1, nn1, nn2, nk, ns, -, -, -⟩ := nd_put W hz z1
  have dE := dcy yk
  have dne : d ≠ w := (cn1_z.mp c1) _ (hE.mem_iff.mpr List.mem_cons_self)
  rw [perm_cn1 hE, cn1_i (show ((d, x, w) : Int × Int × Int).1 = d from rfl)] at dE
  rw [yk, dE.2] at dn2
  obtain ⟨i4, r4, c4⟩ := it_n p4 (by omega) dc1 (by omega) (by omega) dc3
  have R0 := (RWS.rf M).pm (List.Perm.refl _) hE (List.Perm.refl _) (List.Perm.refl _)
  rw [← x2] at R0
  have R1 := R0.d2 s0 hx (by omega)
  have s1 : Srm (mdel (ak x0) M) := mdel_srm s0
  have o1 : IOK (mdel (ak x0) M) nx := by unfold mdel; exact o0.fl
  have y1' : y ∈ mdel (ak x0) M := mdel_mem.mpr ⟨hy, fun q => by
    have := (kap_in2 q).1
    omega⟩
  have m1 : ∀ v, v ∈ mdel (ak x0) M → v ∈ M := fun v hv => (mdel_mem.mp hv).1
  have pm := mdel_old s0 hx
  have x48 : x0.2.2.1 = 48 := ((o0 x0 hx).2.1 (by omega)).1
  have cA : cpM M = 240 + cpM (mdel (ak x0) M) := by rw [cpM_p pm, cpM_cons, x48]; omega
  have cB : cpM (M.filter (fun y => decide (ofT w y))) = cpM ((mdel (ak x0) M).filter (fun y => decide (ofT w y))) := by
    rw [cpM_p (pm.filter _), List.filter_cons, if_neg (by rw [decide_eq_true_iff]; exact fun u => u.2 (by omega))]
  generalize mdel (ak x0) M = M1 at *
  have ff := fgt_fl (w := w) o1
  have R2 := R1.fg (w := w) o1
  have s2 : Srm (mforget w M1) := mforget_srm s1
  have o2 : IOK (mforget w M1) nx := by rw [ff]; exact o1.fl
  have mem : ∀ v, v ∈ mforget w M1 ↔ v ∈ M1 ∧ ¬ ofT w v := fun v => by
    rw [ff, List.mem_filter, Bool.not_eq_true', decide_eq_false_iff_not]
  have cC : cpM (mforget w M1) = cpM M1 - cpM (M1.filter (fun y => decide (ofT w y))) := by
    have := cpM_split (p := fun y => decide (ofT w y)) (M := M1)
    rw [ff]; omega
  have y2' : y ∈ mforget w M1 := (mem y).mpr ⟨y1', fun q => by have := q.1; omega⟩
  have m2 : ∀ v, v ∈ mforget w M1 → v.1 % 4 = 0 → v ∈ M ∧ v.1 / 4 ≠ w := fun v hv v4 => by
    obtain ⟨a, b⟩ := (mem v).mp hv
    exact ⟨m1 v a, fun q => b ⟨q, by omega⟩⟩
  generalize mforget w M1 = M2 at *
  have cD : cpM M4 = cpM M2 := by
    obtain ⟨K, k1, k2, -⟩ := mput_old s2 y2' (dak P4 48)
    rw [e4, cpM_p k2, cpM_p k1, cpM_cons, cpM_cons, ((o0 y hy).1 (by omega)).2.1]
  have R4 := R2.same0 s2 y2' (dak P4 48) (show 4 * d % 4 = 0 by omega) (by omega) (by rw [r4, dn1, yk, dE.2])
  rw [← e4] at R4
  have o4 : IOK M4 nx := by rw [e4]; exact o2.put i4 (by show 1 ≤ 4 * d / 4 ∧ 4 * d / 4 < nx; omega)
  have cN := cpM_nn (M := M1.filter (fun y => decide (ofT w y))) (fun v hv => o1.sz v (List.mem_filter.mp hv).1)
  have cp : cpM M ≤ capa cf := W.2.2.2.2.2.2.2.2.2.2.1
  have szE := szR_of R4 o4
  have z1' := cn1_z.mp c1
  have z3' := cn3_z.mp c3
  have WD := ((wr.p (List.Perm.refl _) hE (List.Perm.refl _) (List.Perm.refl _)).delE.p (nd_fl wr.1.2 nn2) (List.Perm.refl _) (List.Perm.refl _) (List.Perm.refl _)).delN w1 (fun e he => z1' e (hE.mem_iff.mpr (List.mem_cons_of_mem _ he))) z3'
  obtain ⟨F1, F2⟩ := WF.mk (cf := cf) (S := (M4, nx)) WD R4 (fun v v1 _ _ q => q.elim id (fun u => ((fl_mem (p := fun n : Int × Int × Int => n.1 ≠ w)).mp v1).2 u)) (by show Srm M4; rw [e4]; exact mput_srm s2) o4 (fun v hv v4 => by
    have hv : v ∈ M4 := hv
    rw [e4] at hv
    rcases mput_mem.mp hv with u | ⟨u, u'⟩
    · rw [u]
      exact c4 _ _ (fun _ => by omega) (fun q => absurd rfl q) (by rw [cn1_fl dne]; exact dca)
    · have vd := o2.ne u v4 u'
      obtain ⟨q, q'⟩ := m2 v u v4
      have c := (W.ct v q v4).p (E' := (d, x, w) :: E0) hE (List.Perm.refl _)
      exact c.ext (cn1_o (fun t => vd t.symm)).symm (cn3_o (fun t => q' t.symm)).symm (cn1_fl q')) (by omega) (by
    have a := nlc_fl (w := w) (E := ens M) (E0 := E0) (fun a ha => by rw [perm_cn3 hE]; exact cn3_o (fun t => ha t.symm)) (N := nds M)
    have b : nlc (nds M) (ens M) ≤ 8 := W.nlr
    omega)
  exact ⟨F1, by omega, R4⟩
