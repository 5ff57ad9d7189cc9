/-! rename: the tree after it -/
/-- the nodes of two directories (or of one) are written -/
theorem rn_nod {N E A : List (Int × Int × Int)} {P : List (Int × Int × Int × (Int → Int))} {cf : Cf} {M M3 : List (Int × Int × Int × (Int → Int))} {nx a b ea eb : Int} {y t : Int × Int × Int × (Int → Int)} {P3 P4 : Int → Int} (W : WF cf (M, nx)) (hy : y ∈ M) (y1 : y.1 = 4 * a) (yk : rI4 y.2.2.2 28 = 1) (ht : t ∈ M) (t1 : t.1 = 4 * b) (tk : rI4 t.2.2.2 28 = 1) (y3 : y ∈ M3) (t3 : t ∈ M3) (R3 : RWS M3 N E A P) (s3 : Srm M3) (o3 : IOK M3 nx) (p3 : dirI t P3 b eb) (p4 : dirI y P4 a ea) (he : 0 ≤ rI4 t.2.2.2 40 + eb ∧ 0 ≤ rI4 y.2.2.2 40 + ea) {M5 : List (Int × Int × Int × (Int → Int))} (e5 : M5 = mput (4 * a, 0, 48, P4) (if a = b then M3 else mput (4 * b, 0, 48, P3) M3)) :
    RWS M5 N E A P ∧ Srm M5 ∧ IOK M5 nx ∧ cpM M5 = cpM M3 ∧ ∀ v, v ∈ M5 → v.1 % 4 = 0 → v = (4 * a, 0, 48, P4) ∨ (a ≠ b ∧ v = (4 * b, 0, 48, P3)) ∨ (v ∈ M3 ∧ v.1 / 4 ≠ a ∧ v.1 / 4 ≠ b) := by
  obtain ⟨d1, dn1, dn2, dk, ds, ⟨dc1, dc2, dc3⟩, ⟨dcy, -, dca⟩, dak⟩ := nd_put W hy y1
  obtain ⟨b1, bn1, bn2, bk, bs, ⟨bc1, bc2, bc3⟩, ⟨bcy, -, bca⟩, bak⟩ := nd_put W ht t1
  have dE := dcy yk
  have bE := bcy tk
  obtain ⟨i4, r4, c4⟩ := it_n p4 (by omega) dc1 (by omega) he.2 dc3
  obtain ⟨i3, r3, c3⟩ := it_n p3 (by omega) bc1 (by omega) he.1 bc3
  -- the second one
  have key : ∀ M4 : List (Int × Int × Int × (Int → Int)), y ∈ M4 → RWS M4 N E A P → Srm M4 → IOK M4 nx → RWS (mput (4 * a, 0, 48, P4) M4) N E A P ∧ Srm (mput (4 * a, 0, 48, P4) M4) ∧ IOK (mput (4 * a, 0, 48, P4) M4) nx ∧ cpM (mput (4 * a, 0, 48, P4) M4) = cpM M4 := by
    intro M4 y4 R4 s4 o4
    refine ⟨R4.same0 s4 y4 (dak P4 48) (show 4 * a % 4 = 0 by omega) (by omega) (by rw [r4, dn1, yk, dE.2]), mput_srm s4, o4.put i4 (by show 1 ≤ 4 * a / 4 ∧ 4 * a / 4 < nx; omega), ?_⟩
    obtain ⟨K, k1, k2, -⟩ := mput_old s4 y4 (dak P4 48)
    rw [cpM_p k2, cpM_p k1, cpM_cons, cpM_cons, ((o4 y y4).1 (by omega)).2.1]
  by_cases q : a = b
  · rw [if_pos q] at e5
    obtain ⟨k1, k2, k3, k4⟩ := key M3 y3 R3 s3 o3
    rw [← e5] at k1 k2 k3 k4
    refine ⟨k1, k2, k3, k4, fun v hv v4 => ?_⟩
    rw [e5] at hv
    rcases mput_mem.mp hv with u | ⟨u, u'⟩
    · exact Or.inl u
    · have := o3.ne u v4 u'
      exact Or.inr (Or.inr ⟨u, this, by rw [← q]; exact this⟩)
  · rw [if_neg q] at e5
    have R4 := R3.same0 s3 t3 (bak P3 48) (show 4 * b % 4 = 0 by omega) (by omega) (by rw [r3, bn1, tk, bE.2])
    have s4 : Srm (mput (4 * b, 0, 48, P3) M3) := mput_srm s3
    have o4 : IOK (mput (4 * b, 0, 48, P3) M3) nx := o3.put i3 (by show 1 ≤ 4 * b / 4 ∧ 4 * b / 4 < nx; omega)
    have y4 : y ∈ mput (4 * b, 0, 48, P3) M3 := mput_mem.mpr (Or.inr ⟨y3, fun z => q (by
      have := (ak_x z).1
      have : y.1 = 4 * b := this
      omega)⟩)
    obtain ⟨k1, k2, k3, k4⟩ := key _ y4 R4 s4 o4
    rw [← e5] at k1 k2 k3 k4
    refine ⟨k1, k2, k3, ?_, fun v hv v4 => ?_⟩
    · obtain ⟨K, j1, j2, -⟩ := mput_old s3 t3 (bak P3 48)
      rw [k4, cpM_p j2, cpM_p j1, cpM_cons, cpM_cons, ((o3 t t3).1 (by omega)).2.1]
    · rw [e5] at hv
      rcases mput_mem.mp hv with u | ⟨u, u'⟩
      · exact Or.inl u
      · have na := o4.ne u v4 u'
        rcases mput_mem.mp u with g | ⟨g, g'⟩
        · exact Or.inr (Or.inl ⟨q, g⟩)
        · exact Or.inr (Or.inr ⟨g, na, o3.ne g v4 g'⟩)
/-- the entry goes over, up to the nodes -/
theorem rn_ent {cf : Cf} {M : List (Int × Int × Int × (Int → Int))} {nx a x w b q f : Int} {u : Int × Int × Int × (Int → Int)} {P1 : Int → Int} {E1 : List (Int × Int × Int)} (W : WF cf (M, nx)) (hu : u ∈ M) (u1 : u.1 = 4 * a + 2) (u2 : erow u = (a, x, w)) (hq : nmV q) (hf : 0 ≤ f ∧ f < 1024) (hb : (b, 1, 0) ∈ nds M) (p1 : enF P1 b w q f)
    (hO : (∃ v w2, v ∈ M ∧ v.1 = 4 * b + 2 ∧ erow v = (b, q, w2) ∧ f = rI4 v.2.2.2 40 ∧ w ≠ w2 ∧ (ens M).Perm ((a, x, w) :: (b, q, w2) :: E1)) ∨ ((ens M).Perm ((a, x, w) :: E1) ∧ ∀ z, z ∈ M → z.1 = 4 * b + 2 → z.2.1 ≠ hs q + f)) {M2 : List (Int × Int × Int × (Int → Int))} (e2 : M2 = mput (4 * b + 2, hs q + f, 48, P1) (mdel (ak u) M)) :
    RWS M2 (nds M) ((b, q, w) :: E1) (ats M) (pcs M) ∧ Srm M2 ∧ IOK M2 nx ∧ (∀ v, v ∈ M → v.1 % 4 ≠ 2 → v ∈ M2) ∧ (∀ v, v ∈ M2 → v.1 % 4 ≠ 2 → v ∈ M) ∧ ((∃ w2, (ens M).Perm ((a, x, w) :: (b, q, w2) :: E1)) → cpM M2 = cpM M - 240) ∧ ((ens M).Perm ((a, x, w) :: E1) → cpM M2 = cpM M) := by
  have wr : WR (nds M) (ens M) (ats M) (pcs M) nx (fun _ => False) := W.wr
  have s0 : Srm M := W.1.1
  have o0 : IOK M nx := W.iok
  obtain ⟨nx1, w1', sl1, sz1, ku⟩ := ent_it W hu u1 u2
  obtain ⟨i1, r1⟩ := it_e p1 hq w1' hf
  have bN : 1 ≤ b ∧ b < nx := (wr.1.1 _ hb).1
  have s1 : Srm (mdel (ak u) M) := mdel_srm s0
  have o1 : IOK (mdel (ak u) M) nx := by unfold mdel; exact o0.fl
  have pm := mdel_old s0 hu
  have cA : cpM M = 240 + cpM (mdel (ak u) M) := by rw [cpM_p pm, cpM_cons, sz1]; omega
  have xk : (4 * b + 2, hs q + f, 48, P1).1 % 4 = 2 := by show (4 * b + 2) % 4 = 2; omega
  have o2 : IOK M2 nx := by rw [e2]; exact o1.put i1 (by show 1 ≤ (4 * b + 2) / 4 ∧ (4 * b + 2) / 4 < nx; omega)
  have s2 : Srm M2 := by rw [e2]; exact mput_srm s1
  have n2 : ∀ v, v ∈ M → v.1 % 4 ≠ 2 → v ∈ M2 := fun v hv v4 => by
    rw [e2]
    refine mput_mem.mpr (Or.inr ⟨mdel_mem.mpr ⟨hv, fun z => ?_⟩, fun z => ?_⟩)
    · have := (kap_in2 z).1; omega
    · have := (ak_x z).1
      have : v.1 = 4 * b + 2 := this
      omega
  have n3 : ∀ v, v ∈ M2 → v.1 % 4 ≠ 2 → v ∈ M := fun v hv v4 => by
    rw [e2] at hv
    rcases mput_mem.mp hv with z | z
    · rw [z] at v4; have v4 : (4 * b + 2) % 4 ≠ 2 := v4; omega
    · exact (mdel_mem.mp z.1).1
  rcases hO with ⟨v, w2, v0, v1, v2, v3, v4, hE⟩ | ⟨hE, hn⟩
  · obtain ⟨nv1, w2', sl2, sz2, kv⟩ := ent_it W v0 v1 v2
    have nd := ((hE.map ky2).nodup_iff).mp wr.2.2.2.2.2.1
    have nab : ¬ (b = a ∧ q = x) := ky_ne nd (b, q, w2) List.mem_cons_self
    have v' : v ∈ mdel (ak u) M := mdel_mem.mpr ⟨v0, fun z => by
      have := s0.inj v0 hu z
      rw [this, u2, Prod.mk.injEq, Prod.mk.injEq] at v2
      exact nab ⟨v2.1.symm, v2.2.1.symm⟩⟩
    have R0 := (RWS.rf M).pm (List.Perm.refl _) hE (List.Perm.refl _) (List.Perm.refl _)
    rw [← u2] at R0
    have R1 := R0.d2 s0 hu (by omega)
    rw [← v2] at R1
    have kv' : ak v = ak (4 * b + 2, hs q + f, 48, P1) := by rw [v3]; exact kv P1 48
    have R2 := R1.o2 s1 v' kv' xk (by omega)
    rw [r1, ← e2] at R2
    refine ⟨R2, s2, o2, n2, n3, fun _ => ?_, fun h => ?_⟩
    · obtain ⟨K, k1, k2, -⟩ := mput_old s1 v' kv'
      have e48 : ((4 * b + 2, hs q + f, 48, P1) : Int × Int × Int × (Int → Int)).2.2.1 = 48 := rfl
      rw [e2, cpM_p k2, cA, cpM_p k1, cpM_cons, cpM_cons, sz2]; omega
    · have a1 := hE.length_eq
      have a2 := h.length_eq
      rw [List.length_cons, List.length_cons] at a1
      rw [List.length_cons] at a2
      omega
  · have R0 := (RWS.rf M).pm (List.Perm.refl _) hE (List.Perm.refl _) (List.Perm.refl _)
    rw [← u2] at R0
    have R1 := R0.d2 s0 hu (by omega)
    have hn1 := new_e (n := 48) (P := P1) o1 hf (fun z hz z1 => hn z (mdel_mem.mp hz).1 z1)
    have R2 := R1.n2 s1 hn1 xk
    rw [r1, ← e2] at R2
    refine ⟨R2, s2, o2, n2, n3, fun ⟨w2, h⟩ => ?_, fun _ => ?_⟩
    · have a1 := hE.length_eq
      have a2 := h.length_eq
      rw [List.length_cons, List.length_cons] at a2
      rw [List.length_cons] at a1
      omega
    · rw [e2, cpM_p (mput_new s1 hn1), cpM_cons, cA]
      rfl
/-- what a rename needs: both directories, the entry, no ring -/
def RNp (cf : Cf) (M : List (Int × Int × Int × (Int → Int))) (nx a x w b q : Int) (y t u : Int × Int × Int × (Int → Int)) : Prop := WF cf (M, nx) ∧ y ∈ M ∧ y.1 = 4 * a ∧ rI4 y.2.2.2 28 = 1 ∧ t ∈ M ∧ t.1 = 4 * b ∧ rI4 t.2.2.2 28 = 1 ∧ u ∈ M ∧ u.1 = 4 * a + 2 ∧ erow u = (a, x, w) ∧ nmV q ∧ ((w, 1, 0) ∈ nds M → ¬ Anc (nds M) (ens M) w b)
theorem RNp.b1 {cf : Cf} {M : List (Int × Int × Int × (Int → Int))} {nx a x w b q : Int} {y t u : Int × Int × Int × (Int → Int)} (h : RNp cf M nx a x w b q y t u) : (b, 1, 0) ∈ nds M ∧ (a, 1, 0) ∈ nds M := by
  obtain ⟨W, hy, y1, yk, ht, t1, tk, -⟩ := h
  obtain ⟨b1, bn1, bn2, bk, bs, -, ⟨bcy, -, bca⟩, bak⟩ := nd_put W ht t1
  obtain ⟨d1, dn1, dn2, dk, ds, -, ⟨dcy, -, dca⟩, dak⟩ := nd_put W hy y1
  have e1 := (bcy tk).2
  have e2 := (dcy yk).2
  rw [tk, e1] at bn2
  rw [yk, e2] at dn2
  exact ⟨bn2, dn2⟩
/-- nothing has the new name -/
theorem rn0_law {cf : Cf} {M : List (Int × Int × Int × (Int → Int))} {nx a x w b q f : Int} {y t u : Int × Int × Int × (Int → Int)} {P1 P3 P4 : Int → Int} {E0 : List (Int × Int × Int)} (h : RNp cf M nx a x w b q y t u) (hf : 0 ≤ f ∧ f < 1024) (p1 : enF P1 b w q f) (hE : (ens M).Perm ((a, x, w) :: E0)) (hn : ∀ z, z ∈ M → z.1 = 4 * b + 2 → z.2.1 ≠ hs q + f) (hno : ∀ e, e ∈ ens M → ¬ (e.1 = b ∧ e.2.1 = q)) (p3 : dirI t P3 b 1) (p4 : dirI y P4 a (if a = b then 0 else -1)) {M5 : List (Int × Int × Int × (Int → Int))} (e5 : M5 = mput (4 * a, 0, 48, P4) (if a = b then mput (4 * b + 2, hs q + f, 48, P1) (mdel (ak u) M) else mput (4 * b, 0, 48, P3) (mput (4 * b + 2, hs q + f, 48, P1) (mdel (ak u) M)))) :
    WF cf (M5, nx) ∧ cpM M5 = cpM M ∧ RWS M5 (nds M) ((b, q, w) :: E0) (ats M) (pcs M) := by
  obtain ⟨W, hy, y1, yk, ht, t1, tk, hu, u1, u2, hq, nr⟩ := id h
  obtain ⟨bD, aD⟩ := h.b1
  have wr : WR (nds M) (ens M) (ats M) (pcs M) nx (fun _ => False) := W.wr
  obtain ⟨b1, bn1, bn2, bk, bs, ⟨bc1, bc2, bc3⟩, ⟨bcy, -, bca⟩, bak⟩ := nd_put W ht t1
  obtain ⟨d1, dn1, dn2, dk, ds, ⟨dc1, dc2, dc3⟩, ⟨dcy, -, dca⟩, dak⟩ := nd_put W hy y1
  have dE := (dcy yk).1
  have bE := (bcy tk).1
  obtain ⟨R2, s2, o2, n2, n3, -, c2⟩ := rn_ent (f := f) W hu u1 u2 hq hf bD p1 (Or.inr ⟨hE, hn⟩) rfl
  have c2 := c2 hE
  have ca : 1 ≤ cn1 a (ens M) := by rw [perm_cn1 hE, cn1_i (show ((a, x, w) : Int × Int × Int).1 = a from rfl)]; omega
  obtain ⟨R5, s5, o5, c5, n5⟩ := rn_nod (ea := if a = b then 0 else -1) (eb := 1) W hy y1 yk ht t1 tk (n2 y hy (by omega)) (n2 t ht (by omega)) R2 s2 o2 p3 p4 ⟨by omega, by split <;> omega⟩ e5
  generalize mput (4 * b + 2, hs q + f, 48, P1) (mdel (ak u) M) = M2 at *
  have q1 : ∀ k, (cn1 k ((b, q, w) :: E0) : Int) = cn1 k (ens M) - (if a = k then 1 else 0) + (if b = k then 1 else 0) := fun k => by
    rw [perm_cn1 hE, cn1_cons, cn1_cons]
    show ((cn1 k E0 + (if b = k then 1 else 0) : Nat) : Int) = ((cn1 k E0 + (if a = k then 1 else 0) : Nat) : Int) - _ + _
    split <;> split <;> omega
  have q3 : ∀ k, cn3 k ((b, q, w) :: E0) = cn3 k (ens M) := fun k => by
    rw [perm_cn3 hE, cn3_cons, cn3_cons]
  obtain ⟨-, ⟨kw, sw, wN⟩, w11⟩ := wr.2.2.1 _ (hE.mem_iff.mpr List.mem_cons_self)
  have wN : (w, kw, sw) ∈ nds M := wN
  obtain ⟨rk, hrk⟩ := wr.2.2.2.2.2.2.2.2
  have sub : ∀ e, e ∈ E0 → e ∈ ens M := fun e he => hE.mem_iff.mpr (List.mem_cons_of_mem _ he)
  have D1 := ((wr.p (List.Perm.refl _) hE (List.Perm.refl _) (List.Perm.refl _)).delE).addE (d := b) (x := q) (t := w) (k := kw) (s := sw) bD wN w11 (fun e he => hno e (sub e he)) (fun z => by
    have := wr.2.2.2.2.2.2.1 _ wN z w11 id
    have this : cn3 w (ens M) = 1 := this
    rw [perm_cn3 hE, cn3_i (show ((a, x, w) : Int × Int × Int).2.2 = w from rfl)] at this
    omega) (fun z => rk_up (fun e he => hrk e (sub e he)) (fun an => nr (by
    have s0 : sw = 0 := (wr.1.1 _ wN).2 z
    rw [z, s0] at wN; exact wN) (an.mono sub)))
  have hl := hE.length_eq
  rw [List.length_cons] at hl
  have zz : cpM M = szR (nds M) (ens M) (ats M) (pcs M) := W.szr
  have szE : szR (nds M) ((b, q, w) :: E0) (ats M) (pcs M) = cpM M := by
    rw [zz]; unfold szR; rw [List.length_cons, hl]
  have cp : cpM M ≤ capa cf := W.2.2.2.2.2.2.2.2.2.2.1
  obtain ⟨i4, r4, c4⟩ := it_n p4 (by omega) dc1 (by omega) (by split <;> omega) dc3
  obtain ⟨i3, r3, c3⟩ := it_n p3 (by omega) bc1 (by omega) (by omega) bc3
  obtain ⟨F1, F2⟩ := WF.mk (cf := cf) (S := (M5, nx)) D1 R5 (fun n n1 _ _ z => by
    obtain ⟨z1, z2⟩ := z
    rcases z1 with z1 | z1
    · exact z1
    · exact z2 z1) s5 o5 (fun v hv v4 => by
    rcases n5 v hv v4 with g | ⟨g, g'⟩ | ⟨g, g', g''⟩
    · rw [g]
      refine c4 _ _ (fun _ => ?_) (fun z => absurd rfl z) dca
      have := q1 a
      rw [if_pos rfl] at this
      by_cases z : a = b
      · rw [if_pos z, this, if_pos z.symm]; omega
      · rw [if_neg z, this, if_neg (fun e => z e.symm)]; omega
    · rw [g']
      refine c3 _ _ (fun _ => ?_) (fun z => absurd rfl z) bca
      have := q1 b
      rw [if_pos rfl, if_neg g] at this
      omega
    · refine (W.ct v (n3 v g (by omega)) v4).ext ?_ (q3 _) rfl
      show cn1 (v.1 / 4) ((b, q, w) :: E0) = cn1 (v.1 / 4) (ens M)
      have := q1 (v.1 / 4)
      rw [if_neg (fun e => g' e.symm), if_neg (fun e => g'' e.symm)] at this
      omega) (by omega) (by rw [nlc_eq q3]; exact W.nlr)
  exact ⟨F1, by rw [c5, c2], R5⟩
/-- something has it: the entry is replaced -/
theorem rn_cnt {a x w b q w2 : Int} {E E1 : List (Int × Int × Int)} (hE : E.Perm ((a, x, w) :: (b, q, w2) :: E1)) (hne : w ≠ w2) : (∀ k, (cn1 k ((b, q, w) :: E1) : Int) = cn1 k E - (if a = k then 1 else 0)) ∧ (∀ k, (cn3 k ((b, q, w) :: E1) : Int) = cn3 k E - (if w2 = k then 1 else 0)) := by
  refine ⟨fun k => ?_, fun k => ?_⟩
  · rw [perm_cn1 hE, cn1_cons, cn1_cons, cn1_cons]
    show ((cn1 k E1 + (if b = k then 1 else 0) : Nat) : Int) = ((cn1 k E1 + (if b = k then 1 else 0) + (if a = k then 1 else 0) : Nat) : Int) - _
    split <;> split <;> omega
  · rw [perm_cn3 hE, cn3_cons, cn3_cons, cn3_cons]
    show ((cn3 k E1 + (if w = k then 1 else 0) : Nat) : Int) = ((cn3 k E1 + (if w2 = k then 1 else 0) + (if w = k then 1 else 0) : Nat) : Int) - _
    split <;> split <;> omega
theorem rn2_law {cf : Cf} {M : List (Int × Int × Int × (Int → Int))} {nx a x w b q w2 : Int} {y t u v o : Int × Int × Int × (Int → Int)} {P1 P2 P3 P4 : Int → Int} {E1 : List (Int × Int × Int)} (h : RNp cf M nx a x w b q y t u) (hv : v ∈ M) (v1 : v.1 = 4 * b + 2) (v2 : erow v = (b, q, w2)) (hne : w ≠ w2) (ho : o ∈ M) (o1 : o.1 = 4 * w2) (okk : rI4 o.2.2.2 28 = 2) (p1 : enF P1 b w q (rI4 v.2.2.2 40)) (p2 : inF P2 w2 2 (rI4 o.2.2.2 32 - 1) (rI4 o.2.2.2 36) (rI4 o.2.2.2 40) (rI4 o.2.2.2 44)) (hE : (ens M).Perm ((a, x, w) :: (b, q, w2) :: E1)) (p3 : dirI t P3 b 0) (p4 : dirI y P4 a (-1)) (hnl : nlc (nds M) ((b, q, w) :: E1) ≤ 8) {M5 : List (Int × Int × Int × (Int → Int))} (e5 : M5 = mput (4 * a, 0, 48, P4) (if a = b then mput (4 * w2, 0, 48, P2) (mput (4 * b + 2, hs q + rI4 v.2.2.2 40, 48, P1) (mdel (ak u) M)) else mput (4 * b, 0, 48, P3) (mput (4 * w2, 0, 48, P2) (mput (4 * b + 2, hs q + rI4 v.2.2.2 40, 48, P1) (mdel (ak u) M))))) :
    WF cf (M5, nx) ∧ cpM M5 = cpM M - 240 ∧ RWS M5 (nds M) ((b, q, w) :: E1) (ats M) (pcs M) := by
  obtain ⟨W, hy, y1, yk, ht, t1, tk, hu, u1, u2, hq, nr⟩ := id h
  obtain ⟨bD, aD⟩ := h.b1
  have wr : WR (nds M) (ens M) (ats M) (pcs M) nx (fun _ => False) := W.wr
  obtain ⟨b1, bn1, bn2, bk, bs, ⟨bc1, bc2, bc3⟩, ⟨bcy, -, bca⟩, bak⟩ := nd_put W ht t1
  obtain ⟨d1, dn1, dn2, dk, ds, ⟨dc1, dc2, dc3⟩, ⟨dcy, -, dca⟩, dak⟩ := nd_put W hy y1
  obtain ⟨k1, kn1, kn2, kk, ks, ⟨kc1, kc2, kc3⟩, ⟨-, kcl, kca⟩, kak⟩ := nd_put W ho o1
  have dE := (dcy yk).1
  have bE := (bcy tk).1
  have oE := kcl (by omega)
  obtain ⟨-, -, slv, -, -⟩ := ent_it W hv v1 v2
  obtain ⟨R2, s2, o2, n2, n3, c2, -⟩ := rn_ent (f := rI4 v.2.2.2 40) W hu u1 u2 hq slv bD p1 (Or.inl ⟨v, w2, hv, v1, v2, rfl, hne, hE⟩) rfl
  have c2 := c2 ⟨w2, hE⟩
  have ca : 1 ≤ cn1 a (ens M) := by rw [perm_cn1 hE, cn1_i (show ((a, x, w) : Int × Int × Int).1 = a from rfl)]; omega
  have c3w : 1 ≤ cn3 w2 (ens M) := by rw [perm_cn3 hE, cn3_cons, cn3_i (show ((b, q, w2) : Int × Int × Int).2.2 = w2 from rfl)]; omega
  have dir2 : ∀ {d : Int}, (d, 1, 0) ∈ nds M → d ≠ w2 := fun {d} hd e => by
    rw [e] at hd
    rw [okk] at kn2
    have := wr.u hd kn2 rfl
    rw [Prod.mk.injEq, Prod.mk.injEq] at this
    exact absurd this.2.1 (by decide)
  have na2 := dir2 aD
  have nb2 := dir2 bD
  obtain ⟨i2, r2, ct2⟩ := it_n p2 (by omega) (by omega) ks kc2 kc3
  generalize mput (4 * b + 2, hs q + rI4 v.2.2.2 40, 48, P1) (mdel (ak u) M) = M2 at *
  have o2' : o ∈ M2 := n2 o ho (by omega)
  have R3 := R2.same0 s2 o2' (kak P2 48) (show 4 * w2 % 4 = 0 by omega) (by omega) (by rw [r2, kn1, okk])
  have s3 : Srm (mput (4 * w2, 0, 48, P2) M2) := mput_srm s2
  have o3 : IOK (mput (4 * w2, 0, 48, P2) M2) nx := o2.put i2 (by show 1 ≤ 4 * w2 / 4 ∧ 4 * w2 / 4 < nx; omega)
  have st : ∀ {z : Int × Int × Int × (Int → Int)} {d : Int}, z ∈ M → z.1 = 4 * d → d ≠ w2 → z ∈ mput (4 * w2, 0, 48, P2) M2 := fun {z d} hz z1 nd => mput_mem.mpr (Or.inr ⟨n2 z hz (by omega), fun e => nd (by
    have := (ak_x e).1
    have : z.1 = 4 * w2 := this
    omega)⟩)
  have c3 : cpM (mput (4 * w2, 0, 48, P2) M2) = cpM M2 := by
    obtain ⟨K, j1, j2, -⟩ := mput_old s2 o2' (kak P2 48)
    rw [cpM_p j2, cpM_p j1, cpM_cons, cpM_cons, ((o2 o o2').1 (by omega)).2.1]
  have n3' : ∀ z, z ∈ mput (4 * w2, 0, 48, P2) M2 → z.1 % 4 = 0 → z = (4 * w2, 0, 48, P2) ∨ (z ∈ M ∧ z.1 / 4 ≠ w2) := fun z hz z4 => by
    rcases mput_mem.mp hz with g | ⟨g, g'⟩
    · exact Or.inl g
    · exact Or.inr ⟨n3 z g (by omega), o2.ne g z4 g'⟩
  generalize mput (4 * w2, 0, 48, P2) M2 = M3 at *
  obtain ⟨R5, s5, o5, c5, n5⟩ := rn_nod (ea := -1) (eb := 0) W hy y1 yk ht t1 tk (st hy y1 na2) (st ht t1 nb2) R3 s3 o3 p3 p4 ⟨by omega, by omega⟩ e5
  obtain ⟨q1, q3⟩ := rn_cnt hE hne
  obtain ⟨-, ⟨kw, sw, wN⟩, w11⟩ := wr.2.2.1 _ (hE.mem_iff.mpr List.mem_cons_self)
  have wN : (w, kw, sw) ∈ nds M := wN
  obtain ⟨rk, hrk⟩ := wr.2.2.2.2.2.2.2.2
  have sub : ∀ e, e ∈ E1 → e ∈ ens M := fun e he => hE.mem_iff.mpr (List.mem_cons_of_mem _ (List.mem_cons_of_mem _ he))
  have nd := ((hE.map ky2).nodup_iff).mp wr.2.2.2.2.2.1
  have nd2 : (((b, q, w2) :: E1).map ky2).Nodup := by rw [List.map_cons] at nd; exact (List.nodup_cons.mp nd).2
  have D1 := ((wr.p (List.Perm.refl _) hE (List.Perm.refl _) (List.Perm.refl _)).delE.delE).addE (d := b) (x := q) (t := w) (k := kw) (s := sw) bD wN w11 (ky_ne nd2) (fun z => by
    have := wr.2.2.2.2.2.2.1 _ wN z w11 id
    have this : cn3 w (ens M) = 1 := this
    have qq := q3 w
    rw [cn3_i (show ((b, q, w) : Int × Int × Int).2.2 = w from rfl), if_neg (fun e => hne e.symm)] at qq
    omega) (fun z => rk_up (fun e he => hrk e (sub e he)) (fun an => nr (by
    have s0 : sw = 0 := (wr.1.1 _ wN).2 z
    rw [z, s0] at wN; exact wN) (an.mono sub)))
  have hl := hE.length_eq
  rw [List.length_cons, List.length_cons] at hl
  have zz : cpM M = szR (nds M) (ens M) (ats M) (pcs M) := W.szr
  have szE : szR (nds M) ((b, q, w) :: E1) (ats M) (pcs M) = cpM M - 240 := by
    rw [zz]; unfold szR; rw [List.length_cons, hl]; omega
  have cp : cpM M ≤ capa cf := W.2.2.2.2.2.2.2.2.2.2.1
  obtain ⟨i4, r4, c4⟩ := it_n p4 (by omega) dc1 (by omega) (by omega) dc3
  obtain ⟨i3, r3, ct3⟩ := it_n p3 (by omega) bc1 (by omega) (by omega) bc3
  obtain ⟨F1, F2⟩ := WF.mk (cf := cf) (S := (M5, nx)) D1 R5 (fun n n1 nk2 _ z => by
    obtain ⟨z1, z2⟩ := z
    rcases z1 with (z1 | z1) | z1
    · exact z1
    · exact z2 z1
    · have z1 : n.1 = w2 := z1
      rw [okk] at kn2
      have := wr.u n1 kn2 z1
      rw [this] at nk2
      exact nk2 rfl) s5 o5 (fun z hz z4 => by
    rcases n5 z hz z4 with g | ⟨g, g'⟩ | ⟨g, g', g''⟩
    · rw [g]
      refine c4 _ _ (fun _ => ?_) (fun e => absurd rfl e) dca
      have := q1 a
      rw [if_pos rfl] at this
      omega
    · rw [g']
      refine ct3 _ _ (fun _ => ?_) (fun e => absurd rfl e) bca
      have := q1 b
      rw [if_neg g] at this
      omega
    · rcases n3' z g z4 with j | ⟨j, j'⟩
      · rw [j]
        refine ct2 _ _ (fun e => absurd e (by decide)) (fun _ => ?_) kca
        have := q3 w2
        rw [if_pos rfl] at this
        omega
      · refine (W.ct z j z4).ext ?_ ?_ rfl
        · show cn1 (z.1 / 4) ((b, q, w) :: E1) = cn1 (z.1 / 4) (ens M)
          have := q1 (z.1 / 4)
          rw [if_neg (fun e => g' e.symm)] at this
          omega
        · show cn3 (z.1 / 4) ((b, q, w) :: E1) = cn3 (z.1 / 4) (ens M)
          have := q3 (z.1 / 4)
          rw [if_neg (fun e => j' e.symm)] at this
          omega) (by omega) hnl
  exact ⟨F1, by omega, R5⟩
theorem rn1_law {cf : Cf} {M : List (Int × Int × Int × (Int → Int))} {nx a x w b q w2 : Int} {y t u v o : Int × Int × Int × (Int → Int)} {P1 P3 P4 : Int → Int} {E1 : List (Int × Int × Int)} (h : RNp cf M nx a x w b q y t u) (hv : v ∈ M) (v1 : v.1 = 4 * b + 2) (v2 : erow v = (b, q, w2)) (hne : w ≠ w2) (ho : o ∈ M) (o1 : o.1 = 4 * w2) (cE : cn1 w2 (ens M) = 0) (c3E : cn3 w2 E1 = 0) (p1 : enF P1 b w q (rI4 v.2.2.2 40)) (hE : (ens M).Perm ((a, x, w) :: (b, q, w2) :: E1)) (p3 : dirI t P3 b 0) (p4 : dirI y P4 a (-1)) {M5 : List (Int × Int × Int × (Int → Int))} (e5 : M5 = mput (4 * a, 0, 48, P4) (if a = b then mforget w2 (mput (4 * b + 2, hs q + rI4 v.2.2.2 40, 48, P1) (mdel (ak u) M)) else mput (4 * b, 0, 48, P3) (mforget w2 (mput (4 * b + 2, hs q + rI4 v.2.2.2 40, 48, P1) (mdel (ak u) M))))) :
    WF cf (M5, nx) ∧ cpM M5 = cpM M - 240 - cpM (M.filter (fun y => decide (ofT w2 y))) ∧ RWS M5 ((nds M).filter (fun n => decide (n.1 ≠ w2))) ((b, q, w) :: E1) ((ats M).filter (fun r => decide (kpA w2 r))) ((pcs M).filter (fun p => decide (p.1 ≠ w2))) := by
  obtain ⟨W, hy, y1, yk, ht, t1, tk, hu, u1, u2, hq, nr⟩ := id h
  obtain ⟨bD, aD⟩ := h.b1
  have wr : WR (nds M) (ens M) (ats M) (pcs M) nx (fun _ => False) := W.wr
  obtain ⟨b1, bn1, bn2, bk, bs, ⟨bc1, bc2, bc3⟩, ⟨bcy, -, bca⟩, bak⟩ := nd_put W ht t1
  obtain ⟨d1, dn1, dn2, dk, ds, ⟨dc1, dc2, dc3⟩, ⟨dcy, -, dca⟩, dak⟩ := nd_put W hy y1
  obtain ⟨k1, kn1, kn2, kk, ks, ⟨kc1, kc2, kc3⟩, ⟨-, kcl, kca⟩, kak⟩ := nd_put W ho o1
  have dE := (dcy yk).1
  have bE := (bcy tk).1
  obtain ⟨-, -, slv, -, -⟩ := ent_it W hv v1 v2
  obtain ⟨R2, s2, o2, n2, n3, c2, -⟩ := rn_ent (f := rI4 v.2.2.2 40) W hu u1 u2 hq slv bD p1 (Or.inl ⟨v, w2, hv, v1, v2, rfl, hne, hE⟩) rfl
  have c2 := c2 ⟨w2, hE⟩
  have ca : 1 ≤ cn1 a (ens M) := by rw [perm_cn1 hE, cn1_i (show ((a, x, w) : Int × Int × Int).1 = a from rfl)]; omega
  have cb : 1 ≤ cn1 b (ens M) := by rw [perm_cn1 hE, cn1_cons, cn1_i (show ((b, q, w2) : Int × Int × Int).1 = b from rfl)]; omega
  have na2 : a ≠ w2 := fun e => by rw [e] at ca; omega
  have nb2 : b ≠ w2 := fun e => by rw [e] at cb; omega
  have cB : cpM (M.filter (fun y => decide (ofT w2 y))) = cpM ((mput (4 * b + 2, hs q + rI4 v.2.2.2 40, 48, P1) (mdel (ak u) M)).filter (fun y => decide (ofT w2 y))) := by
    -- entries are no part of the thing
    have e1 : ∀ (L : List (Int × Int × Int × (Int → Int))), cpM (L.filter (fun y => decide (ofT w2 y))) = cpM (L.filter (fun y => decide (ofT w2 y))) := fun _ => rfl
    have pm := mdel_old W.1.1 hu
    have nt : ∀ {z : Int × Int × Int × (Int → Int)} {L : List (Int × Int × Int × (Int → Int))}, z.1 % 4 = 2 → (z :: L).filter (fun y => decide (ofT w2 y)) = L.filter (fun y => decide (ofT w2 y)) := fun {z L} hz => by
      rw [List.filter_cons, if_neg (by rw [decide_eq_true_iff]; exact fun g => g.2 hz)]
    have s1 : Srm (mdel (ak u) M) := mdel_srm W.1.1
    have xk : (4 * b + 2, hs q + rI4 v.2.2.2 40, 48, P1).1 % 4 = 2 := by show (4 * b + 2) % 4 = 2; omega
    rw [cpM_p (pm.filter _), nt (by omega)]
    by_cases g : ∃ z, z ∈ mdel (ak u) M ∧ ak z = ak (4 * b + 2, hs q + rI4 v.2.2.2 40, 48, P1)
    · obtain ⟨z, z1, z2⟩ := g
      obtain ⟨K, j1, j2, -⟩ := mput_old s1 z1 z2
      have hz : z.1 % 4 = 2 := by
        have := (ak_x z2).1
        omega
      rw [cpM_p (j1.filter _), cpM_p (j2.filter _), nt hz, nt xk]
    · rw [cpM_p ((mput_new s1 (fun z hz e => g ⟨z, hz, e⟩)).filter _), nt xk]
  generalize mput (4 * b + 2, hs q + rI4 v.2.2.2 40, 48, P1) (mdel (ak u) M) = M2 at *
  have ff := fgt_fl (w := w2) o2
  have R3 := R2.fg (w := w2) o2
  have s3 : Srm (mforget w2 M2) := mforget_srm s2
  have o3 : IOK (mforget w2 M2) nx := by rw [ff]; exact o2.fl
  have mem : ∀ z, z ∈ mforget w2 M2 ↔ z ∈ M2 ∧ ¬ ofT w2 z := fun z => by
    rw [ff, List.mem_filter, Bool.not_eq_true', decide_eq_false_iff_not]
  have c3 : cpM (mforget w2 M2) = cpM M2 - cpM (M2.filter (fun y => decide (ofT w2 y))) := by
    have := cpM_split (p := fun y => decide (ofT w2 y)) (M := M2)
    rw [ff]; omega
  have st : ∀ {z : Int × Int × Int × (Int → Int)} {d : Int}, z ∈ M → z.1 = 4 * d → d ≠ w2 → z ∈ mforget w2 M2 := fun {z d} hz z1 nd => (mem z).mpr ⟨n2 z hz (by omega), fun e => nd (by have := e.1; omega)⟩
  have n3' : ∀ z, z ∈ mforget w2 M2 → z.1 % 4 = 0 → z ∈ M ∧ z.1 / 4 ≠ w2 := fun z hz z4 => by
    obtain ⟨g, g'⟩ := (mem z).mp hz
    exact ⟨n3 z g (by omega), fun e => g' ⟨e, by omega⟩⟩
  generalize mforget w2 M2 = M3 at *
  obtain ⟨R5, s5, o5, c5, n5⟩ := rn_nod (ea := -1) (eb := 0) W hy y1 yk ht t1 tk (st hy y1 na2) (st ht t1 nb2) R3 s3 o3 p3 p4 ⟨by omega, by omega⟩ e5
  obtain ⟨q1, q3⟩ := rn_cnt hE hne
  obtain ⟨-, ⟨kw, sw, wN⟩, w11⟩ := wr.2.2.1 _ (hE.mem_iff.mpr List.mem_cons_self)
  have wN : (w, kw, sw) ∈ nds M := wN
  obtain ⟨-, -, w21⟩ := wr.2.2.1 _ (hE.mem_iff.mpr (List.mem_cons_of_mem _ List.mem_cons_self))
  have w21 : w2 ≠ 1 := w21
  have sub : ∀ e, e ∈ E1 → e ∈ ens M := fun e he => hE.mem_iff.mpr (List.mem_cons_of_mem _ (List.mem_cons_of_mem _ he))
  have nd := ((hE.map ky2).nodup_iff).mp wr.2.2.2.2.2.1
  have nd2 : (((b, q, w2) :: E1).map ky2).Nodup := by rw [List.map_cons] at nd; exact (List.nodup_cons.mp nd).2
  have z1' := cn1_z.mp cE
  have z3' := cn3_z.mp c3E
  have D0 := ((wr.p (List.Perm.refl _) hE (List.Perm.refl _) (List.Perm.refl _)).delE.delE)
  have D00 := (D0.p (nd_fl wr.1.2 kn2) (List.Perm.refl _) (List.Perm.refl _) (List.Perm.refl _)).delN w21 (fun e he => z1' e (sub e he)) z3'
  obtain ⟨rk, hrk⟩ := wr.2.2.2.2.2.2.2.2
  have inN' : ∀ {r : Int × Int × Int}, r ∈ nds M → r.1 ≠ w2 → r ∈ (nds M).filter (fun n => decide (n.1 ≠ w2)) := fun {r} hr ne => (fl_mem (p := fun n : Int × Int × Int => n.1 ≠ w2)).mpr ⟨hr, ne⟩
  have ofN' : ∀ {r : Int × Int × Int}, r ∈ (nds M).filter (fun n => decide (n.1 ≠ w2)) → r ∈ nds M := fun {r} hr => ((fl_mem (p := fun n : Int × Int × Int => n.1 ≠ w2)).mp hr).1
  have anc' : ∀ {z : Int}, Anc ((nds M).filter (fun n => decide (n.1 ≠ w2))) E1 w z → Anc (nds M) (ens M) w z := fun {z} an => an.ind _ Anc.rf (fun _ _ _ _ ih h2 h3 => Anc.st ih (sub _ h2) (ofN' h3))
  have D1 := D00.addE (d := b) (x := q) (t := w) (k := kw) (s := sw) (inN' bD nb2) (inN' wN hne) w11 (ky_ne nd2) (fun z => by
    have := wr.2.2.2.2.2.2.1 _ wN z w11 id
    have this : cn3 w (ens M) = 1 := this
    have qq := q3 w
    rw [cn3_i (show ((b, q, w) : Int × Int × Int).2.2 = w from rfl), if_neg (fun e => hne e.symm)] at qq
    omega) (fun z => rk_up (rk := rk) (fun e he g => hrk e (sub e he) (ofN' g)) (fun an => nr (by
    have s0 : sw = 0 := (wr.1.1 _ wN).2 z
    rw [z, s0] at wN; exact wN) (anc' an)))
  have cp : cpM M ≤ capa cf := W.2.2.2.2.2.2.2.2.2.2.1
  have cN := cpM_nn (M := M.filter (fun y => decide (ofT w2 y))) (fun v hv => W.iok.sz v (List.mem_filter.mp hv).1)
  have szE := szR_of R5 o5
  obtain ⟨i4, r4, c4⟩ := it_n p4 (by omega) dc1 (by omega) (by omega) dc3
  obtain ⟨i3, r3, ct3⟩ := it_n p3 (by omega) bc1 (by omega) (by omega) bc3
  obtain ⟨F1, F2⟩ := WF.mk (cf := cf) (S := (M5, nx)) D1 R5 (fun n n1 nk2 _ z => by
    obtain ⟨z1, z2⟩ := z
    rcases z1 with (z1 | z1) | z1
    · exact z1
    · exact z2 z1
    · exact ((fl_mem (p := fun n : Int × Int × Int => n.1 ≠ w2)).mp n1).2 z1) s5 o5 (fun z hz z4 => by
    rcases n5 z hz z4 with g | ⟨g, g'⟩ | ⟨g, g', g''⟩
    · rw [g]
      refine c4 _ _ (fun _ => ?_) (fun e => absurd rfl e) (by rw [cn1_fl na2]; exact dca)
      have := q1 a
      rw [if_pos rfl] at this
      omega
    · rw [g']
      refine ct3 _ _ (fun _ => ?_) (fun e => absurd rfl e) (by rw [cn1_fl nb2]; exact bca)
      have := q1 b
      rw [if_neg g] at this
      omega
    · obtain ⟨j, j'⟩ := n3' z g z4
      refine (W.ct z j z4).ext ?_ ?_ (cn1_fl j')
      · show cn1 (z.1 / 4) ((b, q, w) :: E1) = cn1 (z.1 / 4) (ens M)
        have := q1 (z.1 / 4)
        rw [if_neg (fun e => g' e.symm)] at this
        omega
      · show cn3 (z.1 / 4) ((b, q, w) :: E1) = cn3 (z.1 / 4) (ens M)
        have := q3 (z.1 / 4)
        rw [if_neg (fun e => j' e.symm)] at this
        omega) (by omega) (by
    have a := nlc_fl (w := w2) (E := ens M) (E0 := (b, q, w) :: E1) (fun a ha => by
      have := q3 a
      rw [if_neg (fun e => ha e.symm)] at this
      omega) (N := nds M)
    have b : nlc (nds M) (ens M) ≤ 8 := W.nlr
    omega)
  exact ⟨F1, by omega, R5⟩
