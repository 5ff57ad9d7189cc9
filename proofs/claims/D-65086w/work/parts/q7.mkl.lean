/-! make: the tree after it -/
theorem RWS.same0 {N E A : List (Int × Int × Int)} {P : List (Int × Int × Int × (Int → Int))} {M : List (Int × Int × Int × (Int → Int))} {x y : Int × Int × Int × (Int → Int)} (h : RWS M N E A P) (hs : Srm M) (hy : y ∈ M) (hk : ak y = ak x) (q : x.1 % 4 = 0) (q' : y.1 % 4 = 0) (e : nrow x = nrow y) : RWS (mput x M) N E A P := by
  obtain ⟨K, k1, k2, -⟩ := mput_old hs hy hk
  have h' := h.of k1.symm
  refine RWS.of ?_ k2
  unfold RWS at h' ⊢
  rw [nds_cons, ens_cons, ats_cons, pcs_cons, if_pos q', if_neg (by omega), if_neg (by omega), if_neg (by omega)] at h'
  rw [nds_cons, ens_cons, ats_cons, pcs_cons, if_pos q, if_neg (by omega), if_neg (by omega), if_neg (by omega), e]
  exact h'
theorem ak_x {x : Int × Int × Int × (Int → Int)} {a l : Int} {P : Int → Int} {s : Int} (h : ak x = ak (a, l, s, P)) : x.1 = a ∧ x.2.1 % 18446744073709551616 = l % 18446744073709551616 := kap_in2 h
/-- an entry's key is new -/
theorem new_e {M : List (Int × Int × Int × (Int → Int))} {nx d nm f n : Int} {P : Int → Int} (ho : IOK M nx) (hf : 0 ≤ f ∧ f < 1024) (hk : ∀ z, z ∈ M → z.1 = 4 * d + 2 → z.2.1 ≠ hs nm + f) : ∀ z, z ∈ M → ak z ≠ ak (4 * d + 2, hs nm + f, n, P) := fun z hz q => by
  obtain ⟨q1, q2⟩ := ak_x q
  obtain ⟨-, -, -, -, e1, e2, e3⟩ := (ho z hz).2.1 (by omega)
  have h1 := hs_r nm
  have h2 := hs_r (rL8 z.2.2.2 32)
  exact hk z hz q1 (by omega)
/-- a directory's item with one entry more or less -/
def dirI (y : Int × Int × Int × (Int → Int)) (P : Int → Int) (d v : Int) : Prop := inF P d 1 (rI4 y.2.2.2 32) 0 (rI4 y.2.2.2 40 + v) (rI4 y.2.2.2 44)
theorem mk_law {cf : Cf} (hc : CfOK cf) {M : List (Int × Int × Int × (Int → Int))} {nx d x f kd sz : Int} {y : Int × Int × Int × (Int → Int)} {P1 P2 P3 P4 bs : Int → Int} (w : WF cf (M, nx)) (hy : y ∈ M) (y1 : y.1 = 4 * d) (yk : rI4 y.2.2.2 28 = 1) (hnm : nmV x) (he : ∀ e, e ∈ ens M → ¬ (e.1 = d ∧ e.2.1 = x)) (hf : 0 ≤ f ∧ f < 1024) (hk : ∀ z, z ∈ M → z.1 = 4 * d + 2 → z.2.1 ≠ hs x + f) (hkd : 1 ≤ kd ∧ kd ≤ 3) (hsz : (kd ≠ 3 → sz = 0) ∧ (kd = 3 → 1 ≤ sz ∧ sz ≤ 64)) (p1 : enF P1 d nx x f) (p2 : inF P2 nx kd 1 sz 0 0) (p3 : kd = 3 → piF P3 nx 0 sz bs) (hb : ∀ i, ¬ (0 ≤ i ∧ i < sz) → bs i = 0) (p4 : dirI y P4 d 1) (hcap : cpM M + (480 + (if kd = 3 then 224 + (sz + 7) / 8 * 8 else 0)) ≤ capa cf) {M2 M3 M4 : List (Int × Int × Int × (Int → Int))} (e2 : M2 = mput (4 * nx, 0, 48, P2) (mput (4 * d + 2, hs x + f, 48, P1) M)) (e3 : (kd = 3 → M3 = mput (4 * nx + 1, 0, 32 + (sz + 7) / 8 * 8, P3) M2) ∧ (kd ≠ 3 → M3 = M2)) (e4 : M4 = mput (4 * d, 0, 48, P4) M3) :
    WF cf (M4, nx + 1) ∧ cpM M4 = cpM M + (480 + (if kd = 3 then 224 + (sz + 7) / 8 * 8 else 0)) ∧ RWS M4 ((nx, kd, sz) :: nds M) ((d, x, nx) :: ens M) (ats M) (if kd = 3 then (nx, 0, sz, bs) :: pcs M else pcs M) := by
  have wr : WR (nds M) (ens M) (ats M) (pcs M) nx (fun _ => False) := w.wr
  have n1 := wr.nx1
  have s0 : Srm M := w.1.1
  have o0 : IOK M nx := w.iok
  have yd := (o0 y hy).2.2.2.2
  have d1 : 1 ≤ d ∧ d < nx := by omega
  have yN := w.nat hy y1
  rw [yN.1, yk] at yN
  have ys : rI4 y.2.2.2 36 = 0 := ((w.2.2.2.2.2.2.1 y hy (by omega)).1 yk).2
  rw [ys] at yN
  obtain ⟨i1, r1⟩ := it_e p1 hnm (by omega) hf
  obtain ⟨i2, r2, c2⟩ := it_n p2 hkd (by omega) (by omega) (by omega) (by omega)
  have hn1 := new_e (n := 48) (P := P1) o0 hf hk
  have R1 := (RWS.rf M).n2 s0 hn1 (show (4 * d + 2) % 4 = 2 by omega)
  rw [r1] at R1
  have s1 : Srm (mput (4 * d + 2, hs x + f, 48, P1) M) := mput_srm s0
  have o1 : IOK (mput (4 * d + 2, hs x + f, 48, P1) M) nx := o0.put i1 (by show 1 ≤ (4 * d + 2) / 4 ∧ (4 * d + 2) / 4 < nx; omega)
  have m1 : ∀ z, z ∈ mput (4 * d + 2, hs x + f, 48, P1) M → z.1 % 4 = 0 → z ∈ M := fun z hz z4 => by
    rcases mput_mem.mp hz with q | q
    · rw [q] at z4; have z4 : (4 * d + 2) % 4 = 0 := z4; omega
    · exact q.1
  have y1' : y ∈ mput (4 * d + 2, hs x + f, 48, P1) M := mput_mem.mpr (Or.inr ⟨hy, hn1 y hy⟩)
  generalize mput (4 * d + 2, hs x + f, 48, P1) M = M1 at *
  have hn2 : ∀ z, z ∈ M1 → ak z ≠ ak (4 * nx, 0, 48, P2) := nk_n o1 (Or.inl rfl)
  have R2 := R1.n0 s1 hn2 (show (4 * nx) % 4 = 0 by omega)
  rw [r2, ← e2] at R2
  have s2 : Srm M2 := by rw [e2]; exact mput_srm s1
  have o2 : IOK M2 (nx + 1) := by rw [e2]; exact (o1.up (by omega)).put i2 (by show 1 ≤ 4 * nx / 4 ∧ 4 * nx / 4 < nx + 1; omega)
  have m2 : ∀ z, z ∈ M2 → z.1 % 4 = 0 → z = (4 * nx, 0, 48, P2) ∨ z ∈ M := fun z hz z4 => by
    rw [e2] at hz
    rcases mput_mem.mp hz with q | q
    · exact Or.inl q
    · exact Or.inr (m1 z q.1 z4)
  have y2' : y ∈ M2 := by rw [e2]; exact mput_mem.mpr (Or.inr ⟨y1', hn2 y y1'⟩)
  have h3 : RWS M3 ((nx, kd, sz) :: nds M) ((d, x, nx) :: ens M) (ats M) (if kd = 3 then (nx, 0, sz, bs) :: pcs M else pcs M) ∧ Srm M3 ∧ IOK M3 (nx + 1) ∧ (∀ z, z ∈ M3 → z.1 % 4 = 0 → z = (4 * nx, 0, 48, P2) ∨ z ∈ M) ∧ y ∈ M3 := by
    by_cases q : kd = 3
    · obtain ⟨i3, r3⟩ := it_p (p3 q) (by omega) (hsz.2 q) hb
      have hn3 : ∀ z, z ∈ M2 → ak z ≠ ak (4 * nx + 1, 0, 32 + (sz + 7) / 8 * 8, P3) := fun z hz v => by
        rw [e2] at hz
        rcases mput_mem.mp hz with u | u
        · rw [u] at v
          have := (ak_x v).1
          have : 4 * nx = 4 * nx + 1 := this
          omega
        · exact nk_n o1 (Or.inr rfl) z u.1 v
      rw [if_pos q, e3.1 q]
      have R3 := R2.n1 s2 hn3 (show (4 * nx + 1) % 4 = 1 by omega)
      rw [r3] at R3
      refine ⟨R3, mput_srm s2, o2.put i3 (by show 1 ≤ (4 * nx + 1) / 4 ∧ (4 * nx + 1) / 4 < nx + 1; omega), fun z hz z4 => ?_, mput_mem.mpr (Or.inr ⟨y2', hn3 y y2'⟩)⟩
      rcases mput_mem.mp hz with u | u
      · rw [u] at z4; have z4 : (4 * nx + 1) % 4 = 0 := z4; omega
      · exact m2 z u.1 z4
    · rw [if_neg q, e3.2 q]
      exact ⟨R2, s2, o2, m2, y2'⟩
  obtain ⟨R3, s3, o3, m3, y3'⟩ := h3
  have cy : CT (ens M) (ats M) y := w.ct y hy (by omega)
  unfold CT at cy
  rw [show y.1 / 4 = d by omega] at cy
  obtain ⟨cy1, cy2, cy3⟩ := cy
  have cy1 := cy1 yk
  obtain ⟨i4, r4, c4⟩ := it_n p4 (by omega) (by have := ((o0 y hy).1 (by omega)).2.2.2.2.1; omega) (by omega) (by omega) (by omega)
  have ky' : ak y = ak (4 * d, 0, 48, P4) := by
    show kap y.1 y.2.1 = kap (4 * d) 0
    rw [y1, ((o0 y hy).1 (by omega)).1]
  have R4 := R3.same0 s3 y3' ky' (show 4 * d % 4 = 0 by omega) (by omega) (by rw [r4, (w.nat hy y1).1, yk, ys])
  rw [← e4] at R4
  -- the rows
  have z3 : cn3 nx (ens M) = 0 := cn3_z.mpr (fun e he' => (wr.nxE e he').2)
  have z1 : cn1 nx (ens M) = 0 := cn1_z.mpr (fun e he' => (wr.nxE e he').1)
  have za : cn1 nx (ats M) = 0 := cn1_z.mpr (fun e he' => by
    obtain ⟨k, s, q⟩ := wr.2.2.2.1 e he'
    exact wr.nxN (e.1, k, s) q)
  have WA := wr.addN (P' := if kd = 3 then (nx, 0, sz, bs) :: pcs M else pcs M) (k := kd) (s := sz) (fun q => hsz.1 (by omega)) (fun q => ⟨hsz.2 q, bs, by rw [if_pos q]; exact List.mem_cons_self⟩) (fun p hp => by
    by_cases q : kd = 3
    · rw [if_pos q] at hp
      rcases List.mem_cons.mp hp with u | u
      · rw [u]; exact Or.inr ⟨rfl, by omega, by show 64 * 0 + sz ≤ sz; omega, fun _ => rfl⟩
      · exact Or.inl u
    · rw [if_neg q] at hp; exact Or.inl hp) (fun p hp => by
    by_cases q : kd = 3
    · rw [if_pos q]; exact List.mem_cons_of_mem _ hp
    · rw [if_neg q]; exact hp)
  have WE := WA.addE (d := d) (x := x) (t := nx) (List.mem_cons_of_mem _ yN.2) List.mem_cons_self (by omega) he (fun _ => z3) (fun q => by
    obtain ⟨rk, k1⟩ := wr.2.2.2.2.2.2.2.2
    refine ⟨fun z => if z = nx then rk d + 1 else rk z, fun e he' v => ?_, ?_⟩
    · obtain ⟨v1, v2⟩ := wr.nxE e he'
      show (if e.1 = nx then rk d + 1 else rk e.1) < (if e.2.2 = nx then rk d + 1 else rk e.2.2)
      rw [if_neg v1, if_neg v2]
      refine k1 e he' ?_
      rcases List.mem_cons.mp v with u | u
      · rw [Prod.mk.injEq] at u; exact absurd u.1 v2
      · exact u
    · show (if d = nx then rk d + 1 else rk d) < (if nx = nx then rk d + 1 else rk nx)
      rw [if_neg (by omega), if_pos rfl]; omega)
  have pS : pSum (if kd = 3 then (nx, 0, sz, bs) :: pcs M else pcs M) = pSum (pcs M) + (if kd = 3 then 224 + (sz + 7) / 8 * 8 else 0) := by
    by_cases q : kd = 3
    · rw [if_pos q, if_pos q]; unfold pSum; rw [List.map_cons, List.sum_cons]; show (224 + (sz + 7) / 8 * 8) + _ = _; omega
    · rw [if_neg q, if_neg q]; omega
  have zz := w.szr
  have zz : cpM M = szR (nds M) (ens M) (ats M) (pcs M) := zz
  have szE : szR ((nx, kd, sz) :: nds M) ((d, x, nx) :: ens M) (ats M) (if kd = 3 then (nx, 0, sz, bs) :: pcs M else pcs M) = cpM M + (480 + (if kd = 3 then 224 + (sz + 7) / 8 * 8 else 0)) := by
    rw [zz]; unfold szR; rw [pS, List.length_cons, List.length_cons]; omega
  obtain ⟨F1, F2⟩ := WF.mk (cf := cf) (S := (M4, nx + 1)) WE R4 (fun n _ _ _ q => q.1.elim id (fun v => q.2 v)) (by show Srm M4; rw [e4]; exact mput_srm s3) (by show IOK M4 (nx + 1); rw [e4]; exact o3.put i4 (by show 1 ≤ 4 * d / 4 ∧ 4 * d / 4 < nx + 1; omega)) (fun z hz z4 => by
    have hz : z ∈ M4 := hz
    rw [e4] at hz
    rcases mput_mem.mp hz with u | ⟨u, u'⟩
    · rw [u]
      refine c4 _ _ (fun _ => ?_) (fun q => absurd rfl q) (by rw [cy3])
      rw [cn1_i (show ((d, x, nx) : Int × Int × Int).1 = d from rfl), cy1]; omega
    · rcases m3 z u z4 with v | v
      · rw [v]
        refine c2 _ _ (fun q => ?_) (fun q => ?_) ?_
        · rw [cn1_o (by show d ≠ nx; omega), z1]; rfl
        · rw [cn3_i (by rfl), z3]; rfl
        · rw [za]; rfl
      · have nd := o0.ne v z4 u'
        have lt := (o0 z v).2.2.2.2.2
        exact (w.ct z v z4).ext (cn1_o (fun q => nd q.symm)) (cn3_o (by show nx ≠ _; omega)) rfl) (by rw [szE]; exact hcap) (by
    show nlc ((nx, kd, sz) :: nds M) ((d, x, nx) :: ens M) ≤ 8
    have a := nlc_addE (N := nds M) (E := ens M) (e := (d, x, nx))
    have b := w.nlr
    have b : nlc (nds M) (ens M) ≤ 8 := b
    rw [nlc_cons, if_neg (fun q => by
      have := q.2
      rw [cn3_i (by rfl), z3] at this
      omega)]
    omega)
  exact ⟨F1, by rw [← szE]; exact F2, R4⟩
