/-! two entries change what they name: the tree after it -/
/-- an entry's item -/
theorem ent_it {cf : Cf} {M : List (Int × Int × Int × (Int → Int))} {nx a x w : Int} {u : Int × Int × Int × (Int → Int)} (W : WF cf (M, nx)) (hu : u ∈ M) (u1 : u.1 = 4 * a + 2) (u2 : erow u = (a, x, w)) : nmV x ∧ 1 ≤ w ∧ (0 ≤ rI4 u.2.2.2 40 ∧ rI4 u.2.2.2 40 < 1024) ∧ u.2.2.1 = 48 ∧ ∀ P s, ak u = ak (4 * a + 2, hs x + rI4 u.2.2.2 40, s, P) := by
  have ou := (W.iok u hu).2.1 (by omega)
  have e : rL8 u.2.2.2 32 = x ∧ rI4 u.2.2.2 28 = w := by
    unfold erow at u2; rw [Prod.mk.injEq, Prod.mk.injEq] at u2; exact u2.2
  rw [e.1, e.2] at ou
  refine ⟨ou.2.2.1, ou.2.2.2.1, ou.2.2.2.2.2, ou.1, fun P s => ?_⟩
  show kap u.1 u.2.1 = kap (4 * a + 2) (hs x + rI4 u.2.2.2 40)
  rw [u1, ou.2.2.2.2.1]
theorem ky_ne {a x w : Int} {E : List (Int × Int × Int)} (h : (((a, x, w) :: E).map ky2).Nodup) : ∀ q, q ∈ E → ¬ (q.1 = a ∧ q.2.1 = x) := fun q hq ⟨e1, e2⟩ => by
  rw [List.map_cons] at h
  exact (List.nodup_cons.mp h).1 (List.mem_map.mpr ⟨q, hq, by unfold ky2; rw [e1, e2]⟩)
theorem nlc_eq {N E E' : List (Int × Int × Int)} (h : ∀ t, cn3 t E' = cn3 t E) : nlc N E' = nlc N E := by
  unfold nlc
  congr 1
  exact List.filter_congr (fun n _ => by rw [h])
theorem sw_law {cf : Cf} {M : List (Int × Int × Int × (Int → Int))} {nx a x w b y w2 : Int} {u v : Int × Int × Int × (Int → Int)} {P1 P2 : Int → Int} {E1 : List (Int × Int × Int)} (W : WF cf (M, nx)) (hu : u ∈ M) (u1 : u.1 = 4 * a + 2) (u2 : erow u = (a, x, w)) (hv : v ∈ M) (v1 : v.1 = 4 * b + 2) (v2 : erow v = (b, y, w2)) (hE : (ens M).Perm ((a, x, w) :: (b, y, w2) :: E1)) (hne : w ≠ w2) (p1 : enF P1 a w2 x (rI4 u.2.2.2 40)) (p2 : enF P2 b w y (rI4 v.2.2.2 40)) (na1 : (w, 1, 0) ∈ nds M → ¬ Anc (nds M) (ens M) w b) (na2 : (w2, 1, 0) ∈ nds M → ¬ Anc (nds M) (ens M) w2 a) {M4 : List (Int × Int × Int × (Int → Int))} (e4 : M4 = mput (4 * b + 2, hs y + rI4 v.2.2.2 40, 48, P2) (mput (4 * a + 2, hs x + rI4 u.2.2.2 40, 48, P1) M)) :
    WF cf (M4, nx) ∧ cpM M4 = cpM M ∧ RWS M4 (nds M) ((a, x, w2) :: (b, y, w) :: E1) (ats M) (pcs M) := by
  have wr : WR (nds M) (ens M) (ats M) (pcs M) nx (fun _ => False) := W.wr
  have s0 : Srm M := W.1.1
  have o0 : IOK M nx := W.iok
  obtain ⟨nx1, w1', sl1, sz1, ku⟩ := ent_it W hu u1 u2
  obtain ⟨ny1, w2', sl2, sz2, kv⟩ := ent_it W hv v1 v2
  obtain ⟨i1, r1⟩ := it_e p1 nx1 w2' sl1
  obtain ⟨i2, r2⟩ := it_e p2 ny1 w1' sl2
  have mu : (a, x, w) ∈ ens M := hE.mem_iff.mpr List.mem_cons_self
  have mv : (b, y, w2) ∈ ens M := hE.mem_iff.mpr (List.mem_cons_of_mem _ List.mem_cons_self)
  have aN := wr.1.1 _ (wr.2.2.1 _ mu).1
  have bN := wr.1.1 _ (wr.2.2.1 _ mv).1
  have nd := ((hE.map ky2).nodup_iff).mp wr.2.2.2.2.2.1
  have kn1 := ky_ne nd
  have nd2 : (((b, y, w2) :: E1).map ky2).Nodup := by rw [List.map_cons] at nd; exact (List.nodup_cons.mp nd).2
  have kn2 := ky_ne nd2
  have nab : ¬ (b = a ∧ y = x) := kn1 (b, y, w2) List.mem_cons_self
  have R0 := (RWS.rf M).pm (List.Perm.refl _) hE (List.Perm.refl _) (List.Perm.refl _)
  rw [← u2] at R0
  have R1 := R0.o2 s0 hu (ku P1 48) (show (4 * a + 2) % 4 = 2 by omega) (by omega)
  rw [r1] at R1
  have s1 : Srm (mput (4 * a + 2, hs x + rI4 u.2.2.2 40, 48, P1) M) := mput_srm s0
  have o1 : IOK (mput (4 * a + 2, hs x + rI4 u.2.2.2 40, 48, P1) M) nx := o0.put i1 (by show 1 ≤ (4 * a + 2) / 4 ∧ (4 * a + 2) / 4 < nx; have a1 : 1 ≤ a ∧ a < nx := aN.1; omega)
  have v' : v ∈ mput (4 * a + 2, hs x + rI4 u.2.2.2 40, 48, P1) M := mput_mem.mpr (Or.inr ⟨hv, fun q => by
    rw [← ku P1 48] at q
    have := s0.inj hv hu q
    rw [this, u2, Prod.mk.injEq, Prod.mk.injEq] at v2
    exact nab ⟨v2.1.symm, v2.2.1.symm⟩⟩)
  have m1 : ∀ z, z ∈ mput (4 * a + 2, hs x + rI4 u.2.2.2 40, 48, P1) M → z.1 % 4 = 0 → z ∈ M := fun z hz z4 => by
    rcases mput_mem.mp hz with q | q
    · rw [q] at z4; have z4 : (4 * a + 2) % 4 = 0 := z4; omega
    · exact q.1
  have c1 : cpM (mput (4 * a + 2, hs x + rI4 u.2.2.2 40, 48, P1) M) = cpM M := by
    obtain ⟨K, k1, k2, -⟩ := mput_old s0 hu (ku P1 48)
    rw [cpM_p k2, cpM_p k1, cpM_cons, cpM_cons, sz1]
  generalize mput (4 * a + 2, hs x + rI4 u.2.2.2 40, 48, P1) M = M1 at *
  have R1' := R1.pm (List.Perm.refl _) (List.Perm.swap _ _ _) (List.Perm.refl _) (List.Perm.refl _)
  rw [← v2] at R1'
  have R2 := R1'.o2 s1 v' (kv P2 48) (show (4 * b + 2) % 4 = 2 by omega) (by omega)
  rw [r2, ← e4] at R2
  have s2 : Srm M4 := by rw [e4]; exact mput_srm s1
  have o2 : IOK M4 nx := by rw [e4]; exact o1.put i2 (by show 1 ≤ (4 * b + 2) / 4 ∧ (4 * b + 2) / 4 < nx; have b1 : 1 ≤ b ∧ b < nx := bN.1; omega)
  have m2 : ∀ z, z ∈ M4 → z.1 % 4 = 0 → z ∈ M := fun z hz z4 => by
    rw [e4] at hz
    rcases mput_mem.mp hz with q | q
    · rw [q] at z4; have z4 : (4 * b + 2) % 4 = 0 := z4; omega
    · exact m1 z q.1 z4
  have c2 : cpM M4 = cpM M := by
    obtain ⟨K, k1, k2, -⟩ := mput_old s1 v' (kv P2 48)
    rw [e4, cpM_p k2, ← c1, cpM_p k1, cpM_cons, cpM_cons, sz2]
  -- counts
  have q1 : ∀ t, cn1 t ((b, y, w) :: (a, x, w2) :: E1) = cn1 t (ens M) := fun t => by
    rw [perm_cn1 hE, cn1_cons, cn1_cons, cn1_cons, cn1_cons]
    show _ + (if a = t then 1 else 0) + (if b = t then 1 else 0) = _ + (if b = t then 1 else 0) + (if a = t then 1 else 0)
    omega
  have q3 : ∀ t, cn3 t ((b, y, w) :: (a, x, w2) :: E1) = cn3 t (ens M) := fun t => by
    rw [perm_cn3 hE, cn3_cons, cn3_cons, cn3_cons, cn3_cons]
  have o3 : ∀ t k s, (t, k, s) ∈ nds M → k ≠ 2 → t ≠ 1 → cn3 t E1 + (if w2 = t then 1 else 0) + (if w = t then 1 else 0) = 1 := fun t k s ht hk t1 => by
    have := wr.2.2.2.2.2.2.1 _ ht hk t1 id
    have this : cn3 t (ens M) = 1 := this
    rw [perm_cn3 hE, cn3_cons, cn3_cons] at this
    exact this
  obtain ⟨rk, hrk⟩ := wr.2.2.2.2.2.2.2.2
  have sub : ∀ e, e ∈ E1 → e ∈ ens M := fun e he => hE.mem_iff.mpr (List.mem_cons_of_mem _ (List.mem_cons_of_mem _ he))
  have hrk1 : RKo (nds M) E1 rk := fun e he => hrk e (sub e he)
  obtain ⟨aD, ⟨kw, sw, wN⟩, w11⟩ := wr.2.2.1 _ mu
  obtain ⟨bD, ⟨kw2, sw2, w2N⟩, w21⟩ := wr.2.2.1 _ mv
  have D0 := ((wr.p (List.Perm.refl _) hE (List.Perm.refl _) (List.Perm.refl _)).delE).delE
  have dirz : ∀ {t k s : Int}, (t, k, s) ∈ nds M → k = 1 → (t, 1, 0) ∈ nds M := fun {t k s} h q => by
    have := (wr.1.1 _ h).2 q
    have s0 : s = 0 := this
    rw [q, s0] at h; exact h
  have D1 := D0.addE (d := a) (x := x) (t := w2) (k := kw2) (s := sw2) aD w2N w21 (fun q hq => kn1 q (List.mem_cons_of_mem _ hq)) (fun q => by
    have := o3 w2 kw2 sw2 w2N q w21
    rw [if_pos rfl, if_neg hne] at this
    omega) (fun q => rk_up hrk1 (fun an => na2 (dirz w2N q) (an.mono sub)))
  obtain ⟨rk2, hrk2⟩ := D1.2.2.2.2.2.2.2.2
  have D2 := D1.addE (d := b) (x := y) (t := w) (k := kw) (s := sw) bD wN w11 (fun q hq => by
    rcases List.mem_cons.mp hq with e | e
    · rw [e]; exact fun z => nab ⟨z.1.symm, z.2.symm⟩
    · exact kn2 q e) (fun q => by
    have := o3 w kw sw wN q w11
    rw [if_pos rfl, if_neg (fun e => hne e.symm)] at this
    rw [cn3_cons, show (if ((a, x, w2) : Int × Int × Int).2.2 = w then 1 else 0) = 0 from if_neg (fun e => hne (show w2 = w from e).symm)]
    omega) (fun q => rk_up hrk2 (fun an => by
    rcases an.add with z | ⟨z, -⟩
    · exact na1 (dirz wN q) (z.mono sub)
    · have l1 := (z.mono sub).le' hrk
      have l2 : rk a < rk w := hrk _ mu (dirz wN q)
      omega))
  have hl : (ens M).length = E1.length + 1 + 1 := by rw [hE.length_eq, List.length_cons, List.length_cons]
  have zz : cpM M = szR (nds M) (ens M) (ats M) (pcs M) := W.szr
  have szE : szR (nds M) ((b, y, w) :: (a, x, w2) :: E1) (ats M) (pcs M) = cpM M := by
    rw [zz]; unfold szR; rw [List.length_cons, List.length_cons, hl]
  have cp : cpM M ≤ capa cf := W.2.2.2.2.2.2.2.2.2.2.1
  obtain ⟨F1, F2⟩ := WF.mk (cf := cf) (S := (M4, nx)) D2 R2 (fun n n1 _ _ q => by
    obtain ⟨⟨q1, q2⟩, q3⟩ := q
    rcases q1 with (q1 | q1) | q1
    · exact q1
    · exact q3 q1
    · exact q2 q1) s2 o2 (fun z hz z4 => (W.ct z (m2 z hz z4) z4).ext (q1 _) (q3 _) rfl) (by omega) (by
    rw [nlc_eq q3]; exact W.nlr)
  exact ⟨F1, c2, R2.pm (List.Perm.refl _) (List.Perm.swap _ _ _) (List.Perm.refl _) (List.Perm.refl _)⟩
