/-! a file gets other pieces, another size: the tree after it -/
theorem pSum_c {w k n : Int} {b : Int → Int} {P : List (Int × Int × Int × (Int → Int))} : pSum ((w, k, n, b) :: P) = 224 + (n + 7) / 8 * 8 + pSum P := by
  unfold pSum; rw [List.map_cons, List.sum_cons]
theorem sz_gen {cf : Cf} {M M4 : List (Int × Int × Int × (Int → Int))} {nx w s' : Int} {z : Int × Int × Int × (Int → Int)} {P' : List (Int × Int × Int × (Int → Int))} {P4 : Int → Int} {N0 : List (Int × Int × Int)} (W : WF cf (M, nx)) (hz : z ∈ M) (z1 : z.1 = 4 * w) (zk : rI4 z.2.2.2 28 = 2) (hN : (nds M).Perm ((w, 2, rI4 z.2.2.2 36) :: N0)) (R4 : RWS M4 ((w, 2, s') :: N0) (ens M) (ats M) P') (s4 : Srm M4) (o4 : IOK M4 nx) (m4 : ∀ v, v ∈ M4 → v.1 % 4 = 0 → v = (4 * w, 0, 48, P4) ∨ v ∈ M) (hs' : 0 ≤ s' ∧ s' ≤ 16384) (hp : ∀ p, p ∈ P' → (p ∈ pcs M ∧ p.1 ≠ w) ∨ (p.1 = w ∧ 64 * p.2.1 + p.2.2.1 ≤ s')) (hpp : ∀ p, p ∈ pcs M → p.1 ≠ w → p ∈ P') (p4 : inF P4 w 2 (rI4 z.2.2.2 32) s' (rI4 z.2.2.2 40) (rI4 z.2.2.2 44)) (hcap : cpM M + (pSum P' - pSum (pcs M)) ≤ capa cf) :
    WF cf (M4, nx) ∧ cpM M4 = cpM M + (pSum P' - pSum (pcs M)) := by
  have wr : WR (nds M) (ens M) (ats M) (pcs M) nx (fun _ => False) := W.wr
  obtain ⟨n1, nn1, nn2, nk, ns, ⟨nc1, nc2, nc3⟩, ⟨ncd, ncl, nca⟩, nak⟩ := nd_put W hz z1
  obtain ⟨i4, r4, c4⟩ := it_n p4 (by omega) nc1 hs' nc2 (by omega)
  have zz : cpM M = szR (nds M) (ens M) (ats M) (pcs M) := W.szr
  have ln := hN.length_eq
  rw [List.length_cons] at ln
  have szE : szR ((w, 2, s') :: N0) (ens M) (ats M) P' = cpM M + (pSum P' - pSum (pcs M)) := by
    rw [zz]; unfold szR; rw [List.length_cons]; omega
  obtain ⟨F1, F2⟩ := WF.mk (cf := cf) (S := (M4, nx)) ((wr.p hN (List.Perm.refl _) (List.Perm.refl _) (List.Perm.refl _)).sz hp hpp) R4 (fun _ _ _ _ q => q) s4 o4 (fun v hv v4 => by
    rcases m4 v hv v4 with u | u
    · rw [u]
      exact c4 _ _ (fun q => absurd q (by decide)) (fun _ => ncl (by omega)) nca
    · exact W.ct v u v4) (by rw [szE]; exact hcap) (by
    have a : nlc (nds M) (ens M) ≤ 8 := W.nlr
    have b : nlc (nds M) (ens M) = nlc ((w, 2, rI4 z.2.2.2 36) :: N0) (ens M) := by unfold nlc; exact (hN.filter _).length_eq
    rw [b, nlc_cons] at a
    rw [nlc_cons]; exact a)
  exact ⟨F1, by rw [← szE]; exact F2⟩
theorem sz_law {cf : Cf} {M M1 : List (Int × Int × Int × (Int → Int))} {nx w s' : Int} {z : Int × Int × Int × (Int → Int)} {P' : List (Int × Int × Int × (Int → Int))} {P4 : Int → Int} {N0 : List (Int × Int × Int)} (W : WF cf (M, nx)) (hz : z ∈ M) (z1 : z.1 = 4 * w) (zk : rI4 z.2.2.2 28 = 2) (hN : (nds M).Perm ((w, 2, rI4 z.2.2.2 36) :: N0)) (R1 : RWS M1 (nds M) (ens M) (ats M) P') (s1 : Srm M1) (o1 : IOK M1 nx) (z1' : z ∈ M1) (m1 : ∀ v, v ∈ M1 → v.1 % 4 = 0 → v ∈ M) (hs' : 0 ≤ s' ∧ s' ≤ 16384) (hp : ∀ p, p ∈ P' → (p ∈ pcs M ∧ p.1 ≠ w) ∨ (p.1 = w ∧ 64 * p.2.1 + p.2.2.1 ≤ s')) (hpp : ∀ p, p ∈ pcs M → p.1 ≠ w → p ∈ P') (p4 : inF P4 w 2 (rI4 z.2.2.2 32) s' (rI4 z.2.2.2 40) (rI4 z.2.2.2 44)) (hcap : cpM M + (pSum P' - pSum (pcs M)) ≤ capa cf) {M4 : List (Int × Int × Int × (Int → Int))} (e4 : M4 = mput (4 * w, 0, 48, P4) M1) :
    WF cf (M4, nx) ∧ cpM M4 = cpM M + (pSum P' - pSum (pcs M)) ∧ RWS M4 ((w, 2, s') :: N0) (ens M) (ats M) P' := by
  obtain ⟨n1, nn1, nn2, nk, ns, ⟨nc1, nc2, nc3⟩, ⟨ncd, ncl, nca⟩, nak⟩ := nd_put W hz z1
  obtain ⟨i4, r4, c4⟩ := it_n p4 (by omega) nc1 hs' nc2 (by omega)
  have R2 := R1.pm hN (List.Perm.refl _) (List.Perm.refl _) (List.Perm.refl _)
  rw [← zk, ← nn1] at R2
  have R4 := R2.o0 s1 z1' (nak P4 48) (show 4 * w % 4 = 0 by omega) (by omega)
  rw [r4, ← e4] at R4
  have L := sz_gen (cf := cf) (P4 := P4) W hz z1 zk hN R4 (by rw [e4]; exact mput_srm s1) (by rw [e4]; exact o1.put i4 (by show 1 ≤ 4 * w / 4 ∧ 4 * w / 4 < nx; omega)) (fun v hv v4 => by
    rw [e4] at hv
    rcases mput_mem.mp hv with u | ⟨u, u'⟩
    · exact Or.inl u
    · exact Or.inr (m1 v u v4)) hs' hp hpp p4 hcap
  exact ⟨L.1, L.2, R4⟩
/-- what there is of a piece: its length and bytes, none of them; the others -/
def pcO (P : List (Int × Int × Int × (Int → Int))) (w k l : Int) (b : Int → Int) (P0 : List (Int × Int × Int × (Int → Int))) : Prop := (1 ≤ l ∧ P.Perm ((w, k, l, b) :: P0)) ∨ (l = 0 ∧ (b = fun _ => 0) ∧ P0 = P ∧ ∀ p, p ∈ P → ¬ (p.1 = w ∧ p.2.1 = k))
/-- a piece takes so many bytes -/
def szp (l : Int) : Int := if l = 0 then 0 else 224 + (l + 7) / 8 * 8
theorem pcO.sum {P P0 : List (Int × Int × Int × (Int → Int))} {w k l : Int} {b : Int → Int} (h : pcO P w k l b P0) : pSum P = szp l + pSum P0 := by
  rcases h with ⟨a, b⟩ | ⟨a, -, c, -⟩
  · rw [perm_pS b]
    rw [pSum_c]
    unfold szp; rw [if_neg (by omega)]
  · rw [a, c]; unfold szp; rw [if_pos rfl]; omega
/-- the item of a piece, if there is one -/
def pcI (M : List (Int × Int × Int × (Int → Int))) (w k l : Int) (b : Int → Int) (P0 : List (Int × Int × Int × (Int → Int))) : Prop := (∃ y, y ∈ M ∧ y.1 = 4 * w + 1 ∧ y.2.1 = k ∧ prow y = (w, k, l, b) ∧ (pcs M).Perm ((w, k, l, b) :: P0)) ∨ (l = 0 ∧ (b = fun _ => 0) ∧ P0 = pcs M ∧ ∀ y, y ∈ M → y.1 = 4 * w + 1 → y.2.1 ≠ k)
theorem pcI.o {cf : Cf} {M : List (Int × Int × Int × (Int → Int))} {nx w k l : Int} {b : Int → Int} {P0 : List (Int × Int × Int × (Int → Int))} (W : WF cf (M, nx)) (h : pcI M w k l b P0) : pcO (pcs M) w k l b P0 := by
  rcases h with ⟨y, y1, y2, y3, y4, y5⟩ | ⟨a, b, c, d⟩
  · have o := (W.iok y y1).2.2.2.1 (by omega)
    have : plen y = l := congrArg (fun r => r.2.2.1) y4
    exact Or.inl ⟨by omega, y5⟩
  · refine Or.inr ⟨a, b, c, fun p hp q => ?_⟩
    unfold pcs pkT at hp
    obtain ⟨y, y1, y2⟩ := List.mem_map.mp hp
    obtain ⟨y3, y4⟩ := List.mem_filter.mp y1
    rw [← y2] at q
    have q1 : y.1 / 4 = w := q.1
    have q4 : y.1 % 4 = 1 := of_decide_eq_true y4
    exact d y y3 (by omega) q.2
theorem wr_law {cf : Cf} {M : List (Int × Int × Int × (Int → Int))} {nx w k n l s' : Int} {z : Int × Int × Int × (Int → Int)} {b b0 P1 P4 : Int → Int} {N0 : List (Int × Int × Int)} {P0 : List (Int × Int × Int × (Int → Int))} (W : WF cf (M, nx)) (hz : z ∈ M) (z1 : z.1 = 4 * w) (zk : rI4 z.2.2.2 28 = 2) (hN : (nds M).Perm ((w, 2, rI4 z.2.2.2 36) :: N0)) (hI : pcI M w k l b0 P0) (hk : 0 ≤ k ∧ k < 256) (hn : 1 ≤ n ∧ n ≤ 64) (hb : ∀ i, ¬ (0 ≤ i ∧ i < n) → b i = 0) (p1 : piF P1 w k n b) (hs : rI4 z.2.2.2 36 ≤ s' ∧ 64 * k + n ≤ s' ∧ s' ≤ 16384) (p4 : inF P4 w 2 (rI4 z.2.2.2 32) s' (rI4 z.2.2.2 40) (rI4 z.2.2.2 44)) (hcap : cpM M + (szp n - szp l) ≤ capa cf) {M4 : List (Int × Int × Int × (Int → Int))} (e4 : M4 = mput (4 * w, 0, 48, P4) (mput (4 * w + 1, k, 32 + (n + 7) / 8 * 8, P1) M)) :
    WF cf (M4, nx) ∧ cpM M4 = cpM M + (szp n - szp l) ∧ RWS M4 ((w, 2, s') :: N0) (ens M) (ats M) ((w, k, n, b) :: P0) := by
  have wr : WR (nds M) (ens M) (ats M) (pcs M) nx (fun _ => False) := W.wr
  have s0 : Srm M := W.1.1
  have o0 : IOK M nx := W.iok
  obtain ⟨n1, nn1, nn2, nk, ns, -, -, -⟩ := nd_put W hz z1
  obtain ⟨i1, r1⟩ := it_p p1 hk hn hb
  have sm := (hI.o W).sum
  have e0 : pSum ((w, k, n, b) :: P0) = szp n + pSum P0 := by
    rw [pSum_c]
    unfold szp; rw [if_neg (by omega)]
  have xq : ∀ P, (4 * w + 1, k, 32 + (n + 7) / 8 * 8, P).1 % 4 = 1 := fun (P : Int → Int) => by show (4 * w + 1) % 4 = 1; omega
  have R1 : RWS (mput (4 * w + 1, k, 32 + (n + 7) / 8 * 8, P1) M) (nds M) (ens M) (ats M) ((w, k, n, b) :: P0) := by
    rcases hI with ⟨y, y1, y2, y3, y4, y5⟩ | ⟨a, b', c, d⟩
    · have R0 := (RWS.rf M).pm (List.Perm.refl _) (List.Perm.refl _) (List.Perm.refl _) y5
      rw [← y4] at R0
      have := R0.o1 s0 y1 (by show kap y.1 y.2.1 = kap (4 * w + 1) k; rw [y2, y3]) (xq P1) (by omega)
      rw [r1] at this
      exact this
    · rw [c]
      have := (RWS.rf M).n1 (x := (4 * w + 1, k, 32 + (n + 7) / 8 * 8, P1)) s0 (fun y hy q => by
        obtain ⟨q1, q2⟩ := ak_x q
        have q1 : y.1 = 4 * w + 1 := q1
        have q2 : y.2.1 % 18446744073709551616 = k % 18446744073709551616 := q2
        have o := (o0 y hy).2.2.2.1 (by omega)
        exact d y hy q1 (by omega)) (xq P1)
      rw [r1] at this
      exact this
  have m1 : ∀ v, v ∈ mput (4 * w + 1, k, 32 + (n + 7) / 8 * 8, P1) M → v.1 % 4 = 0 → v ∈ M := fun v hv v4 => by
    rcases mput_mem.mp hv with q | q
    · rw [q] at v4; have v4 : (4 * w + 1) % 4 = 0 := v4; omega
    · exact q.1
  have hs2 : 0 ≤ s' := by omega
  have zP : ∀ p, p ∈ pcs M → p.1 = w → 64 * p.2.1 + p.2.2.1 ≤ rI4 z.2.2.2 36 := fun p hp e => by
    obtain ⟨k', t, c, -, d, -⟩ := wr.2.2.2.2.1 p hp
    rw [e] at c
    have := wr.u c nn2 rfl
    rw [Prod.mk.injEq, Prod.mk.injEq] at this
    rw [this.2.2] at d; exact d
  have sub : ∀ p, p ∈ P0 → p ∈ pcs M := fun p hp => by
    rcases hI with ⟨y, y1, y2, y3, y4, y5⟩ | ⟨a, b', c, d⟩
    · exact y5.mem_iff.mpr (List.mem_cons_of_mem _ hp)
    · rw [← c]; exact hp
  have L := sz_law (cf := cf) (P' := (w, k, n, b) :: P0) W hz z1 zk hN R1 (mput_srm s0) (o0.put i1 (by show 1 ≤ (4 * w + 1) / 4 ∧ (4 * w + 1) / 4 < nx; omega)) (mput_mem.mpr (Or.inr ⟨hz, fun q => by
    have := (ak_x q).1
    have : z.1 = 4 * w + 1 := this
    omega⟩)) m1 ⟨hs2, hs.2.2⟩ (fun p hp => by
    rcases List.mem_cons.mp hp with q | q
    · rw [q]; exact Or.inr ⟨rfl, hs.2.1⟩
    · by_cases e : p.1 = w
      · exact Or.inr ⟨e, by have := zP p (sub p q) e; omega⟩
      · exact Or.inl ⟨sub p q, e⟩) (fun p hp e => by
    rcases hI with ⟨y, y1, y2, y3, y4, y5⟩ | ⟨a, b', c, d⟩
    · rcases List.mem_cons.mp (y5.mem_iff.mp hp) with q | q
      · rw [q] at e; exact absurd rfl e
      · exact List.mem_cons_of_mem _ q
    · rw [c]; exact List.mem_cons_of_mem _ hp) p4 (by rw [e0, sm]; omega) e4
  rw [e0, sm] at L
  exact ⟨L.1, by rw [L.2.1]; omega, L.2.2⟩
