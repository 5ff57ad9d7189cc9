/-! another size: the tree after it -/
/-- a piece as a group's last node -/
theorem sp_gPieL {tv : Nat → Int} {cf : Cf} {σ : St} {S S1 : List (Int × Int × Int × (Int → Int)) × Int} {e : Int} {x k n : Int} {b : Int → Int} {Q : St → Prop} (hrk : RK σ) (g : GR σ S e S1) (h1 : e + (32 + (n + 7) / 8 * 8) ≤ 512) (ok : okS S1) (hx : 0 ≤ x ∧ x < 1073741824) (hk : 0 ≤ k ∧ k < 256) (hn : 1 ≤ n ∧ n ≤ 64) (hb : ∀ i, 0 ≤ i → i < n → gA σ 77 0 i = b i)
    (hQ : ∀ τ P, piF P x k n b → GL τ S (e + (32 + (n + 7) / 8 * 8)) (mput (4 * x + 1, k, 32 + (n + 7) / 8 * 8, P) S1.1, S1.2) → Fr (mRow 6) σ τ → RK τ → Q τ) : wp_House_addPiece cf tv x k n (fun σ_44 => RK σ_44 → wp_Row_close cf tv 6 0 1 (fun σ_46 => RK σ_46 → Q σ_46) σ_44) σ := by
  have g0 := g.1
  have r6 := row6
  refine sp_pieN hrk g0.1 g0.2 h1 (by unfold rI; omega) hk hn (fun τ1 a1 b1 b2 b3 b4 n1 t1 f1 k1 _ => ?_)
  obtain ⟨c1, c2, c3, c4⟩ := a1
  generalize hN : 32 + (n + 7) / 8 * 8 = N at *
  refine sp_rclose t1 g0.2 c2.2.1 (by omega) (by omega) (fun τ2 b5 f5 k5 _ => ?_)
  have out : ∀ i, (i < e ∨ (e + 4 ≤ i ∧ i < e + 8) ∨ e + 18 ≤ i ∨ i = e + 16) → gA τ2 512 6 i = gA τ1 512 6 i := fun i hi => by rw [b5]; exact nCls_out hi
  have r4 : ∀ j, (j = e + 4 ∨ e + 18 ≤ j) → rI4 (gA τ2 512 6) j = rI4 (gA τ1 512 6) j := fun j hj => rI4_ext (fun i i0 i1 => out i (by omega))
  have nf : nF (gA σ 512 6) (gA τ2 512 6) e 3 N 1 := by
    refine ⟨fun i hi => (out i (by omega)).trans (c1 i hi), ⟨c2.1, (r4 _ (by omega)).trans c2.2.1, (r4 _ (by omega)).trans c2.2.2⟩, (out _ (by omega)).trans c3, ?_⟩
    rw [b5]
    unfold nCls nSer
    rw [pI4_out (by omega)]
    unfold upF
    rw [if_pos rfl, if_neg (by decide)]
    rfl
  have n2 : gI τ2 514 6 = e + N := by rw [f5.i _ _ (fun q => by unfold mRb at q; omega)]; exact n1
  have y1 := (r4 (e + 24) (by omega)).trans b1
  have y2 := (r4 (e + 28) (by omega)).trans b2
  obtain ⟨P, p1, p2⟩ := apS_pie (S := S1) hk hn nf.2.2.1 y1 y2 (fun i i0 i1 => (out _ (by omega)).trans ((b3 i i0 i1).trans (hb i i0 i1))) (fun i i0 i1 => (out _ (by omega)).trans (b4 i i0 i1))
  have := g.node ok nf (Or.inr (Or.inr (Or.inl ⟨rfl, by omega, by omega⟩))) (by rw [y1]; exact hx) n2
  rw [hN] at p2
  rw [p2] at this
  exact hQ τ2 P p1 (this.2 (by decide)) (f1.tr (f5.mono (fun f o' q => frb6 q))) k5
/-- what lies outside of a thing stays -/
theorem no_mput {M : List (Int × Int × Int × (Int → Int))} {x : Int × Int × Int × (Int → Int)} {w : Int} (hs : Srm M) (hx : ofT w x) : cpM ((mput x M).filter (fun y => !decide (ofT w y))) = cpM (M.filter (fun y => !decide (ofT w y))) := by
  have hd : ∀ {y : Int × Int × Int × (Int → Int)} {L : List (Int × Int × Int × (Int → Int))}, ofT w y → (y :: L).filter (fun y => !decide (ofT w y)) = L.filter (fun y => !decide (ofT w y)) := fun {y L} h => by
    rw [List.filter_cons, if_neg]
    rw [Bool.not_eq_true', decide_eq_false_iff_not]
    exact fun q => q h
  by_cases q : ∃ y, y ∈ M ∧ ak y = ak x
  · obtain ⟨y, y1, y2⟩ := q
    obtain ⟨K, k1, k2, -⟩ := mput_old hs y1 y2
    have hy : ofT w y := by
      have := (kap_in2 y2).1
      obtain ⟨a, b⟩ := hx
      exact ⟨by rw [this]; exact a, by rw [this]; exact b⟩
    rw [cpM_p (k1.filter _), cpM_p (k2.filter _), hd hx, hd hy]
  · rw [cpM_p ((mput_new hs (fun y hy e => q ⟨y, hy, e⟩)).filter _), hd hx]
theorem no_mcut {M : List (Int × Int × Int × (Int → Int))} {w c : Int} : cpM ((mcut (4 * w + 1) c M).filter (fun y => !decide (ofT w y))) = cpM (M.filter (fun y => !decide (ofT w y))) := by
  unfold mcut
  rw [List.filter_filter]
  congr 1
  refine List.filter_congr (fun y hy => ?_)
  by_cases q : ofT w y
  · rw [decide_eq_true q]; rfl
  · rw [decide_eq_false q, decide_eq_true]
    · rfl
    · rintro ⟨q1, -⟩
      exact q ⟨by omega, by omega⟩
theorem RWS.cut {N E A : List (Int × Int × Int)} {P : List (Int × Int × Int × (Int → Int))} {M : List (Int × Int × Int × (Int → Int))} {nx w c : Int} (h : RWS M N E A P) (ho : IOK M nx) (hc : 0 ≤ c ∧ c ≤ 256) : RWS (mcut (4 * w + 1) c M) N E A (P.filter (fun p => decide (kpP w c p))) := by
  have t : ∀ {p : Prop} [Decidable p], p → decide p = true := fun h => decide_eq_true h
  have h1 := h.fl (fun y => decide (¬ (y.1 = 4 * w + 1 ∧ kap (4 * w + 1) c ≤ ak y))) (fun _ => true) (fun _ => true) (fun _ => true) (fun p => decide (kpP w c p)) (fun x _ q => t (fun v => by omega)) (fun x _ q => t (fun v => by omega)) (fun x _ q => t (fun v => by omega)) (fun x hx q => by
    have o := (ho x hx).2.2.2.1 q
    by_cases v : x.1 = 4 * w + 1
    · have ek : kap (4 * w + 1) c ≤ ak x ↔ c ≤ x.2.1 := by
        unfold ak kap; rw [v]; omega
      by_cases u : c ≤ x.2.1
      · rw [decide_eq_false (fun z => z ⟨v, ek.mpr u⟩), decide_eq_false (fun z => z ⟨by show x.1 / 4 = w; omega, u⟩)]
      · rw [decide_eq_true (show ¬ (x.1 = 4 * w + 1 ∧ kap (4 * w + 1) c ≤ ak x) from fun z => u (ek.mp z.2)), decide_eq_true (show kpP w c (prow x) from fun z => u z.2)]
    · rw [decide_eq_true (show ¬ (x.1 = 4 * w + 1 ∧ kap (4 * w + 1) c ≤ ak x) from fun z => v z.1), decide_eq_true (show kpP w c (prow x) from fun z => v (by have z1 : x.1 / 4 = w := z.1; omega))])
  rw [fl_tt, fl_tt, fl_tt] at h1
  exact h1
theorem cutD.pm {x s : Int} {P1 P2 P3 : List (Int × Int × Int × (Int → Int))} (h : cutD x s P1 P2) (e : P3.Perm P2) : cutD x s P1 P3 := by
  rcases h with ⟨l, b, P0, a, c, d, f⟩ | ⟨a, b⟩
  · exact Or.inl ⟨l, b, P0, a, c, d, e.trans f⟩
  · exact Or.inr ⟨a, e.trans b⟩
/-- the rows behind a resize -/
theorem rs_fin {cf : Cf} {M M4 : List (Int × Int × Int × (Int → Int))} {nx w s' : Int} {z : Int × Int × Int × (Int → Int)} {P2 : List (Int × Int × Int × (Int → Int))} {P4 : Int → Int} {N0 : List (Int × Int × Int)} (W : WF cf (M, nx)) (hz : z ∈ M) (z1 : z.1 = 4 * w) (zk : rI4 z.2.2.2 28 = 2) (hN : (nds M).Perm ((w, 2, rI4 z.2.2.2 36) :: N0)) (hcR : cutR w s' (rI4 z.2.2.2 36) (pcs M) P2) (R4 : RWS M4 ((w, 2, s') :: N0) (ens M) (ats M) P2) (s4 : Srm M4) (o4 : IOK M4 nx) (m4 : ∀ v, v ∈ M4 → v.1 % 4 = 0 → v = (4 * w, 0, 48, P4) ∨ v ∈ M) (hs' : 0 ≤ s' ∧ s' ≤ 16384) (p4 : inF P4 w 2 (rI4 z.2.2.2 32) s' (rI4 z.2.2.2 40) (rI4 z.2.2.2 44)) : WF cf (M4, nx) := by
  have wr : WR (nds M) (ens M) (ats M) (pcs M) nx (fun _ => False) := W.wr
  obtain ⟨n1, nn1, nn2, nk, ns, ⟨nc1, nc2, nc3⟩, ⟨ncd, ncl, nca⟩, nak⟩ := nd_put W hz z1
  have cp : cpM M ≤ capa cf := W.2.2.2.2.2.2.2.2.2.2.1
  have lenP : ∀ p, p ∈ pcs M → 1 ≤ p.2.2.1 ∧ p.2.2.1 ≤ 64 ∧ 0 ≤ p.2.1 := fun p hp => by
    unfold pcs pkT at hp
    obtain ⟨y, y1, y2⟩ := List.mem_map.mp hp
    obtain ⟨y3, y4⟩ := List.mem_filter.mp y1
    have o := (W.iok y y3).2.2.2.1 (of_decide_eq_true y4)
    rw [← y2]
    exact ⟨o.2.2.2.1.1, o.2.2.2.1.2, o.2.2.1.1⟩
  have zP : ∀ p, p ∈ pcs M → p.1 = w → 64 * p.2.1 + p.2.2.1 ≤ rI4 z.2.2.2 36 := fun p hp e => by
    obtain ⟨k', t, c, -, d, -⟩ := wr.2.2.2.2.1 p hp
    rw [e] at c
    have := wr.u c nn2 rfl
    rw [Prod.mk.injEq, Prod.mk.injEq] at this
    rw [this.2.2] at d; exact d
  have pS0 : ∀ (L : List (Int × Int × Int × (Int → Int))), (∀ p, p ∈ L → 0 ≤ p.2.2.1) → 0 ≤ pSum L := by
    intro L
    induction L with
    | nil => intro _; exact Int.le_refl 0
    | cons p L ih =>
      intro h
      obtain ⟨a, b, c, d⟩ := p
      rw [pSum_c]
      have h1 := h (a, b, c, d) List.mem_cons_self
      have h1 : 0 ≤ c := h1
      have := ih (fun q hq => h q (List.mem_cons_of_mem _ hq))
      omega
  have pSf : ∀ (g : Int × Int × Int × (Int → Int) → Bool) (L : List (Int × Int × Int × (Int → Int))), (∀ p, p ∈ L → 0 ≤ p.2.2.1) → pSum (L.filter g) ≤ pSum L := by
    intro g L
    induction L with
    | nil => intro _; exact Int.le_refl _
    | cons p L ih =>
      intro h
      have h1 := h p List.mem_cons_self
      have := ih (fun q hq => h q (List.mem_cons_of_mem _ hq))
      obtain ⟨a, b, c, d⟩ := p
      have h1 : 0 ≤ c := h1
      rw [List.filter_cons]
      by_cases q : g (a, b, c, d) = true
      · rw [if_pos q, pSum_c, pSum_c]; omega
      · rw [if_neg q, pSum_c]; omega
  have fm : ∀ {p : Int × Int × Int × (Int → Int)} {c : Int}, p ∈ (pcs M).filter (fun p => decide (kpP w c p)) ↔ p ∈ pcs M ∧ kpP w c p := fun {p c} => fl_mem (p := fun p => kpP w c p)
  refine (sz_gen (cf := cf) (P4 := P4) W hz z1 zk hN R4 s4 o4 m4 hs' (fun p hp => ?_) (fun p hp e => ?_) p4 ?_).1
  · rcases hcR with ⟨a, b⟩ | ⟨a, ⟨l, b, P0, c1, c2, c3, c4⟩ | ⟨c1, c2⟩⟩
    · have hm := b.mem_iff.mp hp
      by_cases e : p.1 = w
      · exact Or.inr ⟨e, by have := zP p hm e; omega⟩
      · exact Or.inl ⟨hm, e⟩
    · have hm := c4.mem_iff.mp hp
      rcases List.mem_cons.mp hm with q | q
      · rw [q]; exact Or.inr ⟨rfl, by show 64 * (s' / 64) + s' % 64 ≤ s'; omega⟩
      · have hf := c1.mem_iff.mpr (List.mem_cons_of_mem _ q)
        obtain ⟨f1, f2⟩ := fm.mp hf
        by_cases e : p.1 = w
        · refine Or.inr ⟨e, ?_⟩
          have l1 := lenP p f1
          have lt : p.2.1 < (s' + 63) / 64 := by
            refine Classical.byContradiction (fun u => f2 ⟨e, by omega⟩)
          have ne : p.2.1 ≠ s' / 64 := fun u => by
            have m1 := (fm.mp (c1.mem_iff.mpr List.mem_cons_self)).1
            have := WF.p1 (cf := cf) (S := (M, nx)) W f1 m1 e u
            -- the same piece twice in a list without doubles
            have nd : ((pcs M).map (fun p => (p.1, p.2.1))).Nodup := by
              unfold pcs
              rw [List.map_map]
              have : (pkT 1 M).Pairwise (fun a b => (a.1, a.2.1) ≠ (b.1, b.2.1) ∧ a.1 % 4 = 1 ∧ b.1 % 4 = 1) := by
                refine List.Pairwise.imp_of_mem ?_ (List.Pairwise.filter _ W.1.1)
                intro x y hx hy hxy
                refine ⟨fun e => ?_, of_decide_eq_true (List.mem_filter.mp hx).2, of_decide_eq_true (List.mem_filter.mp hy).2⟩
                rw [Prod.mk.injEq] at e
                have : ak x = ak y := by show kap x.1 x.2.1 = kap y.1 y.2.1; rw [e.1, e.2]
                have hxy : ak x < ak y := hxy
                omega
              refine List.pairwise_map.mpr (this.imp ?_)
              rintro x y ⟨h1, h2, h3⟩ e
              refine h1 ?_
              have e : (x.1 / 4, x.2.1) = (y.1 / 4, y.2.1) := e
              rw [Prod.mk.injEq] at e ⊢
              exact ⟨by omega, e.2⟩
            have nd2 := (((c1.map (fun p => (p.1, p.2.1))).nodup_iff).mp (List.Nodup.sublist (List.Sublist.map _ List.filter_sublist) nd))
            rw [List.map_cons] at nd2
            exact (List.nodup_cons.mp nd2).1 (List.mem_map.mpr ⟨p, q, by rw [e, u]⟩)
          omega
        · exact Or.inl ⟨f1, e⟩
    · have hm := c2.mem_iff.mp hp
      obtain ⟨f1, f2⟩ := fm.mp hm
      by_cases e : p.1 = w
      · refine Or.inr ⟨e, ?_⟩
        have l1 := lenP p f1
        have lt : p.2.1 < (s' + 63) / 64 := by
          refine Classical.byContradiction (fun u => f2 ⟨e, by omega⟩)
        by_cases u : p.2.1 = s' / 64
        · have pe : p = (w, s' / 64, p.2.2.1, p.2.2.2) := by rw [← e, ← u]
          have nc : ¬ (0 < s' % 64 ∧ s' % 64 < p.2.2.1) := c1 p.2.2.1 p.2.2.2 (by rw [← pe]; exact hm)
          omega
        · omega
      · exact Or.inl ⟨f1, e⟩
  · rcases hcR with ⟨a, b⟩ | ⟨a, ⟨l, b, P0, c1, c2, c3, c4⟩ | ⟨c1, c2⟩⟩
    · exact b.mem_iff.mpr hp
    · have := c1.mem_iff.mp (fm.mpr ⟨hp, fun q => e q.1⟩)
      rcases List.mem_cons.mp this with q | q
      · rw [q] at e; exact absurd rfl e
      · exact c4.mem_iff.mpr (List.mem_cons_of_mem _ q)
    · exact c2.mem_iff.mpr (fm.mpr ⟨hp, fun q => e q.1⟩)
  · have nn := pSf (fun p => decide (kpP w ((s' + 63) / 64) p)) (pcs M) (fun p hp => by have := lenP p hp; omega)
    rcases hcR with ⟨a, b⟩ | ⟨a, ⟨l, b, P0, c1, c2, c3, c4⟩ | ⟨c1, c2⟩⟩
    · rw [perm_pS b]; omega
    · rw [perm_pS c1, pSum_c] at nn
      rw [perm_pS c4, pSum_c]; omega
    · rw [perm_pS c2]; omega
