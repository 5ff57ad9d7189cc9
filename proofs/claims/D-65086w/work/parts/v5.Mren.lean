/-! Model.rename -/
theorem GO_rn {cf : Cf} {S S2 : List (Int × Int × Int × (Int → Int)) × Int} {gP : Int → Int → List (Int × Int × Int) → Prop} {a b x q c dd gn w : Int} {bs : Int → Int} (hc : CfOK cf) (W : WF cf S) (hw : (a, x, w) ∈ ens S.1) (R : rnR gP S S2 a x w b q) (h0 : (∀ e, e ∈ ens S.1 → ¬ (e.1 = b ∧ e.2.1 = q)) → gn = 0) (h1 : ∀ w2 k s E1, (ens S.1).Perm ((a, x, w) :: (b, q, w2) :: E1) → w ≠ w2 → (w2, k, s) ∈ nds S.1 → (gn ≠ 0 ↔ gP w2 k E1)) : GO 5 a b c dd gn x q bs S S2 := by
  intro tv' cf' σ t g Q ht rk m rw' kk
  have wr := W.wr
  have fit := (W.x.fit hc).2.2
  obtain ⟨h2, ⟨E0, hE, hno, R1⟩ | ⟨w2, k, s, E1, hE, hne, on, R1, R2⟩⟩ := R
  · refine sp_dRen (E0 := E0) (E1 := E0) (w2 := 0) (k := 0) (s := 0) (N0 := []) rk ht m (W.fts hc) rw' hE (fun z hz a b => nodup_key (E := ens S.1) W.2.2.2.2.2.1 hz hw a b) (fun e => hno _ hw e) (Or.inr ⟨rfl, h0 hno, hno⟩) (fun p hp => (fit p hp).2.1) (fun _ τ T o k' => kk τ (MR.of T R1 h2) o k') (fun ne => absurd (h0 hno) ne)
  · have mv : (b, q, w2) ∈ ens S.1 := hE.mem_iff.mpr (List.mem_cons_of_mem _ List.mem_cons_self)
    have gi := h1 w2 k s E1 hE hne on
    refine sp_dRen (E0 := (b, q, w2) :: E1) (E1 := E1) (w2 := w2) (k := k) (s := s) (N0 := (nds S.1).filter (fun n => decide (n.1 ≠ w2))) rk ht m (W.fts hc) rw' hE (fun z hz a b => nodup_key (E := ens S.1) W.2.2.2.2.2.1 hz hw a b) (fun e => hne ?_) (Or.inl ⟨List.Perm.refl _, fun z hz a b => nodup_key (E := ens S.1) W.2.2.2.2.2.1 hz mv a b, fun _ => nd_fl wr.1.2 on, fun r hr e => wr.u hr on e⟩) (fun p hp => (fit p hp).2.1) (fun ge τ T o k' => kk τ (MR.of T (R1 (fun g => (gi.mpr g) ge)) h2) o k') (fun ge τ T o k' => kk τ (MR.of T (R2 (gi.mp ge)) h2) o k')
    have hw' := hw
    rw [e.1, e.2] at hw'
    exact W.e1 hw' mv
theorem sp_Mrename {tv : Nat → Int} {cf : Cf} {σ : St} {S S' : List (Int × Int × Int × (Int → Int)) × Int} {W : List (Int × (List (Int × Int × Int × (Int → Int)) × Int))} {p : Int} {a x b q : Int} {Q : Int → St → Prop} (hc : CfOK cf) (hrk : RK σ) (m : MP cf σ S S' W p) (ha : rI a) (hx : rJ x) (hb : rI b) (hy : rJ q)
    (h0 : ∀ no, rnA S a x b q = no → no ≤ 0 → Q no σ)
    (h1 : ∀ w, 1 ≤ rnA S a x b q → (a, x, w) ∈ ens S.1 → ∃ S2 p0 S0 W0 k, rnR (gnM σ) S S2 a x w b q ∧ WF cf S2 ∧ TM cf p (rnE S a b q) S S' W p0 S0 W0 ∧ SFo (p0 + rnE S a b q) (W0 ++ [(p0 + rnE S a b q, S2)]) k ∧ ∀ τ, MP cf τ S2 (laS S0 ((W0 ++ [(p0 + rnE S a b q, S2)]).take k)) ((W0 ++ [(p0 + rnE S a b q, S2)]).drop k) (p0 + rnE S a b q) → Fr mMh σ τ → RK τ → Q (2 - rnA S a x b q) τ) : wp_Model_rename cf tv a x b q Q σ := by
  have m' := m
  obtain ⟨⟨m0, m1⟩, ⟨w0, w1, w2⟩, ⟨gw, hw, h7⟩, l, on, qq, qq'⟩ := m'
  have F := w0.fts hc
  have wr := w0.wr
  have nn := m0.n
  have lim := F.1
  unfold wp_Model_rename
  refine ⟨fun _ => ?_, fun w => by have w : gI σ 706 0 = 0 := w; omega⟩
  have bad : (¬ nmV x ∨ ¬ nmV q) → wp_Model_rename_b25 cf tv a x b q Q (wp_Model_rename_b35 cf tv a x b q Q) σ := by
    intro nb
    unfold wp_Model_rename_b25 wp_Model_rename_b35
    refine ⟨fun w => absurd w (by decide), fun _ => h0 (-3) ?_ (by omega)⟩
    unfold rnA
    by_cases ny : nmV q
    · have nx : ¬ nmV x := nb.resolve_right (fun q => q ny)
      have e : namA S a x = -3 := cif_y nx
      rw [cif_n (fun q => q ny), e, cif_n (by omega)]
    · exact cif_y ny
  refine sp_MisName hrk hx (fun nmx _ _ => ⟨fun w => absurd w (by decide), fun _ => ?_⟩) (fun nmx _ _ => ⟨fun _ => bad (Or.inl nmx), fun w => absurd rfl w⟩)
  refine sp_MisName hrk hy (fun nmy _ _ => ⟨fun _ => ?_, fun w => absurd w (by decide)⟩) (fun nmy _ _ => ⟨fun w => absurd rfl w, fun _ => bad (Or.inr nmy)⟩)
  have A0 : rnA S a x b q = cif (namA S a x = 0) (dirA (nds S.1) b (rnB S a x b q)) (namA S a x) := cif_n (fun q => q nmy)
  have N0 : namA S a x = dirA (nds S.1) a (cif (∃ w, (a, x, w) ∈ ens S.1) 0 (-4)) := cif_n (fun q => q nmx)
  have no1 : ∀ no, namA S a x = no → no < 0 → Q no σ := fun no e n => h0 no (by rw [A0, cif_n (by omega)]; exact e) (by omega)
  unfold wp_Model_rename_b35
  refine sp_Mask (t := 0) hrk m0 F (fun no _ _ => ⟨fun w => absurd w (by decide), fun _ => no1 (-4) (by rw [N0]; exact dir_o (fun k s v => no _ v rfl)) (by omega)⟩) (fun s n' _ _ => ⟨fun _ => ?_, fun w => absurd rfl w⟩) (fun k s n' nk _ _ => ⟨fun w => absurd w (by decide), fun _ => no1 (-6) (by rw [N0]; exact dir_n n' nk (fun a b => wr.u)) (by omega)⟩)
  have s0 : s = 0 := (wr.1.1 _ n').2 rfl
  rw [s0] at n'
  rw [dir_y n'] at N0
  refine sp_MentryOf hrk (Or.inl rfl) m0 F (fun e _ _ => ⟨fun w => absurd rfl w, fun _ => no1 (-4) (by rw [N0]; exact cif_n (fun ⟨w, v⟩ => e _ v ⟨rfl, rfl⟩)) (by omega)⟩) (fun i i0 i1 i2 i3 _ _ => ⟨fun _ => ?_, fun w => by omega⟩)
  have rowE : meR σ 0 i ∈ ens S.1 := (TR.me m0).mpr ⟨i, i0, i1, rfl⟩
  have rowEe : meR σ 0 i = (a, x, gA σ 720 0 (700 * 0 + i)) := by unfold meR; rw [i2, i3]
  rw [rowEe] at rowE
  rw [show namA S a x = 0 by rw [N0]; exact cif_y ⟨_, rowE⟩, cif_y rfl] at A0
  refine sp_Mask (t := 0) hrk m0 F (fun no _ _ => ⟨fun w => absurd w (by decide), fun _ => h0 (-4) (by rw [A0]; exact dir_o (fun k s v => no _ v rfl)) (by omega)⟩) (fun s n2 _ _ => ⟨fun _ => ?_, fun w => absurd rfl w⟩) (fun k s n2 nk _ _ => ⟨fun w => absurd w (by decide), fun _ => h0 (-6) (by rw [A0]; exact dir_n n2 nk (fun a b => wr.u)) (by omega)⟩)
  have s0 : s = 0 := (wr.1.1 _ n2).2 rfl
  rw [s0] at n2
  rw [dir_y n2] at A0
  refine ⟨by omega, fun y9 e9 => ?_⟩
  have e9 : y9 = gA σ 720 0 (700 * 0 + i) := e9
  rw [← e9] at rowE
  obtain ⟨-, ⟨kA, sA', wN⟩, w11⟩ := wr.2.2.1 _ rowE
  have wN : (y9, kA, sA') ∈ nds S.1 := wN
  have wR : 1 ≤ y9 := (wr.1.1 _ wN).1.1
  have dirz : ∀ {t k s : Int}, (t, k, s) ∈ nds S.1 → k = 1 → (t, 1, 0) ∈ nds S.1 := fun {t k s} h q => by
    have s0 : s = 0 := (wr.1.1 _ h).2 q
    rw [q, s0] at h; exact h
  have dirk : ∀ {t k s : Int}, (t, k, s) ∈ nds S.1 → (t, 1, 0) ∈ nds S.1 → k = 1 := fun {t k s} h q => by
    have := wr.u h q rfl
    rw [Prod.mk.injEq, Prod.mk.injEq] at this
    exact this.2.1
  have D1 : kA = 1 ↔ (y9, 1, 0) ∈ nds S.1 := ⟨fun e => dirz wN e, fun e => dirk wN e⟩
  have RG : (∃ w, (a, x, w) ∈ ens S.1 ∧ rngS S w b) ↔ rngS S y9 b := ⟨fun ⟨u, u1, u2⟩ => by rw [w0.e1 rowE u1]; exact u2, fun g => ⟨y9, rowE, g⟩⟩
  -- the row and the rest
  have grp : ∀ (y11 y12 : Int), 1 ≤ rnA S a x b q → (y11 = -1 → rnA S a x b q = 2 ∧ ∀ e, e ∈ ens S.1 → ¬ (e.1 = b ∧ e.2.1 = q)) → (y11 ≠ -1 → rnA S a x b q = 1 ∧ (b, q, y11) ∈ ens S.1 ∧ y9 ≠ y11 ∧ ∃ kB sB, (y11, kB, sB) ∈ nds S.1 ∧ (y12 ≠ 0 ↔ kB = 1)) → wp_Model_rename_b259 cf tv a x b q Q y11 y12 σ := by
    intro y11 y12 hge hA hB
    obtain ⟨S2, p0, S0, W0, k, R, wS2, ht, hsf, hQ⟩ := h1 y9 hge rowE
    unfold wp_Model_rename_b259
    refine sp_grp2 hrk m (by unfold rI; omega) ha hb hx (fun τ c dd y' bs rn hg kτ => ⟨by omega, fun σ43 e43 => ?_⟩)
    obtain ⟨rn2, hg2⟩ := rwI.nb rn hg e43
    have k43 : RK σ43 := by rw [e43]; exact kτ.sA (f := 739) (by show rJ q; exact hy)
    have m43 : MR σ43 0 S := m0.fr rn2.1 (fun g a b z => by omega)
    have eE1 : y11 = -1 → rnE S a b q = (if a = b then (144 : Int) else 192) + 0 := fun e => by
      unfold rnE; rw [cif_n (fun ⟨w2, g⟩ => (hA e).2 _ g ⟨rfl, rfl⟩)]
    have eE2 : y11 ≠ -1 → rnE S a b q = (if a = b then (144 : Int) else 192) + 48 := fun e => by
      unfold rnE; rw [cif_y ⟨y11, (hB e).2.1⟩]
    have fin : ∀ gn, (gn = 0 ∨ gn = 1) → (y11 = -1 → gn = 0) → (∀ w2 k s E1, y11 ≠ -1 → (ens S.1).Perm ((a, x, y9) :: (b, q, w2) :: E1) → y9 ≠ w2 → (w2, k, s) ∈ nds S.1 → (gn ≠ 0 ↔ gnM σ w2 k E1)) → wp_Model_rename_b328 cf tv a x b q Q y11 gn W.length σ43 := by
      intro gn g01 gA gB
      unfold wp_Model_rename_b328
      refine ⟨by omega, fun σ37 e37 => ?_⟩
      obtain ⟨rn3, hg3⟩ := rwI.gone rn2 hg2 e37
      have k37 : RK σ37 := by rw [e37]; exact k43.sA (f := 737) (by show rZ gn; unfold rZ; omega)
      have ee : w32 ((if a = b then (144 : Int) else 192) + (if y11 = -1 then (0 : Int) else 48)) = rnE S a b q := by
        by_cases e : y11 = -1
        · rw [if_pos e, eE1 e]; split <;> rfl
        · rw [if_neg e, eE2 e]; split <;> rfl
      have ez : 0 < rnE S a b q ∧ rnE S a b q ≤ 512 := by
        by_cases e : y11 = -1
        · rw [eE1 e]; split <;> omega
        · rw [eE2 e]; split <;> omega
      have ea : (if y11 = -1 then (0 : Int) else 1) = 2 - rnA S a x b q := by
        by_cases e : y11 = -1
        · rw [if_pos e, (hA e).1]; rfl
        · rw [if_neg e, (hB e).1]; rfl
      rw [ee, ea]
      refine sp_handM hc k37 m rn3 wS2 hg3 (GO_rn hc w0 rowE R (fun no => ?_) (fun w2 k s E1 p1 p2 p3 => ?_)) ez ht hsf (fun τ2 M f k2 _ => ?_)
      · by_cases e : y11 = -1
        · exact gA e
        · exact absurd ⟨rfl, rfl⟩ (no _ (hB e).2.1)
      · refine gB w2 k s E1 (fun e => ?_) p1 p2 p3
        exact (hA e).2 _ (p1.mem_iff.mpr (List.mem_cons_of_mem _ List.mem_cons_self)) ⟨rfl, rfl⟩
      · exact hQ τ2 M ((rn3.1.mono (fun f o' z => by unfold mMh; omega)).tr f) k2
    have op43 : ∀ z, opM σ43 z ↔ opM σ z := fun z => by unfold opM; rw [rn2.1.a 711 0 (by omega)]
    unfold wp_Model_rename_b327 wp_Model_rename_b323
    refine ⟨fun e => fin 0 (Or.inl rfl) (fun _ => rfl) (fun w2 k s E1 ne => absurd e ne), fun e => ?_⟩
    obtain ⟨A1, mv, hne, kB, sB, w2N, hy12⟩ := hB e
    -- what the row says of w2
    have key : ∀ w2 k s E1, (ens S.1).Perm ((a, x, y9) :: (b, q, w2) :: E1) → (w2, k, s) ∈ nds S.1 → w2 = y11 ∧ k = kB ∧ (cn3 y11 (ens S.1) : Int) = cn3 y11 E1 + 1 := fun w2 k s E1 p1 p3 => by
      have e2 : w2 = y11 := w0.e1 (p1.mem_iff.mpr (List.mem_cons_of_mem _ List.mem_cons_self)) mv
      rw [e2] at p1 p3
      have := wr.u p3 w2N rfl
      rw [Prod.mk.injEq, Prod.mk.injEq] at this
      refine ⟨e2, this.2.1, ?_⟩
      rw [perm_cn3 p1, cn3_o (show ((a, x, y9) : Int × Int × Int).2.2 ≠ y11 from hne), cn3_i (show ((b, q, y11) : Int × Int × Int).2.2 = y11 from rfl)]
      omega
    refine ⟨fun d => fin 1 (Or.inr rfl) (fun z => absurd z e) (fun w2 k s E1 _ p1 _ p3 => ?_), fun d => ?_⟩
    · obtain ⟨z1, z2, -⟩ := key w2 k s E1 p1 p3
      exact ⟨fun _ => Or.inl (by rw [z2]; exact hy12.mp d), fun _ => by decide⟩
    · have kB1 : kB ≠ 1 := fun z => (hy12.mpr z) d
      refine sp_Mlinks k43 (Or.inl rfl) m43 F (fun _ _ => ⟨fun n1 => ?_, fun n1 => ?_⟩)
      · refine fin 0 (Or.inl rfl) (fun _ => rfl) (fun w2 k s E1 _ p1 _ p3 => ?_)
        obtain ⟨z1, z2, z3⟩ := key w2 k s E1 p1 p3
        refine ⟨fun g => absurd rfl g, fun g => ?_⟩
        rcases g with g | g
        · exact absurd (z2.symm.trans g) kB1
        · have := g.1
          rw [z1] at this
          omega
      · refine sp_MisOpen (fun o _ _ => ⟨fun _ => fin 0 (Or.inl rfl) (fun _ => rfl) (fun w2 k s E1 _ p1 _ p3 => ?_), fun v => absurd v (by decide)⟩) (fun o _ _ => ⟨fun v => absurd rfl v, fun _ => fin 1 (Or.inr rfl) (fun z => absurd z e) (fun w2 k s E1 _ p1 _ p3 => ?_)⟩)
        · obtain ⟨z1, z2, z3⟩ := key w2 k s E1 p1 p3
          refine ⟨fun g => absurd rfl g, fun g => ?_⟩
          rcases g with g | g
          · exact absurd (z2.symm.trans g) kB1
          · exact absurd (by rw [z1]; exact (op43 y11).mp o) g.2
        · obtain ⟨z1, z2, z3⟩ := key w2 k s E1 p1 p3
          refine ⟨fun _ => Or.inr ⟨by rw [z1]; omega, fun g => o ((op43 y11).mpr (by rw [z1] at g; exact g))⟩, fun _ => by decide⟩
  -- what is there
  have B116 : ∀ (y11 : Int), y9 ≠ y11 → (rnB S a x b q = cif (rngS S y9 b) (-9) (rnB S a x b q)) → (∀ y12, y12 = (if kA = 1 then (1 : Int) else 0) → ¬ rngS S y9 b → wp_Model_rename_b169 cf tv a x b q Q y11 y12 σ) → wp_Model_rename_b116 cf tv a x b q Q y9 y11 σ := by
    intro y11 ne eB nxt
    unfold wp_Model_rename_b116
    refine ⟨fun _ => ?_, fun e => absurd e.symm ne⟩
    refine sp_MnodeOf hrk (Or.inl rfl) m0 F (fun no _ _ => absurd rfl (no _ wN)) (fun i2 p0 p1 p2 _ _ => ⟨by omega, fun y12 e12 => ?_⟩)
    have row : mnR σ 0 i2 ∈ nds S.1 := (TR.mn m0).mpr ⟨i2, p0, p1, rfl⟩
    have kk : gA σ 715 0 (700 * 0 + i2) = kA := by
      have := wr.u row wN p2
      exact congrArg (fun r => r.2.1) this
    rw [kk] at e12
    refine ⟨fun y0 => nxt y12 e12 (fun g => ?_), fun y1 => ?_⟩
    · have := D1.mpr g.1
      rw [if_pos this] at e12; omega
    · have k1 : kA = 1 := Classical.byContradiction (fun e => y1 (by rw [e12, if_neg e]))
      exact sp_MisIn hc m0 w0 n2 (fun an _ _ => ⟨fun w => absurd w (by decide), fun _ => h0 (-9) (by rw [A0, eB]; exact cif_y ⟨D1.mp k1, an⟩) (by omega)⟩) (fun an _ _ => ⟨fun _ => nxt y12 e12 (fun g => an g.2), fun w => absurd rfl w⟩)
  refine sp_MentryOf hrk (Or.inl rfl) m0 F (fun ne _ _ => ⟨fun w => absurd rfl w, fun _ => ?_⟩) (fun j j0 j1 j2 j3 _ _ => ⟨fun _ => ⟨by omega, ?_⟩, fun w => by omega⟩)
  · have no : ∀ w2, (b, q, w2) ∉ ens S.1 := fun w2 g => ne _ g ⟨rfl, rfl⟩
    have eB : rnB S a x b q = cif (∃ w, (a, x, w) ∈ ens S.1 ∧ rngS S w b) (-9) 2 := by
      unfold rnB
      rw [cif_n (fun ⟨w, _, g⟩ => no _ g)]
      congr 1
      rw [cif_n (fun ⟨w, w2, _, g, _⟩ => no _ g), cif_n (fun ⟨w, w2, _, g, _⟩ => no _ g), cif_n (fun ⟨w2, g, _⟩ => no _ g), cif_n (fun ⟨w2, g⟩ => no _ g)]
    refine B116 (-1) (by omega) ?_ (fun y12 e12 nR => ?_)
    · by_cases g : rngS S y9 b
      · rw [cif_y g, eB]; exact cif_y (RG.mpr g)
      · rw [cif_n g]
    · have A2 : rnA S a x b q = 2 := by rw [A0, eB]; exact cif_n (fun g => nR (RG.mp g))
      unfold wp_Model_rename_b169
      exact ⟨fun _ => grp (-1) y12 (by omega) (fun _ => ⟨A2, ne⟩) (fun g => absurd rfl g), fun g => absurd rfl g⟩
  · have rowF : meR σ 0 j ∈ ens S.1 := (TR.me m0).mpr ⟨j, j0, j1, rfl⟩
    have rowFe : meR σ 0 j = (b, q, gA σ 720 0 (700 * 0 + j)) := by unfold meR; rw [j2, j3]
    rw [rowFe] at rowF
    show wp_Model_rename_b116 cf tv a x b q Q y9 (gA σ 720 0 (700 * 0 + j)) σ
    generalize gA σ 720 0 (700 * 0 + j) = t2 at *
    obtain ⟨-, ⟨kB, sB, w2N⟩, w21⟩ := wr.2.2.1 _ rowF
    have w2N : (t2, kB, sB) ∈ nds S.1 := w2N
    have w2R : 1 ≤ t2 := (wr.1.1 _ w2N).1.1
    by_cases ew : t2 = y9
    · unfold wp_Model_rename_b116
      exact ⟨fun ne => absurd ew ne, fun _ => h0 0 (by rw [A0]; unfold rnB; exact cif_y ⟨y9, rowE, by rw [← ew]; exact rowF⟩) (by omega)⟩
    · have e0 : ¬ ∃ u, (a, x, u) ∈ ens S.1 ∧ (b, q, u) ∈ ens S.1 := fun ⟨u, u1, u2⟩ => ew (by rw [w0.e1 rowF u2, w0.e1 rowE u1])
      have D2 : kB = 1 ↔ (t2, 1, 0) ∈ nds S.1 := ⟨fun e => dirz w2N e, fun e => dirk w2N e⟩
      refine B116 t2 (fun e => ew e.symm) ?_ (fun y12 e12 nR => ?_)
      · by_cases g : rngS S y9 b
        · rw [cif_y g]; unfold rnB; rw [cif_n e0]; exact cif_y (RG.mpr g)
        · rw [cif_n g]
      · have eB : rnB S a x b q = cif ((y9, 1, 0) ∈ nds S.1 ∧ (t2, 1, 0) ∉ nds S.1) (-6) (cif ((y9, 1, 0) ∉ nds S.1 ∧ (t2, 1, 0) ∈ nds S.1) (-7) (cif ((t2, 1, 0) ∈ nds S.1 ∧ cn1 t2 (ens S.1) ≠ 0) (-8) 1)) := by
          have P1 : (∃ u u2, (a, x, u) ∈ ens S.1 ∧ (b, q, u2) ∈ ens S.1 ∧ (u, 1, 0) ∈ nds S.1 ∧ (u2, 1, 0) ∉ nds S.1) ↔ ((y9, 1, 0) ∈ nds S.1 ∧ (t2, 1, 0) ∉ nds S.1) := ⟨fun ⟨u, u2, p, q, t⟩ => by rw [w0.e1 rowE p, w0.e1 rowF q]; exact t, fun t => ⟨y9, t2, rowE, rowF, t⟩⟩
          have P2 : (∃ u u2, (a, x, u) ∈ ens S.1 ∧ (b, q, u2) ∈ ens S.1 ∧ (u, 1, 0) ∉ nds S.1 ∧ (u2, 1, 0) ∈ nds S.1) ↔ ((y9, 1, 0) ∉ nds S.1 ∧ (t2, 1, 0) ∈ nds S.1) := ⟨fun ⟨u, u2, p, q, t⟩ => by rw [w0.e1 rowE p, w0.e1 rowF q]; exact t, fun t => ⟨y9, t2, rowE, rowF, t⟩⟩
          have P3 : (∃ u2, (b, q, u2) ∈ ens S.1 ∧ (u2, 1, 0) ∈ nds S.1 ∧ cn1 u2 (ens S.1) ≠ 0) ↔ ((t2, 1, 0) ∈ nds S.1 ∧ cn1 t2 (ens S.1) ≠ 0) := ⟨fun ⟨u2, q, t⟩ => by rw [w0.e1 rowF q]; exact t, fun t => ⟨t2, rowF, t⟩⟩
          unfold rnB
          rw [cif_n e0, cif_n (fun g => nR (RG.mp g)), cif_y (⟨t2, rowF⟩ : ∃ w2, (b, q, w2) ∈ ens S.1), propext P1, propext P2, propext P3]
        have y12' : y12 ≠ 0 ↔ kA = 1 := by
          rw [e12]
          by_cases e : kA = 1
          · rw [if_pos e]; exact ⟨fun _ => e, fun _ => by decide⟩
          · rw [if_neg e]; exact ⟨fun g => absurd rfl g, fun g => absurd g e⟩
        have go : (kA = 1 ↔ kB = 1) → (kB = 1 → cn1 t2 (ens S.1) = 0) → wp_Model_rename_b259 cf tv a x b q Q t2 y12 σ := by
          intro dd ce
          have A1 : rnA S a x b q = 1 := by
            rw [A0, eB, cif_n (fun g => g.2 (D2.mp (dd.mp (D1.mpr g.1)))), cif_n (fun g => g.1 (D1.mp (dd.mpr (D2.mpr g.2)))), cif_n (fun g => g.2 (ce (D2.mpr g.1)))]
          exact grp t2 y12 (by omega) (fun g => by omega) (fun _ => ⟨A1, rowF, fun e => ew e.symm, kB, sB, w2N, y12'.trans dd⟩)
        have K249 : ∀ no, no < 0 → rnA S a x b q = no → wp_Model_rename_b249 cf tv a x b q Q (wp_Model_rename_b259 cf tv a x b q Q) t2 y12 no σ := by
          intro no n0 e
          unfold wp_Model_rename_b249
          exact ⟨fun z => by omega, fun _ => h0 no e (by omega)⟩
        have K0 : (kA = 1 ↔ kB = 1) → (kB = 1 → cn1 t2 (ens S.1) = 0) → wp_Model_rename_b248 cf tv a x b q Q (wp_Model_rename_b249 cf tv a x b q Q (wp_Model_rename_b259 cf tv a x b q Q)) t2 y12 σ := by
          intro dd ce
          unfold wp_Model_rename_b248 wp_Model_rename_b249
          exact ⟨fun _ => go dd ce, fun z => absurd rfl z⟩
        have b228 : ∀ y13, (y13 ≠ 0 ↔ kB = 1) → (kA = 1 ↔ kB = 1) → wp_Model_rename_b228 cf tv a x b q Q (wp_Model_rename_b249 cf tv a x b q Q (wp_Model_rename_b259 cf tv a x b q Q)) t2 y12 y13 σ := by
          intro y13 h13 dd
          unfold wp_Model_rename_b228
          refine ⟨fun z => K0 dd (fun e => absurd z (h13.mpr e)), fun z => ?_⟩
          have kb := h13.mp z
          refine sp_Mfilled hrk (Or.inl rfl) m0 F (fun _ _ => ⟨fun g => K0 dd (fun _ => by omega), fun g => K249 (-8) (by omega) ?_⟩)
          rw [A0, eB, cif_n (fun g => g.2 (D2.mp (dd.mp (D1.mpr g.1)))), cif_n (fun g => g.1 (D1.mp (dd.mpr (D2.mpr g.2)))), cif_y ⟨D2.mp kb, by omega⟩]
        unfold wp_Model_rename_b169
        refine ⟨fun g => by omega, fun _ => ?_⟩
        refine sp_MnodeOf hrk (Or.inl rfl) m0 F (fun no _ _ => absurd rfl (no _ w2N)) (fun i2 p0 p1 p2 _ _ => ⟨by omega, fun y13 e13 => ?_⟩)
        have row : mnR σ 0 i2 ∈ nds S.1 := (TR.mn m0).mpr ⟨i2, p0, p1, rfl⟩
        have kk : gA σ 715 0 (700 * 0 + i2) = kB := by
          have := wr.u row w2N p2
          exact congrArg (fun r => r.2.1) this
        rw [kk] at e13
        have h13 : y13 ≠ 0 ↔ kB = 1 := by
          rw [e13]
          by_cases e : kB = 1
          · rw [if_pos e]; exact ⟨fun _ => e, fun _ => by decide⟩
          · rw [if_neg e]; exact ⟨fun g => absurd rfl g, fun g => absurd g e⟩
        have b213 : (kA = 1 → kB = 1) → wp_Model_rename_b213 cf tv a x b q Q (wp_Model_rename_b249 cf tv a x b q Q (wp_Model_rename_b259 cf tv a x b q Q)) t2 y12 y13 σ := by
          intro dd
          unfold wp_Model_rename_b213
          refine ⟨fun z => b228 y13 h13 ⟨dd, fun _ => y12'.mp z⟩, fun z => ⟨fun z2 => b228 y13 h13 ⟨dd, fun e => absurd z2 (h13.mpr e)⟩, fun z2 => K249 (-7) (by omega) ?_⟩⟩
          have ka : ¬ kA = 1 := fun e => (y12'.mpr e) z
          rw [A0, eB, cif_n (fun e => ka (D1.mpr e.1)), cif_y ⟨fun e => ka (D1.mpr e), D2.mp (h13.mp z2)⟩]
        refine ⟨fun z => b213 (fun e => absurd z (y12'.mpr e)), fun z => ⟨fun z2 => b213 (fun _ => h13.mp z2), fun z2 => K249 (-6) (by omega) ?_⟩⟩
        rw [A0, eB, cif_y ⟨D1.mp (y12'.mp z), fun e => (h13.mpr (D2.mpr e)) z2⟩]
