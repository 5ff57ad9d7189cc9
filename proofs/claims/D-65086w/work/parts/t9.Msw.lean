/-! Model.swap -/
theorem GO_sw {cf : Cf} {S S2 : List (Int × Int × Int × (Int → Int)) × Int} {a b x y c dd gn w w2 : Int} {bs : Int → Int} {E1 : List (Int × Int × Int)} (hc : CfOK cf) (W : WF cf S) (hE : (ens S.1).Perm ((a, x, w) :: (b, y, w2) :: E1)) (hab : ¬ (a = b ∧ x = y)) (R : RWS S2.1 (nds S.1) ((a, x, w2) :: (b, y, w) :: E1) (ats S.1) (pcs S.1)) (h2 : S2.2 = S.2) : GO 9 a b c dd gn x y bs S S2 := by
  intro tv' cf' σ t g Q ht rk m rw' kk
  have m1 : (a, x, w) ∈ ens S.1 := hE.mem_iff.mpr List.mem_cons_self
  have m2 : (b, y, w2) ∈ ens S.1 := hE.mem_iff.mpr (List.mem_cons_of_mem _ List.mem_cons_self)
  exact sp_dSwap rk ht m (W.fts hc) rw' hE (fun q hq a b => nodup_key (E := ens S.1) W.2.2.2.2.2.1 hq m1 a b) (fun q hq a b => nodup_key (E := ens S.1) W.2.2.2.2.2.1 hq m2 a b) hab (fun τ T o k' => kk τ (MR.of T R h2) o k')
theorem sp_Mswap {tv : Nat → Int} {cf : Cf} {σ : St} {S S' : List (Int × Int × Int × (Int → Int)) × Int} {W : List (Int × (List (Int × Int × Int × (Int → Int)) × Int))} {p : Int} {a x b y : Int} {Q : Int → St → Prop} (hc : CfOK cf) (hrk : RK σ) (m : MP cf σ S S' W p) (ha : rI a) (hx : rJ x) (hb : rI b) (hy : rJ y)
    (h0 : ∀ no, swA S a x b y = no → no ≤ 0 → Q no σ)
    (h1 : swA S a x b y = 1 → ∃ w w2 E1 S2 p0 S0 W0 k, (ens S.1).Perm ((a, x, w) :: (b, y, w2) :: E1) ∧ RWS S2.1 (nds S.1) ((a, x, w2) :: (b, y, w) :: E1) (ats S.1) (pcs S.1) ∧ S2.2 = S.2 ∧ WF cf S2 ∧ TM cf p 96 S S' W p0 S0 W0 ∧ SFo (p0 + 96) (W0 ++ [(p0 + 96, S2)]) k ∧ ∀ τ, MP cf τ S2 (laS S0 ((W0 ++ [(p0 + 96, S2)]).take k)) ((W0 ++ [(p0 + 96, S2)]).drop k) (p0 + 96) → Fr mMh σ τ → RK τ → Q 1 τ) : wp_Model_swap cf tv a x b y Q σ := by
  have m' := m
  obtain ⟨⟨m0, m1⟩, ⟨w0, w1, w2⟩, ⟨gw, hw, h7⟩, l, on, q, q'⟩ := m'
  have F := w0.fts hc
  have wr := w0.wr
  have nn := m0.n
  unfold wp_Model_swap
  refine ⟨fun _ => ?_, fun w => by have w : gI σ 706 0 = 0 := w; omega⟩
  have bad : (¬ nmV x ∨ ¬ nmV y) → wp_Model_swap_b25 cf tv a x b y Q (wp_Model_swap_b35 cf tv a x b y Q) σ := by
    intro nb
    unfold wp_Model_swap_b25 wp_Model_swap_b35
    refine ⟨fun w => absurd w (by decide), fun _ => h0 (-3) ?_ (by omega)⟩
    unfold swA
    by_cases ny : nmV y
    · have nx : ¬ nmV x := nb.resolve_right (fun q => q ny)
      have e : namA S a x = -3 := cif_y nx
      rw [cif_n (fun q => q ny), e, cif_n (by omega)]
    · exact cif_y ny
  refine sp_MisName hrk hx (fun nmx _ _ => ⟨fun w => absurd w (by decide), fun _ => ?_⟩) (fun nmx _ _ => ⟨fun _ => bad (Or.inl nmx), fun w => absurd rfl w⟩)
  refine sp_MisName hrk hy (fun nmy _ _ => ⟨fun _ => ?_, fun w => absurd w (by decide)⟩) (fun nmy _ _ => ⟨fun w => absurd rfl w, fun _ => bad (Or.inr nmy)⟩)
  have A0 : swA S a x b y = cif (namA S a x = 0) (dirA (nds S.1) b (swB S a x b y)) (namA S a x) := cif_n (fun q => q nmy)
  have N0 : namA S a x = dirA (nds S.1) a (cif (∃ w, (a, x, w) ∈ ens S.1) 0 (-4)) := cif_n (fun q => q nmx)
  have no1 : ∀ no, namA S a x = no → no < 0 → Q no σ := fun no e n => h0 no (by rw [A0, cif_n (by omega)]; exact e) (by omega)
  unfold wp_Model_swap_b35
  refine sp_Mask (t := 0) hrk m0 F (fun no _ _ => ⟨fun w => absurd w (by decide), fun _ => no1 (-4) (by rw [N0]; exact dir_o (fun k s v => no _ v rfl)) (by omega)⟩) (fun s n' _ _ => ⟨fun _ => ?_, fun w => absurd rfl w⟩) (fun k s n' nk _ _ => ⟨fun w => absurd w (by decide), fun _ => no1 (-6) (by rw [N0]; exact dir_n n' nk (fun a b => wr.u)) (by omega)⟩)
  have s0 : s = 0 := (wr.1.1 _ n').2 rfl
  rw [s0] at n'
  rw [dir_y n'] at N0
  refine sp_MentryOf hrk (Or.inl rfl) m0 F (fun e _ _ => ⟨fun w => absurd rfl w, fun _ => no1 (-4) (by rw [N0]; exact cif_n (fun ⟨w, v⟩ => e _ v ⟨rfl, rfl⟩)) (by omega)⟩) (fun i i0 i1 i2 i3 _ _ => ⟨fun _ => ?_, fun w => by omega⟩)
  have rowE : meR σ 0 i ∈ ens S.1 := (TR.me m0).mpr ⟨i, i0, i1, rfl⟩
  have rowEe : meR σ 0 i = (a, x, gA σ 720 0 (700 * 0 + i)) := by unfold meR; rw [i2, i3]
  rw [rowEe] at rowE
  rw [show namA S a x = 0 by rw [N0]; exact cif_y ⟨_, rowE⟩, cif_y rfl] at A0
  refine sp_Mask (t := 0) hrk m0 F (fun no _ _ => ⟨fun w => absurd w (by decide), fun _ => h0 (-4) (by rw [A0]; exact dir_o (fun k s v => no _ v rfl)) (by omega)⟩) (fun s n2 _ _ => ⟨fun _ => ?_, fun w => absurd rfl w⟩) (fun k s n2 nk _ _ => ⟨fun w => absurd w (by decide), fun _ => h0 (-6) (by rw [A0]; exact dir_n n2 nk (fun a b => wr.u)) (by omega)⟩)
  have s0 : s = 0 := (wr.1.1 _ n2).2 rfl
  rw [s0] at n2
  rw [dir_y n2] at A0
  refine sp_MentryOf hrk (Or.inl rfl) m0 F (fun e _ _ => ⟨fun w => absurd rfl w, fun _ => h0 (-4) (by rw [A0]; exact cif_n (fun ⟨w, v⟩ => e _ v ⟨rfl, rfl⟩)) (by omega)⟩) (fun j j0 j1 j2 j3 _ _ => ⟨fun _ => ?_, fun w => by omega⟩)
  have rowF : meR σ 0 j ∈ ens S.1 := (TR.me m0).mpr ⟨j, j0, j1, rfl⟩
  have rowFe : meR σ 0 j = (b, y, gA σ 720 0 (700 * 0 + j)) := by unfold meR; rw [j2, j3]
  rw [rowFe] at rowF
  have lim := F.1.2
  refine ⟨by omega, fun y10 e10 => ⟨by omega, fun y11 e11 => ?_⟩⟩
  have e10 : y10 = gA σ 720 0 (700 * 0 + i) := e10
  have e11 : y11 = gA σ 720 0 (700 * 0 + j) := e11
  rw [← e10] at rowE
  rw [← e11] at rowF
  rw [show swB S a x b y = cif (∃ w, (a, x, w) ∈ ens S.1 ∧ (b, y, w) ∈ ens S.1) 0 (cif (∃ w w2, (a, x, w) ∈ ens S.1 ∧ (b, y, w2) ∈ ens S.1 ∧ (rngS S w b ∨ rngS S w2 a)) (-9) 1) from cif_y ⟨_, rowF⟩] at A0
  refine ⟨fun ne => ?_, fun eq => h0 0 (by rw [A0]; exact cif_y ⟨y10, rowE, by rw [eq]; exact rowF⟩) (by omega)⟩
  rw [cif_n (fun ⟨u, u1, u2⟩ => ne (by rw [w0.e1 rowF u2, w0.e1 rowE u1]))] at A0
  have RG : (∃ u u2, (a, x, u) ∈ ens S.1 ∧ (b, y, u2) ∈ ens S.1 ∧ (rngS S u b ∨ rngS S u2 a)) ↔ (rngS S y10 b ∨ rngS S y11 a) := ⟨fun ⟨u, u2, p, q, t⟩ => by rw [w0.e1 rowE p, w0.e1 rowF q]; exact t, fun t => ⟨y10, y11, rowE, rowF, t⟩⟩
  obtain ⟨-, ⟨kA, sA', wN⟩, -⟩ := wr.2.2.1 _ rowE
  obtain ⟨-, ⟨kB, sB', w2N⟩, -⟩ := wr.2.2.1 _ rowF
  have wN : (y10, kA, sA') ∈ nds S.1 := wN
  have w2N : (y11, kB, sB') ∈ nds S.1 := w2N
  have dirz : ∀ {t k s : Int}, (t, k, s) ∈ nds S.1 → k = 1 → (t, 1, 0) ∈ nds S.1 := fun {t k s} h q => by
    have s0 : s = 0 := (wr.1.1 _ h).2 q
    rw [q, s0] at h; exact h
  have nab : ¬ (a = b ∧ x = y) := fun ⟨q1, q2⟩ => ne (by rw [q1, q2] at rowE; exact w0.e1 rowE rowF)
  have grp : ¬ rngS S y10 b → ¬ rngS S y11 a → wp_Model_swap_b184 cf tv a x b y Q 0 σ := by
    intro r1 r2
    rw [cif_n (fun q => (RG.mp q).elim r1 r2)] at A0
    obtain ⟨w, w2', E1, S2, p0, S0, W0, k, hE, R, h2, wS2, ht, hsf, hQ⟩ := h1 A0
    unfold wp_Model_swap_b184
    refine ⟨fun _ => ?_, fun w => absurd rfl w⟩
    refine sp_grp2 hrk m (by unfold rI; omega) ha hb hx (fun τ c dd y' bs rn hg kτ => ⟨by omega, fun σ36 e36 => ?_⟩)
    obtain ⟨r2', g2⟩ := rwI.nb rn hg e36
    have k36 : RK σ36 := by rw [e36]; exact kτ.sA (f := 739) (by show rJ y; exact hy)
    refine sp_handM hc k36 m r2' wS2 g2 (GO_sw hc w0 hE nab R h2) (by omega) ht hsf (fun τ2 M f k2 _ => ?_)
    exact hQ τ2 M ((r2'.1.mono (fun f o' z => by unfold mMh; omega)).tr f) k2
  have ring : (rngS S y10 b ∨ rngS S y11 a) → wp_Model_swap_b179 cf tv a x b y Q (wp_Model_swap_b184 cf tv a x b y Q) σ := by
    intro r
    unfold wp_Model_swap_b179 wp_Model_swap_b184
    exact ⟨fun w => absurd w (by decide), fun _ => h0 (-9) (by rw [A0]; exact cif_y (RG.mpr r)) (by omega)⟩
  have B153 : ¬ rngS S y10 b → wp_Model_swap_b153 cf tv a x b y Q (wp_Model_swap_b179 cf tv a x b y Q (wp_Model_swap_b184 cf tv a x b y Q)) (wp_Model_swap_b184 cf tv a x b y Q) y11 σ := by
    intro r1
    unfold wp_Model_swap_b153 wp_Model_swap_b183
    refine sp_MnodeOf hrk (Or.inl rfl) m0 F (fun no _ _ => absurd rfl (no _ w2N)) (fun i2 p0 p1 p2 _ _ => ⟨by have := F.1.1; omega, ?_⟩)
    have row : mnR σ 0 i2 ∈ nds S.1 := (TR.mn m0).mpr ⟨i2, p0, p1, rfl⟩
    have kk : gA σ 715 0 (700 * 0 + i2) = kB := by
      have := wr.u row w2N p2
      exact congrArg (fun r => r.2.1) this
    rw [kk]
    refine ⟨fun k1 => grp r1 (fun q => k1 ?_), fun k1 => ?_⟩
    · have := wr.u w2N q.1 rfl
      exact congrArg (fun r => r.2.1) this
    · have w2D := dirz w2N k1
      exact sp_MisIn hc m0 w0 n' (fun an _ _ => ⟨fun w => absurd w (by decide), fun _ => ring (Or.inr ⟨w2D, an⟩)⟩) (fun an _ _ => ⟨fun _ => grp r1 (fun q => an q.2), fun w => absurd rfl w⟩)
  refine sp_MnodeOf hrk (Or.inl rfl) m0 F (fun no _ _ => absurd rfl (no _ wN)) (fun i2 p0 p1 p2 _ _ => ⟨by have := F.1.1; omega, ?_⟩)
  have row : mnR σ 0 i2 ∈ nds S.1 := (TR.mn m0).mpr ⟨i2, p0, p1, rfl⟩
  have kk : gA σ 715 0 (700 * 0 + i2) = kA := by
    have := wr.u row wN p2
    exact congrArg (fun r => r.2.1) this
  rw [kk]
  refine ⟨fun k1 => B153 (fun q => k1 ?_), fun k1 => ?_⟩
  · have := wr.u wN q.1 rfl
    exact congrArg (fun r => r.2.1) this
  · have wD := dirz wN k1
    exact sp_MisIn hc m0 w0 n2 (fun an _ _ => ⟨fun _ => ring (Or.inl ⟨wD, an⟩), fun w => absurd w (by decide)⟩) (fun an _ _ => ⟨fun w => absurd rfl w, fun _ => B153 (fun q => an q.2)⟩)
