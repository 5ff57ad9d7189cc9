/-! Model.rmdir -/
theorem sp_Mrmdir {tv : Nat → Int} {cf : Cf} {σ : St} {S S' : List (Int × Int × Int × (Int → Int)) × Int} {W : List (Int × (List (Int × Int × Int × (Int → Int)) × Int))} {p : Int} {d x : Int} {Q : Int → St → Prop} (hc : CfOK cf) (hrk : RK σ) (m : MP cf σ S S' W p) (hd : rI d) (hx : rJ x)
    (h0 : ∀ no, namA S d x = no → no < 0 → Q no σ)
    (hF : ∀ w k s, namA S d x = 0 → (d, x, w) ∈ ens S.1 → (w, k, s) ∈ nds S.1 → k ≠ 1 → Q (-6) σ)
    (hN : ∀ w, namA S d x = 0 → (d, x, w) ∈ ens S.1 → (w, 1, 0) ∈ nds S.1 → cn1 w (ens S.1) ≠ 0 → Q (-8) σ)
    (h1 : ∀ w, namA S d x = 0 → (d, x, w) ∈ ens S.1 → (w, 1, 0) ∈ nds S.1 → cn1 w (ens S.1) = 0 → ∃ E0 S2 p0 S0 W0 n, (ens S.1).Perm ((d, x, w) :: E0) ∧ RWS S2.1 ((nds S.1).filter (fun n => decide (n.1 ≠ w))) E0 ((ats S.1).filter (fun r => decide (kpA w r))) ((pcs S.1).filter (fun p => decide (p.1 ≠ w))) ∧ S2.2 = S.2 ∧ WF cf S2 ∧ TM cf p 144 S S' W p0 S0 W0 ∧ SFo (p0 + 144) (W0 ++ [(p0 + 144, S2)]) n ∧ ∀ τ, MP cf τ S2 (laS S0 ((W0 ++ [(p0 + 144, S2)]).take n)) ((W0 ++ [(p0 + 144, S2)]).drop n) (p0 + 144) → Fr mMh σ τ → RK τ → Q w τ) : wp_Model_rmdir cf tv d x Q σ := by
  have m' := m
  obtain ⟨⟨m0, m1⟩, ⟨w0, w1, w2⟩, ⟨gw, hw, h7⟩, l, on, q, q'⟩ := m'
  have F := w0.fts hc
  have wr := w0.wr
  unfold wp_Model_rmdir
  refine ⟨fun _ => ?_, fun w => by have w : gI σ 706 0 = 0 := w; omega⟩
  refine sp_MisName hrk hx (fun nm _ _ => ⟨fun _ => ?_, fun w => absurd w (by decide)⟩) (fun nm _ _ => ⟨fun w => absurd rfl w, fun _ => ?_⟩)
  rotate_left
  · unfold wp_Model_rmdir_b27
    exact ⟨fun w => absurd w (by decide), fun _ => h0 (-3) (cif_y nm) (by omega)⟩
  have A0 : namA S d x = dirA (nds S.1) d (cif (∃ w, (d, x, w) ∈ ens S.1) 0 (-4)) := cif_n (fun q => q nm)
  unfold wp_Model_rmdir_b27
  refine sp_Mask (t := 0) hrk m0 F (fun no _ _ => ⟨fun w => absurd w (by decide), fun _ => h0 (-4) (by rw [A0]; exact dir_o (fun k s v => no _ v rfl)) (by omega)⟩) (fun s n' _ _ => ⟨fun _ => ?_, fun w => absurd rfl w⟩) (fun k s n' nk _ _ => ⟨fun w => absurd w (by decide), fun _ => h0 (-6) (by rw [A0]; exact dir_n n' nk (fun a b => wr.u)) (by omega)⟩)
  have s0 : s = 0 := (wr.1.1 _ n').2 rfl
  rw [s0] at n'
  rw [dir_y n'] at A0
  refine sp_MentryOf hrk (Or.inl rfl) m0 F (fun e _ _ => ⟨fun w => absurd rfl w, fun _ => h0 (-4) (by rw [A0]; exact cif_n (fun ⟨w, v⟩ => e _ v ⟨rfl, rfl⟩)) (by omega)⟩) (fun i i0 i1 i2 i3 _ _ => ⟨fun _ => ?_, fun w => by omega⟩)
  have nn := m0.n
  have rowE : meR σ 0 i ∈ ens S.1 := (TR.me m0).mpr ⟨i, i0, i1, rfl⟩
  have rowEe : meR σ 0 i = (d, x, gA σ 720 0 (700 * 0 + i)) := by unfold meR; rw [i2, i3]
  rw [rowEe] at rowE
  refine ⟨by have := F.1.2; omega, fun y6 e6 => ?_⟩
  have e6 : y6 = gA σ 720 0 (700 * 0 + i) := e6
  rw [← e6] at rowE
  have A1 : namA S d x = 0 := by rw [A0]; exact cif_y ⟨_, rowE⟩
  obtain ⟨-, ⟨k0, t0, tn⟩, t1⟩ := wr.2.2.1 _ rowE
  have tn : (y6, k0, t0) ∈ nds S.1 := tn
  refine sp_MnodeOf hrk (Or.inl rfl) m0 F (fun no _ _ => absurd rfl (no _ tn)) (fun j j0 j1 j2 _ _ => ?_)
  have rowN : mnR σ 0 j ∈ nds S.1 := (TR.mn m0).mpr ⟨j, j0, j1, rfl⟩
  have rowNe : mnR σ 0 j = (y6, gA σ 715 0 (700 * 0 + j), gA σ 716 0 (700 * 0 + j)) := by unfold mnR; rw [j2]
  rw [rowNe] at rowN
  have ek := wr.u rowN tn rfl
  rw [Prod.mk.injEq, Prod.mk.injEq] at ek
  have kk : gA σ 715 0 (700 * 0 + j) = k0 := ek.2.1
  refine ⟨by have := F.1.1; omega, ?_⟩
  rw [kk]
  refine ⟨fun k1 => ?_, fun k1 => hF y6 k0 t0 A1 rowE tn k1⟩
  rw [k1] at tn
  have z0 := (wr.1.1 _ tn).2 rfl
  have z0 : t0 = 0 := z0
  rw [z0] at tn
  refine sp_Mfilled hrk (Or.inl rfl) m0 F (fun _ _ => ⟨fun c0 => ?_, fun c0 => hN y6 A1 rowE tn (fun v => c0 (by rw [v]; exact Int.le_refl 0))⟩)
  obtain ⟨E0, S2, p0, S0, W0, n, pE, R1, h2, wS2, ht, hsf, hQ⟩ := h1 y6 A1 rowE tn (by omega)
  refine sp_grp2 (K := fun r τ => ((0 : Int) ≤ r ∧ r < 8) ∧ ∀ σ_28, σ_28 = sA τ 737 0 r 1 → wp_Model_hand cf tv 144 (fun σ_30 => RK σ_30 → Q y6 σ_30) σ_28) hrk m (by unfold rI; omega) hd (by unfold rI; omega) hx (fun τ c dd y bs rn hg kτ => ⟨by omega, fun σ21 e21 => ?_⟩)
  obtain ⟨r2, g2⟩ := rwI.gone rn hg e21
  have k21 : RK σ21 := by rw [e21]; exact kτ.sA (f := 737) (by show rZ 1; unfold rZ; omega)
  exact sp_handM hc k21 m r2 wS2 g2 (GO_un hc w0 (Or.inr rfl) pE tn (fun z => absurd z (by decide)) (fun _ => R1) h2) (by omega) ht hsf (fun τ2 M f k2 _ => hQ τ2 M ((r2.1.mono (fun f o' z => by unfold mMh; omega)).tr f) k2)
