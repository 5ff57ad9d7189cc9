/-! Model.drop -/
theorem WF.a1 {cf : Cf} {S : List (Int × Int × Int × (Int → Int)) × Int} (w : WF cf S) {a b : Int × Int × Int} (ha : a ∈ ats S.1) (hb : b ∈ ats S.1) (e1 : a.1 = b.1) (e2 : a.2.1 = b.2.1) : a = b := by
  obtain ⟨x, x1, x2, x3⟩ := ats_mem.mp ha
  obtain ⟨y, y1, y2, y3⟩ := ats_mem.mp hb
  have ox := (w.iok x x1).2.2.1 x2
  have oy := (w.iok y y1).2.2.1 y2
  rw [← x3, ← y3] at e1 e2
  have e1 : x.1 / 4 = y.1 / 4 := e1
  have e2 : rL8 x.2.2.2 32 = rL8 y.2.2.2 32 := e2
  have : x = y := w.1.1.inj x1 y1 (by show kap x.1 x.2.1 = kap y.1 y.2.1; rw [ox.2.2.2.2, oy.2.2.2.2, e2, show x.1 = y.1 by omega])
  rw [← x3, ← y3, this]
theorem GO_dr {cf : Cf} {S S2 : List (Int × Int × Int × (Int → Int)) × Int} {n b c dd gn x y v0 : Int} {bs : Int → Int} {A0 : List (Int × Int × Int)} (hc : CfOK cf) (w : WF cf S) (hA : (ats S.1).Perm ((n, x, v0) :: A0)) (R : RWS S2.1 (nds S.1) (ens S.1) A0 (pcs S.1)) (h2 : S2.2 = S.2) : GO 11 n b c dd gn x y bs S S2 := by
  intro tv' cf' σ t g Q ht rk m rw' k
  exact sp_dDrop rk ht m (w.fts hc) rw' hA (fun q hq a b => w.a1 hq (hA.mem_iff.mpr List.mem_cons_self) a b) (fun τ T o k' => k τ (MR.of T R h2) o k')
theorem sp_Mdrop {tv : Nat → Int} {cf : Cf} {σ : St} {S S' : List (Int × Int × Int × (Int → Int)) × Int} {W : List (Int × (List (Int × Int × Int × (Int → Int)) × Int))} {p : Int} {n x : Int} {Q : Int → St → Prop} (hc : CfOK cf) (hrk : RK σ) (m : MP cf σ S S' W p) (hn : rI n) (hx : rJ x)
    (h0 : ∀ no, drpA S n x = no → no < 0 → Q no σ)
    (h1 : 0 ≤ drpA S n x → ∃ S2 A' v0 p0 S0 W0 k, (ats S.1).Perm ((n, x, v0) :: A') ∧ RWS S2.1 (nds S.1) (ens S.1) A' (pcs S.1) ∧ S2.2 = S.2 ∧ WF cf S2 ∧ TM cf p 96 S S' W p0 S0 W0 ∧ SFo (p0 + 96) (W0 ++ [(p0 + 96, S2)]) k ∧ ∀ τ, MP cf τ S2 (laS S0 ((W0 ++ [(p0 + 96, S2)]).take k)) ((W0 ++ [(p0 + 96, S2)]).drop k) (p0 + 96) → Fr mMh σ τ → RK τ → Q (drpA S n x) τ) : wp_Model_drop cf tv n x Q σ := by
  have m' := m
  obtain ⟨⟨m0, m1⟩, ⟨w0, w1, w2⟩, ⟨gw, hw, h7⟩, l, on, q, q'⟩ := m'
  have F := w0.fts hc
  unfold wp_Model_drop
  refine ⟨fun _ => ?_, fun w => by have w : gI σ 706 0 = 0 := w; omega⟩
  refine sp_MisName hrk hx (fun nm _ _ => ⟨fun _ => ?_, fun w => absurd w (by decide)⟩) (fun nm _ _ => ⟨fun w => absurd rfl w, fun _ => h0 (-3) (cif_y nm) (by omega)⟩)
  have A0 : drpA S n x = cif ((∃ k s, (n, k, s) ∈ nds S.1) ∧ ∃ v, (n, x, v) ∈ ats S.1) (cn1 n (ats S.1) - 1) (-4) := cif_n (fun q => q nm)
  refine sp_MnodeOf hrk (Or.inl rfl) m0 F (fun no _ _ => ⟨fun _ => h0 (-4) (by rw [A0, cif_n (fun ⟨⟨k, s, v⟩, _⟩ => no _ v rfl)]) (by omega), fun w => absurd rfl w⟩) (fun j j0 j1 j2 _ _ => ⟨fun w => by omega, fun _ => ?_⟩)
  have rowN : mnR σ 0 j ∈ nds S.1 := (TR.mn m0).mpr ⟨j, j0, j1, rfl⟩
  have rowNe : mnR σ 0 j = (n, gA σ 715 0 (700 * 0 + j), gA σ 716 0 (700 * 0 + j)) := by unfold mnR; rw [j2]
  rw [rowNe] at rowN
  refine sp_MattributeOf hrk (Or.inl rfl) m0 F (fun no _ _ => ⟨fun w => absurd rfl w, fun _ => h0 (-4) (by rw [A0, cif_n (fun ⟨_, v, u⟩ => no _ u ⟨rfl, rfl⟩)]) (by omega)⟩) (fun i i0 i1 i2 i3 _ _ => ⟨fun _ => ?_, fun w => by omega⟩)
  have rowA : maR σ 0 i ∈ ats S.1 := (TR.ma m0).mpr ⟨i, i0, i1, rfl⟩
  have rowAe : maR σ 0 i = (n, x, gA σ 724 0 (700 * 0 + i)) := by unfold maR; rw [i2, i3]
  rw [rowAe] at rowA
  have A1 : drpA S n x = cn1 n (ats S.1) - 1 := by rw [A0]; exact cif_y ⟨⟨_, _, rowN⟩, _, rowA⟩
  have c1 : cn1 n (ats S.1) ≠ 0 := fun z => (cn1_z.mp z) _ rowA rfl
  obtain ⟨S2, A', v0, p0, S0, W0, k, pA, R, h2, wS2, ht, hsf, hQ⟩ := h1 (by rw [A1]; omega)
  refine sp_grp1 hrk m (by unfold rI; omega) hn (by unfold rI; omega) hx (fun τ c dd y bs rn hg kτ => ?_)
  refine sp_handM hc kτ m rn wS2 hg (GO_dr hc w0 pA R h2) (by omega) ht hsf (fun τ2 M f k2 _ => ?_)
  refine sp_Mmany (t := 0) k2 M.1.1 (wS2.fts hc) (fun _ _ => ?_)
  have e : (cn1 n (ats S2.1) : Int) = drpA S n x := by
    rw [A1, perm_cn1 R.2.2.1, perm_cn1 pA, cn1_i (show ((n, x, v0) : Int × Int × Int).1 = n from rfl)]; omega
  rw [e]
  exact hQ τ2 M ((rn.1.mono (fun f o' z => by unfold mMh; omega)).tr f) k2
