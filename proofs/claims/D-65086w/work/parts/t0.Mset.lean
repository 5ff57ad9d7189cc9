/-! Model.set -/
theorem rwI.nb {σ τ υ : St} {w op a b c d x y y2 g : Int} {bs : Int → Int} (r : RWn σ τ w) (h : rwI τ w op a b c d g x y bs) (e : υ = sA τ 739 0 w y2) : RWn σ υ w ∧ rwI υ w op a b c d g x y2 bs := by
  have f : Fr (fun f o' => (f = 739) ∧ o' = 0) τ υ := by rw [e]; exact (Fr.rf _ _).sA ⟨rfl, rfl⟩
  obtain ⟨h0, h1, h2, h3, h4, h5, h6, h7, h8, h9⟩ := h
  refine ⟨⟨r.1.tr (f.mono (fun f o' z => by omega)), fun f' hf j hj => ?_, fun j hj => ?_⟩, h0, ?_, ?_, ?_, ?_, ?_, ?_, ?_, ?_, ?_⟩
  · rw [e, gA_sA, if_neg (fun z => hj z.2.2)]
    exact r.2.1 f' hf j hj
  · rw [congrFun (f.a 740 0 (by omega)) j]; exact r.2.2 j hj
  · rw [congrFun (f.a 732 0 (by omega)) _]; exact h1
  · rw [congrFun (f.a 733 0 (by omega)) _]; exact h2
  · rw [congrFun (f.a 734 0 (by omega)) _]; exact h3
  · rw [congrFun (f.a 735 0 (by omega)) _]; exact h4
  · rw [congrFun (f.a 736 0 (by omega)) _]; exact h5
  · rw [congrFun (f.a 737 0 (by omega)) _]; exact h6
  · rw [congrFun (f.a 738 0 (by omega)) _]; exact h7
  · rw [e, gA_sA, if_pos ⟨rfl, rfl, rfl⟩]
  · unfold rowB at h9 ⊢
    rw [f.a 740 0 (by omega)]; exact h9
theorem GO_st {cf : Cf} {S S2 : List (Int × Int × Int × (Int → Int)) × Int} {n b c dd gn x v : Int} {bs : Int → Int} {A' : List (Int × Int × Int)} (hc : CfOK cf) (w : WF cf S) (R : setR S S2 n x v A') : GO 10 n b c dd gn x v bs S S2 := by
  intro tv' cf' σ t g Q ht rk m rw' k
  obtain ⟨R1, R2, R3⟩ := R
  rcases R3 with ⟨v0, q⟩ | ⟨q1, q2⟩
  · exact sp_dSet (v0 := v0) rk ht m (w.fts hc) rw' (Or.inl ⟨q, fun z hz a b => w.a1 hz (q.mem_iff.mpr List.mem_cons_self) a b⟩) (fun τ T o k' => k τ (MR.of T R1 R2) o k')
  · refine sp_dSet (v0 := 0) rk ht m (w.fts hc) rw' (Or.inr ⟨q1, fun z hz e => ?_⟩) (fun τ T o k' => k τ (MR.of T R1 R2) o k')
    have : z = (n, x, z.2.2) := by rw [← e.1, ← e.2]
    rw [this] at hz
    exact q2 _ hz
theorem sp_Mset {tv : Nat → Int} {cf : Cf} {σ : St} {S S' : List (Int × Int × Int × (Int → Int)) × Int} {W : List (Int × (List (Int × Int × Int × (Int → Int)) × Int))} {p : Int} {n x v : Int} {Q : Int → St → Prop} (hc : CfOK cf) (hrk : RK σ) (m : MP cf σ S S' W p) (hn : rI n) (hx : rJ x) (hv : rJ v)
    (h0 : ∀ no, setA cf S n x = no → no < 0 → Q no σ)
    (h1 : 0 ≤ setA cf S n x → ∃ S2 A' p0 S0 W0 k, setR S S2 n x v A' ∧ WF cf S2 ∧ TM cf p 96 S S' W p0 S0 W0 ∧ SFo (p0 + 96) (W0 ++ [(p0 + 96, S2)]) k ∧ ∀ τ, MP cf τ S2 (laS S0 ((W0 ++ [(p0 + 96, S2)]).take k)) ((W0 ++ [(p0 + 96, S2)]).drop k) (p0 + 96) → Fr mMh σ τ → RK τ → Q (setA cf S n x) τ) : wp_Model_set cf tv n x v Q σ := by
  have m' := m
  obtain ⟨⟨m0, m1⟩, ⟨w0, w1, w2⟩, ⟨gw, hw, h7⟩, l, on, q, q'⟩ := m'
  have F := w0.fts hc
  have c0 := cpM_0 hc w0
  have cp := w0.2.2.2.2.2.2.2.2.2.2.1
  have cl := capa_le hc
  have fit := (w0.x.fit hc).2.2
  unfold wp_Model_set
  refine ⟨fun _ => ?_, fun w => by have w : gI σ 706 0 = 0 := w; omega⟩
  refine sp_MisName hrk hx (fun nm _ _ => ⟨fun _ => ?_, fun w => absurd w (by decide)⟩) (fun nm _ _ => ⟨fun w => absurd rfl w, fun _ => h0 (-3) (cif_y nm) (by omega)⟩)
  have A0 : setA cf S n x = cif (∃ k s, (n, k, s) ∈ nds S.1) (cif (∃ v, (n, x, v) ∈ ats S.1) (cn1 n (ats S.1)) (cif (capa cf < cpM S.1 + 240) (-10) (cn1 n (ats S.1) + 1))) (-4) := cif_n (fun q => q nm)
  refine sp_MnodeOf hrk (Or.inl rfl) m0 F (fun no _ _ => ⟨fun w => absurd rfl w, fun _ => h0 (-4) (by rw [A0, cif_n (fun ⟨k, s, v⟩ => no _ v rfl)]) (by omega)⟩) (fun j j0 j1 j2 _ _ => ⟨fun _ => ?_, fun w => by omega⟩)
  have rowN : mnR σ 0 j ∈ nds S.1 := (TR.mn m0).mpr ⟨j, j0, j1, rfl⟩
  have rowNe : mnR σ 0 j = (n, gA σ 715 0 (700 * 0 + j), gA σ 716 0 (700 * 0 + j)) := by unfold mnR; rw [j2]
  rw [rowNe] at rowN
  rw [cif_y ⟨_, _, rowN⟩] at A0
  have B62 : 0 ≤ setA cf S n x → (∀ S2 A', setR S S2 n x v A' → (cn1 n (ats S2.1) : Int) = setA cf S n x) → wp_Model_set_b62 cf tv n x v Q σ := by
    intro A1 A2
    obtain ⟨S2, A', p0, S0, W0, k, R, wS2, ht, hsf, hQ⟩ := h1 A1
    unfold wp_Model_set_b62
    refine sp_grp2 hrk m (by unfold rI; omega) hn (by unfold rI; omega) hx (fun τ c dd y bs rn hg kτ => ⟨by omega, fun σ20 e20 => ?_⟩)
    obtain ⟨r2, g2⟩ := rwI.nb rn hg e20
    have k20 : RK σ20 := by rw [e20]; exact kτ.sA (f := 739) (by show rJ v; exact hv)
    refine sp_handM hc k20 m r2 wS2 g2 (GO_st hc w0 R) (by omega) ht hsf (fun τ2 M f k2 _ => ?_)
    refine sp_Mmany (t := 0) k2 M.1.1 (wS2.fts hc) (fun _ _ => ?_)
    rw [A2 S2 A' R]
    exact hQ τ2 M ((r2.1.mono (fun f o' z => by unfold mMh; omega)).tr f) k2
  have ci : ∀ v0 A', (cn1 n ((n, x, v0) :: A') : Int) = cn1 n A' + 1 := fun v0 A' => by rw [cn1_i (show ((n, x, v0) : Int × Int × Int).1 = n from rfl)]; omega
  refine sp_MattributeOf hrk (Or.inl rfl) m0 F (fun no _ _ => ⟨fun w => absurd rfl w, fun _ => ?_⟩) (fun i i0 i1 i2 i3 _ _ => ⟨fun _ => ?_, fun w => by omega⟩)
  · rw [cif_n (fun ⟨v0, u⟩ => no _ u ⟨rfl, rfl⟩)] at A0
    refine sp_Mlive (t := 0) hrk m0 F (fun r hr => by have := (fit r hr).1; omega) (fun _ _ => ?_)
    have lv : 240 * ((nds S.1).length + (ens S.1).length + (ats S.1).length : Int) + pSum (pcs S.1) = cpM S.1 := w0.szr.symm
    rw [lv, w32_id (by unfold rI; omega), cap_e]
    refine ⟨fun hcap => ?_, fun hcap => h0 (-10) (by rw [A0]; exact cif_y (by omega)) (by omega)⟩
    rw [cif_n (by omega)] at A0
    refine B62 (by rw [A0]; omega) (fun S2 A' R => ?_)
    obtain ⟨R1, R2, R3⟩ := R
    rw [A0, perm_cn1 R1.2.2.1, ci]
    rcases R3 with ⟨v0, q⟩ | ⟨q, -⟩
    · exact absurd ⟨rfl, rfl⟩ (no _ (q.mem_iff.mpr List.mem_cons_self))
    · rw [q]
  · have rowA : maR σ 0 i ∈ ats S.1 := (TR.ma m0).mpr ⟨i, i0, i1, rfl⟩
    have rowAe : maR σ 0 i = (n, x, gA σ 724 0 (700 * 0 + i)) := by unfold maR; rw [i2, i3]
    rw [rowAe] at rowA
    rw [cif_y ⟨_, rowA⟩] at A0
    refine B62 (by rw [A0]; omega) (fun S2 A' R => ?_)
    obtain ⟨R1, R2, R3⟩ := R
    rw [A0, perm_cn1 R1.2.2.1, ci]
    rcases R3 with ⟨v0, q⟩ | ⟨-, q⟩
    · rw [perm_cn1 q, ci]
    · exact absurd rowA (q _)
