/-! Model.link -/
/-- a row with one name -/
theorem sp_grp1 {tv : Nat → Int} {cf : Cf} {σ : St} {S S' : List (Int × Int × Int × (Int → Int)) × Int} {W : List (Int × (List (Int × Int × Int × (Int → Int)) × Int))} {p : Int} {op a b x : Int} {K : St → Prop} (hrk : RK σ) (m : MP cf σ S S' W p) (ho : rI op) (ha : rI a) (hb : rI b) (hx : rJ x) (hK : ∀ τ c d y bs, RWn σ τ W.length → rwI τ W.length op a b c d 0 x y bs → RK τ → K τ) : wp_Model_group cf tv op a b (fun r τ => rI r → RK τ → ((0 : Int) ≤ r ∧ r < 8) ∧ ∀ τ', τ' = sA τ 738 0 r x → K τ') σ := by
  obtain ⟨-, -, ⟨gw, hw, h7⟩, -⟩ := m
  refine sp_Mgroup hrk hw (by omega) ho ha hb (fun τ1 o1 o2 o3 o4 o5 f1 k1 _ _ => ⟨by omega, fun σ77 e77 => ?_⟩)
  have f77 : Fr (fun f o' => (f = 738) ∧ o' = 0) τ1 σ77 := by rw [e77]; exact (Fr.rf _ _).sA ⟨rfl, rfl⟩
  refine hK σ77 _ _ _ _ ⟨(f1.mono (fun f o' z => by omega)).tr (f77.mono (fun f o' z => by omega)), fun f hf j hj => ?_, fun j _ => ?_⟩ ⟨by omega, ?_, ?_, ?_, rfl, rfl, ?_, ?_, rfl, rfl⟩ (by rw [e77]; exact k1.sA (f := 738) (by show rJ x; exact hx))
  · rw [e77, gA_sA, if_neg (fun z => hj z.2.2)]
    exact o5 f hf j hj
  · rw [congrFun (f77.a 740 0 (by omega)) j, congrFun (f1.a 740 0 (by omega)) j]
  · rw [congrFun (f77.a 732 0 (by omega)) _]; exact o1
  · rw [congrFun (f77.a 733 0 (by omega)) _]; exact o2
  · rw [congrFun (f77.a 734 0 (by omega)) _]; exact o3
  · rw [congrFun (f77.a 737 0 (by omega)) _]; exact o4
  · rw [e77, gA_sA, if_pos ⟨rfl, rfl, rfl⟩]
/-- where a group goes, by the reference's place -/
def TM (cf : Cf) (p e : Int) (S S' : List (Int × Int × Int × (Int → Int)) × Int) (W : List (Int × (List (Int × Int × Int × (Int → Int)) × Int))) (p0 : Int) (S0 : List (Int × Int × Int × (Int → Int)) × Int) (W0 : List (Int × (List (Int × Int × Int × (Int → Int)) × Int))) : Prop := (p + e ≤ (cf.2.1 - 2) * 128 ∧ p0 = p ∧ S0 = S' ∧ W0 = W) ∨ ((cf.2.1 - 2) * 128 < p + e ∧ p0 = 0 ∧ S0 = S ∧ W0 = [])
theorem GO_lk {cf : Cf} {S S2 : List (Int × Int × Int × (Int → Int)) × Int} {n d c dd gn x y : Int} {bs : Int → Int} (hc : CfOK cf) (w : WF cf S) (R : RWS S2.1 (nds S.1) ((d, x, n) :: ens S.1) (ats S.1) (pcs S.1)) (h2 : S2.2 = S.2) : GO 2 d n c dd gn x y bs S S2 := by
  intro tv' cf' σ t g Q ht rk m rw' k
  exact sp_dLink rk ht m (w.fts hc) rw' (fun τ T o k' => k τ (MR.of T R h2) o k')
theorem sp_Mlink {tv : Nat → Int} {cf : Cf} {σ : St} {S S' : List (Int × Int × Int × (Int → Int)) × Int} {W : List (Int × (List (Int × Int × Int × (Int → Int)) × Int))} {p : Int} {n d x : Int} {Q : Int → St → Prop} (hc : CfOK cf) (hrk : RK σ) (m : MP cf σ S S' W p) (hn : rI n) (hd : rI d) (hx : rJ x)
    (h0 : ∀ no, lkA cf S n d x = no → no < 0 → Q no σ)
    (h1 : lkA cf S n d x = cn3 n (ens S.1) + 1 → ∃ S2 p0 S0 W0 k, RWS S2.1 (nds S.1) ((d, x, n) :: ens S.1) (ats S.1) (pcs S.1) ∧ S2.2 = S.2 ∧ WF cf S2 ∧ TM cf p 144 S S' W p0 S0 W0 ∧ SFo (p0 + 144) (W0 ++ [(p0 + 144, S2)]) k ∧ ∀ τ, MP cf τ S2 (laS S0 ((W0 ++ [(p0 + 144, S2)]).take k)) ((W0 ++ [(p0 + 144, S2)]).drop k) (p0 + 144) → Fr mMh σ τ → RK τ → Q (cn3 n (ens S.1) + 1) τ) : wp_Model_link cf tv n d x Q σ := by
  have m' := m
  obtain ⟨⟨m0, m1⟩, ⟨w0, w1, w2⟩, ⟨gw, hw, h7⟩, l, on, q, q'⟩ := m'
  have F := w0.fts hc
  have wr := w0.wr
  have c0 := cpM_0 hc w0
  have cp := w0.2.2.2.2.2.2.2.2.2.2.1
  have cl := capa_le hc
  have fit := (w0.x.fit hc).2.2
  unfold wp_Model_link
  refine ⟨fun _ => ?_, fun w => by have w : gI σ 706 0 = 0 := w; omega⟩
  refine sp_MisName hrk hx (fun nm _ _ => ⟨fun _ => ?_, fun w => absurd w (by decide)⟩) (fun nm _ _ => ⟨fun w => absurd rfl w, fun _ => h0 (-3) (cif_y nm) (by omega)⟩)
  have A0 : lkA cf S n d x = fileA S n (dirA (nds S.1) d (cif (∃ e, e ∈ ens S.1 ∧ e.1 = d ∧ e.2.1 = x) (-5) (cif (capa cf < cpM S.1 + 240) (-10) (cn3 n (ens S.1) + 1)))) := cif_n (fun q => q nm)
  refine sp_MnodeOf hrk (Or.inl rfl) m0 F (fun no _ _ => ⟨fun _ => h0 (-4) (by rw [A0]; exact fileA_0 (fun k s v => no _ v rfl)) (by omega), fun w => absurd rfl w⟩) (fun i i0 i1 i2 _ _ => ?_)
  have nn := m0.n
  have iR : i < 1400 := by have := F.1.1; omega
  have row : mnR σ 0 i ∈ nds S.1 := (TR.mn m0).mpr ⟨i, i0, i1, rfl⟩
  have rowe : mnR σ 0 i = (n, gA σ 715 0 (700 * 0 + i), gA σ 716 0 (700 * 0 + i)) := by unfold mnR; rw [i2]
  rw [rowe] at row
  have kk : 1 ≤ gA σ 715 0 (700 * 0 + i) ∧ gA σ 715 0 (700 * 0 + i) ≤ 3 := (w0.nk row).2.1
  generalize hk : gA σ 715 0 (700 * 0 + i) = kd at *
  generalize gA σ 716 0 (700 * 0 + i) = sz at *
  have hk' : gA σ 715 0 (700 * 0 + i) = kd := hk
  have B57 : (kd = 2 → cn3 n (ens S.1) ≠ 0) → wp_Model_link_b57 cf tv n d x Q (700 * 0 + i) σ := by
    intro nz
    unfold wp_Model_link_b57
    rw [hk']
    refine ⟨by omega, fun k2 => ?_, fun k2 => ⟨by omega, ?_⟩⟩
    · rw [k2] at row
      rw [fileA_2 w0 row, cif_n (nz k2)] at A0
      refine sp_Mask (t := 0) hrk m0 F (fun no _ _ => ⟨fun w => absurd w (by decide), fun _ => h0 (-4) (by rw [A0]; exact dir_o (fun k s v => no _ v rfl)) (by omega)⟩) (fun s n' _ _ => ⟨fun _ => ?_, fun w => absurd rfl w⟩) (fun k s n' nk _ _ => ⟨fun w => absurd w (by decide), fun _ => h0 (-6) (by rw [A0]; exact dir_n n' nk (fun a b => wr.u)) (by omega)⟩)
      have s0 : s = 0 := (wr.1.1 _ n').2 rfl
      rw [s0] at n'
      rw [dir_y n'] at A0
      refine sp_MentryOf hrk (Or.inl rfl) m0 F (fun e _ _ => ⟨fun _ => ?_, fun w => absurd rfl w⟩) (fun j j0 j1 j2 j3 _ _ => ⟨fun w => by omega, fun _ => h0 (-5) (by rw [A0]; exact cif_y ⟨_, (TR.me m0).mpr ⟨j, j0, j1, rfl⟩, by show gA σ 718 0 _ = d; exact j2, by show gA σ 719 0 _ = x; exact j3⟩) (by omega)⟩)
      rw [cif_n (fun ⟨e', e1, e2, e3⟩ => e e' e1 ⟨e2, e3⟩)] at A0
      refine sp_Mlive (t := 0) hrk m0 F (fun r hr => by have := (fit r hr).1; omega) (fun _ _ => ?_)
      have lv : 240 * ((nds S.1).length + (ens S.1).length + (ats S.1).length : Int) + pSum (pcs S.1) = cpM S.1 := w0.szr.symm
      rw [lv, w32_id (by unfold rI; omega), cap_e]
      refine ⟨fun hcap => ?_, fun hcap => h0 (-10) (by rw [A0]; exact cif_y (by omega)) (by omega)⟩
      rw [cif_n (by omega)] at A0
      obtain ⟨S2, p0, S0, W0, k, R, h2, wS2, ht, hsf, hQ⟩ := h1 A0
      refine sp_grp1 hrk m (by unfold rI; omega) hd hn hx (fun τ c dd y bs rn hg kτ => ?_)
      refine sp_handM hc kτ m rn wS2 hg (GO_lk hc w0 R h2) (by omega) ht hsf (fun τ2 M f k2 _ => ?_)
      refine sp_Mlinks k2 (Or.inl rfl) M.1.1 (wS2.fts hc) (fun _ _ => ?_)
      rw [perm_cn3 R.2.1, cn3_i (show ((d, x, n) : Int × Int × Int).2.2 = n from rfl)]
      exact hQ τ2 M ((rn.1.mono (fun f o' z => by unfold mMh; omega)).tr f) k2
    · by_cases q1 : kd = 1
      · rw [if_pos q1]
        rw [q1] at row
        exact h0 (-7) (by rw [A0]; exact fileA_1 w0 row) (by omega)
      · rw [if_neg q1]
        rw [show kd = 3 by omega] at row
        exact h0 (-11) (by rw [A0]; exact fileA_3 w0 row) (by omega)
  refine ⟨fun w => by omega, fun _ => ⟨by omega, fun k1 => B57 (fun z => by omega), fun k1 => ?_⟩⟩
  refine sp_Mlinks hrk (Or.inl rfl) m0 F (fun _ _ => ⟨fun z => B57 (fun _ v => z (by rw [v]; rfl)), fun z => ?_⟩)
  have z0 : cn3 n (ens S.1) = 0 := by omega
  by_cases k2 : kd = 2
  · rw [k2] at row
    exact h0 (-4) (by rw [A0, fileA_2 w0 row]; exact cif_y z0) (by omega)
  · have := wr.2.2.2.2.2.2.1 _ row k2 (fun e => by
      have e : n = 1 := e
      rw [e] at row
      have := wr.u row wr.2.1 rfl
      rw [Prod.mk.injEq, Prod.mk.injEq] at this
      exact k1 this.2.1) id
    have : cn3 n (ens S.1) = 1 := this
    omega
