/-! Model.make -/
theorem GO_mk {cf : Cf} {S S2 : List (Int × Int × Int × (Int → Int)) × Int} {d kd c dd gn x y : Int} {bs : Int → Int} (hc : CfOK cf) (w : WF cf S) (hx : S.2 < 1073740000) (R : RWS S2.1 ((S.2, kd, if kd = 3 then c else 0) :: nds S.1) ((d, x, S.2) :: ens S.1) (ats S.1) (if kd = 3 then (S.2, 0, c, bs) :: pcs S.1 else pcs S.1)) (h2 : S2.2 = S.2 + 1) : GO 1 d kd c dd gn x y bs S S2 := by
  intro tv' cf' σ t g Q ht rk m rw' k
  have l := (w.x.ft hc).2.2
  have n1 := w.wr.nx1
  refine sp_dMake rk ht m (w.fts hc) rw' ⟨by omega, by omega⟩ ⟨by omega, by omega, by omega⟩ (fun r hr => w.wr.nxN r hr) (fun q hq e => ?_) (fun τ T o k' => k τ (MR.of T R h2) o k')
  obtain ⟨k0, s0, a, -⟩ := w.wr.2.2.2.2.1 q hq
  exact w.wr.nxN (q.1, k0, s0) a e
/-- the reference's own tape -/
def tpM (σ : St) (tp : Int) : Int → Int := fun i => if 0 ≤ i ∧ i < tp then gA σ 744 0 i else 0
theorem sp_Mmake {tv : Nat → Int} {cf : Cf} {σ : St} {S S' : List (Int × Int × Int × (Int → Int)) × Int} {W : List (Int × (List (Int × Int × Int × (Int → Int)) × Int))} {p : Int} {d x kd tp : Int} {Q : Int → St → Prop} (hc : CfOK cf) (hrk : RK σ) (m : MP cf σ S S' W p) (hnx : S.2 < 1073739000) (hd : rI d) (hx : rJ x) (hkd : 1 ≤ kd ∧ kd ≤ 3) (htp : gI σ 743 0 = tp) (htr : 0 ≤ tp ∧ tp ≤ 200)
    (h0 : ∀ no, mkA cf S d x kd tp = no → no < 0 → Q no σ)
    (h1 : mkA cf S d x kd tp = S.2 → nmV x → (kd = 3 → 1 ≤ tp ∧ tp ≤ 64) → ∃ S2 p0 S0 W0 k, RWS S2.1 ((S.2, kd, if kd = 3 then tp else 0) :: nds S.1) ((d, x, S.2) :: ens S.1) (ats S.1) (if kd = 3 then (S.2, 0, tp, tpM σ tp) :: pcs S.1 else pcs S.1) ∧ S2.2 = S.2 + 1 ∧ WF cf S2 ∧ ((p + (144 + (if kd = 3 then 32 + (tp + 7) / 8 * 8 else 0)) ≤ (cf.2.1 - 2) * 128 ∧ p0 = p ∧ S0 = S' ∧ W0 = W) ∨ ((cf.2.1 - 2) * 128 < p + (144 + (if kd = 3 then 32 + (tp + 7) / 8 * 8 else 0)) ∧ p0 = 0 ∧ S0 = S ∧ W0 = [])) ∧ SFo (p0 + (144 + (if kd = 3 then 32 + (tp + 7) / 8 * 8 else 0))) (W0 ++ [(p0 + (144 + (if kd = 3 then 32 + (tp + 7) / 8 * 8 else 0)), S2)]) k ∧ ∀ τ, MP cf τ S2 (laS S0 ((W0 ++ [(p0 + (144 + (if kd = 3 then 32 + (tp + 7) / 8 * 8 else 0)), S2)]).take k)) ((W0 ++ [(p0 + (144 + (if kd = 3 then 32 + (tp + 7) / 8 * 8 else 0)), S2)]).drop k) (p0 + (144 + (if kd = 3 then 32 + (tp + 7) / 8 * 8 else 0))) → gI τ 743 0 = (if kd = 3 then 0 else tp) → Fr (fun f o' => mMh f o' ∨ (f = 743 ∧ o' = 0)) σ τ → RK τ → Q S.2 τ) : wp_Model_make cf tv d x kd Q σ := by
  have m' := m
  obtain ⟨⟨m0, m1⟩, ⟨w0, w1, w2⟩, ⟨gw, hw, h7⟩, l, on, q, q'⟩ := m'
  have F := w0.fts hc
  have wr := w0.wr
  have n1 := wr.nx1
  have c0 := cpM_0 hc w0
  have cp := w0.2.2.2.2.2.2.2.2.2.2.1
  have cl := capa_le hc
  have fit := (w0.x.fit hc).2.2
  have hd' := hd
  unfold rI at hd'
  have B39 : ¬ (nmV x ∧ (kd = 3 → 1 ≤ tp ∧ tp ≤ 64)) → wp_Model_make_b39 cf tv d x kd Q (wp_Model_make_b49 cf tv d x kd Q) σ := fun n => by
    unfold wp_Model_make_b39 wp_Model_make_b49
    exact ⟨fun w => absurd w (by decide), fun _ => h0 (-3) (cif_y n) (by omega)⟩
  have B44 : nmV x → (kd = 3 → 1 ≤ tp ∧ tp ≤ 64) → wp_Model_make_b44 cf tv d x kd Q (wp_Model_make_b49 cf tv d x kd Q) σ := by
    intro nm tk
    have A1 := mkA_1 (cf := cf) (S := S) (d := d) ⟨nm, tk⟩
    unfold wp_Model_make_b44 wp_Model_make_b49
    refine sp_Mask (t := 0) hrk m0 F (fun n _ _ => ⟨fun w => absurd w (by decide), fun _ => h0 (-4) (by rw [A1]; exact dir_o (fun k s v => n _ v rfl)) (by omega)⟩) (fun s n _ _ => ⟨fun _ => ?_, fun w => absurd rfl w⟩) (fun k s n nk _ _ => ⟨fun w => absurd w (by decide), fun _ => h0 (-6) (by rw [A1]; exact dir_n n nk (fun a b => wr.u)) (by omega)⟩)
    have s0 : s = 0 := (wr.1.1 _ n).2 rfl
    rw [s0] at n
    rw [dir_y n] at A1
    refine sp_MentryOf hrk (Or.inl rfl) m0 F (fun e _ _ => ⟨fun _ => ?_, fun w => absurd rfl w⟩) (fun i i0 i1 i2 i3 _ _ => ⟨fun w => by omega, fun _ => h0 (-5) (by rw [A1]; exact cif_y ⟨_, (TR.me m0).mpr ⟨i, i0, i1, rfl⟩, by show gA σ 718 0 _ = d; exact i2, by show gA σ 719 0 _ = x; exact i3⟩) (by omega)⟩)
    have A2 : mkA cf S d x kd tp = cif (capa cf < cpM S.1 + mkR kd tp) (-10) S.2 := by rw [A1, cif_n (fun ⟨e', e1, e2, e3⟩ => e e' e1 ⟨e2, e3⟩)]
    refine sp_Mlive (t := 0) hrk m0 F (fun r hr => by have := (fit r hr).1; omega) (fun _ _ => ?_)
    have lv : 240 * ((nds S.1).length + (ens S.1).length + (ats S.1).length : Int) + pSum (pcs S.1) = cpM S.1 := w0.szr.symm
    rw [lv, w32_id (by unfold rI; omega)]
    have K : ∀ t0, t0 = (if kd = 3 then 224 + (tp + 7) / 8 * 8 else 0) → wp_Model_make_b102 cf tv d x kd Q t0 (cpM S.1 + 480) σ := by
      intro t0 e0
      have t0r : 0 ≤ t0 ∧ t0 ≤ 400 := by
        rw [e0]
        by_cases q : kd = 3
        · have := tk q; rw [if_pos q]; omega
        · rw [if_neg q]; omega
      have mk0 : 480 + t0 = mkR kd tp := by unfold mkR; rw [e0]
      unfold wp_Model_make_b102
      rw [w32_id (by unfold rI; omega), cap_e]
      refine ⟨fun hcap => ⟨by omega, fun y6 e6 => ?_⟩, fun hcap => h0 (-10) (by rw [A2]; exact cif_y (by omega)) (by omega)⟩
      have A3 : mkA cf S d x kd tp = S.2 := by rw [A2, cif_n (by omega)]
      have y6' : y6 = S.2 := by rw [e6]; exact m0.2.2.2.2.2
      obtain ⟨S2, p0, S0, W0, k, R, h2, wS2, ht, hsf, hQ⟩ := h1 A3 nm tk
      clear h1 h0
      refine sp_Mgroup hrk hw (by omega) (by unfold rI; omega) hd (by unfold rI; omega) (fun τ1 o1 o2 o3 o4 o5 f1 k1 _ _ => ⟨by omega, fun σ77 e77 => ?_⟩)
      have K5 : ∀ σ', RWn σ σ' W.length → RK σ' → (gA σ' 732 0 W.length = 1 ∧ gA σ' 733 0 W.length = d ∧ gA σ' 734 0 W.length = kd ∧ gA σ' 738 0 W.length = x) → (kd = 3 → gA σ' 735 0 W.length = tp ∧ rowB σ' W.length = tpM σ tp) → wp_Model_make_b205 cf tv d x kd Q y6 σ' := by
        intro σ' rn k' ⟨v1, v2, v3, v4⟩ v5
        have tp' : gI σ' 743 0 = tp := by rw [rn.1.i _ _ (by omega)]; exact htp
        have R' : RWS S2.1 ((S.2, kd, if kd = 3 then gA σ' 735 0 W.length else 0) :: nds S.1) ((d, x, S.2) :: ens S.1) (ats S.1) (if kd = 3 then (S.2, 0, gA σ' 735 0 W.length, rowB σ' W.length) :: pcs S.1 else pcs S.1) := by
          by_cases q3 : kd = 3
          · obtain ⟨v6, v7⟩ := v5 q3
            rw [v6, v7]; exact R
          · simp only [if_neg q3] at R ⊢; exact R
        have K6 : ∀ e, e = 144 + (if kd = 3 then 32 + (tp + 7) / 8 * 8 else 0) → wp_Model_make_b229 cf tv d x kd Q y6 e σ' := by
          intro e ee
          have er : 0 < e ∧ e ≤ 512 := by
            rw [ee]
            by_cases q3 : kd = 3
            · have := tk q3; rw [if_pos q3]; omega
            · rw [if_neg q3]; omega
          rw [← ee] at ht hsf hQ
          unfold wp_Model_make_b229 wp_Model_make_b247
          refine sp_handM hc k' m rn wS2 (op := 1) (a := d) (b := kd) (c := gA σ' 735 0 W.length) (d := gA σ' 736 0 W.length) (gn := gA σ' 737 0 W.length) (x := x) (y := gA σ' 739 0 W.length) (bs := rowB σ' W.length) ⟨by omega, v1, v2, v3, rfl, rfl, rfl, v4, rfl, rfl⟩ (GO_mk hc w0 (by omega) R' h2) er ht hsf (fun τ M f k'' _ => ?_)
          have t4 : gI τ 743 0 = tp := by rw [f.i _ _ (fun z => by unfold mMh at z; omega)]; exact tp'
          have fσ : Fr (fun f o' => mMh f o' ∨ (f = 743 ∧ o' = 0)) σ τ := (rn.1.mono (fun f o' z => Or.inl (by unfold mMh; omega))).tr (f.mono (fun f o' => Or.inl))
          have fin : ∀ t0, t0 = (if kd = 3 then 0 else tp) → ∀ σ67, σ67 = sI τ 743 0 t0 → Q y6 σ67 := by
            intro t0 e0 σ67 e67
            have t0r : rI t0 := by
              rw [e0]
              by_cases q3 : kd = 3
              · rw [if_pos q3]; unfold rI; omega
              · rw [if_neg q3]; unfold rI; omega
            have f67 : Fr (fun f o' => f = 743 ∧ o' = 0) τ σ67 := by rw [e67]; exact (Fr.rf _ _).sI ⟨rfl, rfl⟩
            rw [y6']
            exact hQ σ67 (M.fr f67 (fun g z v => by omega)) (by rw [e67, gI_sI1]; exact e0) (fσ.tr (f67.mono (fun f o' => Or.inr))) (by rw [e67]; exact k''.sI (f := 743) (by exact t0r))
          exact ⟨fun q3 => fin _ (by rw [if_neg q3]; exact t4), fun q3 => fin 0 (by rw [if_pos q3])⟩
        unfold wp_Model_make_b205
        refine ⟨fun q3 => K6 144 (by rw [if_neg q3]; rfl), fun q3 => ?_⟩
        have := tk q3
        rw [tp']
        refine sp_Meights (by omega) (fun _ _ => ?_)
        rw [w32_id (by unfold rI; omega)]
        exact K6 _ (by rw [if_pos q3]; omega)
      have f77 : Fr (fun f o' => (f = 738) ∧ o' = 0) τ1 σ77 := by rw [e77]; exact (Fr.rf _ _).sA ⟨rfl, rfl⟩
      have k77 : RK σ77 := by rw [e77]; exact k1.sA (f := 738) (by show rJ x; exact hx)
      have rn77 : RWn σ σ77 W.length := by
        refine ⟨(f1.mono (fun f o' z => by omega)).tr (f77.mono (fun f o' z => by omega)), fun f hf j hj => ?_, fun j _ => ?_⟩
        · rw [e77, gA_sA]
          rw [if_neg (fun z => hj z.2.2)]
          exact o5 f hf j hj
        · rw [congrFun (f77.a 740 0 (by omega)) j, congrFun (f1.a 740 0 (by omega)) j]
      have g77 : gA σ77 732 0 W.length = 1 ∧ gA σ77 733 0 W.length = d ∧ gA σ77 734 0 W.length = kd ∧ gA σ77 738 0 W.length = x := by
        refine ⟨?_, ?_, ?_, ?_⟩
        · rw [congrFun (f77.a 732 0 (by omega)) _]; exact o1
        · rw [congrFun (f77.a 733 0 (by omega)) _]; exact o2
        · rw [congrFun (f77.a 734 0 (by omega)) _]; exact o3
        · rw [e77, gA_sA, if_pos ⟨rfl, rfl, rfl⟩]
      refine ⟨fun q3 => K5 σ77 rn77 k77 g77 (fun z => absurd z q3), fun q3 => ⟨by omega, fun σ78 e78 => ?_⟩⟩
      have t3 := tk q3
      have t77 : gI σ77 743 0 = tp := by rw [rn77.1.i _ _ (by omega)]; exact htp
      rw [t77] at e78
      have f78 : Fr (fun f o' => (f = 735) ∧ o' = 0) σ77 σ78 := by rw [e78]; exact (Fr.rf _ _).sA ⟨rfl, rfl⟩
      have k78 : RK σ78 := by rw [e78]; exact k77.sA (f := 735) (by show rI tp; unfold rI; omega)
      refine lQ3_rule (fun a b y8 τ => a = y6 ∧ b = W.length ∧ (0 ≤ y8 ∧ y8 ≤ 64) ∧ RK τ ∧ Fr (fun f o' => f = 740 ∧ o' = 0) σ78 τ ∧ ∀ j, gA τ 740 0 j = if 64 * (W.length : Int) ≤ j ∧ j < 64 * (W.length : Int) + y8 then tpM σ tp (j - 64 * W.length) else gA σ78 740 0 j) (fun _ _ y8 _ => (64 - y8).toNat) ?_ _ _ _ σ78 ⟨rfl, rfl, by omega, k78, Fr.rf _ _, fun j => by rw [if_neg (by omega)]⟩
      intro K' a b y8 τ hI hK
      obtain ⟨ea, eb, hy, kτ, fτ, vτ⟩ := hI
      rw [ea, eb]
      unfold wp_Model_make_L159 wp_Model_make_b198
      have step : ∀ v t1, v = tpM σ tp y8 → y8 < 64 → t1 = w32 ((w32 (64 * (W.length : Int))) + y8) → ((0 : Int) ≤ t1 ∧ t1 < 512) ∧ ∀ σ_70, σ_70 = sA τ 740 0 t1 v → ∀ y8_71, y8_71 = w32 (y8 + 1) → K' y6 W.length y8_71 σ_70 := by
        intro v t1 ev lt e1
        rw [w32_id (x := 64 * _) (by unfold rI; omega), w32_id (by unfold rI; omega)] at e1
        refine ⟨by omega, fun σ70 e70 y9 e9 => ?_⟩
        rw [w32_id (by unfold rI; omega)] at e9
        have rv : rB v := by
          rw [ev]; unfold tpM
          by_cases z : 0 ≤ y8 ∧ y8 < tp
          · rw [if_pos z]; exact hrk.ab 744 0 _ rfl
          · rw [if_neg z]; unfold rB; omega
        refine hK y6 W.length y9 σ70 ⟨rfl, rfl, by omega, by rw [e70]; exact kτ.sA (f := 740) (by show rB v; exact rv), by rw [e70]; exact fτ.sA ⟨rfl, rfl⟩, fun j => ?_⟩ (by omega)
        rw [e70, gA_sA]
        by_cases z : j = t1
        · rw [if_pos ⟨rfl, rfl, z⟩, if_pos (by omega), ev, show j - 64 * (W.length : Int) = y8 by omega]
        · rw [if_neg (fun u => z u.2.2), vτ j]
          by_cases z2 : 64 * (W.length : Int) ≤ j ∧ j < 64 * (W.length : Int) + y8
          · rw [if_pos z2, if_pos (by omega)]
          · rw [if_neg z2, if_neg (by omega)]
      have tτ : gI τ 743 0 = tp := by rw [fτ.i _ _ (by omega), f78.i _ _ (by omega)]; exact t77
      have rT : RWn σ τ W.length := by
        refine ⟨(rn77.1.tr (f78.mono (fun f o' z => by omega))).tr (fτ.mono (fun f o' z => by omega)), fun f hf j hj => ?_, fun j hj => ?_⟩
        · rw [congrFun (fτ.a f 0 (by omega)) j, e78, gA_sA, if_neg (fun z => hj z.2.2)]
          exact rn77.2.1 f hf j hj
        · rw [vτ j, if_neg (by omega), congrFun (f78.a 740 0 (by omega)) j]
          exact rn77.2.2 j hj
      refine ⟨fun z => K5 τ rT kτ ?_ (fun _ => ⟨?_, ?_⟩), fun z => ⟨fun z2 => step 0 _ ?_ (by omega) rfl, fun z2 => ⟨by omega, step _ _ ?_ (by omega) rfl⟩⟩⟩
      · have c : ∀ f, (f = 732 ∨ f = 733 ∨ f = 734 ∨ f = 738) → gA τ f 0 W.length = gA σ77 f 0 W.length := fun f hf => by
          rw [congrFun (fτ.a f 0 (by omega)) _, congrFun (f78.a f 0 (by omega)) _]
        rw [c _ (Or.inl rfl), c _ (Or.inr (Or.inl rfl)), c _ (Or.inr (Or.inr (Or.inl rfl))), c _ (Or.inr (Or.inr (Or.inr rfl)))]
        exact g77
      · rw [congrFun (fτ.a 735 0 (by omega)) _, e78, gA_sA, if_pos ⟨rfl, rfl, rfl⟩]
      · unfold rowB
        funext i
        by_cases z2 : 0 ≤ i ∧ i < 64
        · rw [if_pos z2, vτ, if_pos (by omega), show 64 * (W.length : Int) + i - 64 * W.length = i by omega]
        · rw [if_neg z2]; unfold tpM; rw [if_neg (by omega)]
      · rw [tτ] at z2; unfold tpM; rw [if_neg (by omega)]
      · rw [tτ] at z2; unfold tpM; rw [if_pos (by omega)]
        rw [congrFun (fτ.a 744 0 (by omega)) _, congrFun (f78.a 744 0 (by omega)) _, congrFun (rn77.1.a 744 0 (by omega)) _]
    by_cases q3 : kd = 3
    · refine ⟨fun w => absurd q3 w, fun _ => ?_⟩
      rw [show gI σ 743 0 = tp from htp]
      refine sp_Meights (by omega) (fun _ _ => ?_)
      rw [w32_id (by unfold rI; omega)]
      exact K _ (by rw [if_pos q3])
    · exact ⟨fun _ => K 0 (by rw [if_neg q3]), fun w => absurd w q3⟩
  unfold wp_Model_make
  refine ⟨fun _ => ?_, fun w => ?_⟩
  · refine sp_MisName hrk hx (fun nm _ _ => ⟨fun w => absurd w (by decide), fun _ => ⟨fun n3 => B44 nm (fun w => absurd w n3), fun e3 => ?_⟩⟩) (fun nm _ _ => ⟨fun _ => B39 (fun w => nm w.1), fun w => absurd rfl w⟩)
    rw [show gI σ 743 0 = tp from htp]
    exact ⟨fun z => B39 (fun w => by have := w.2 e3; omega), fun z => ⟨fun z2 => B44 nm (fun _ => by omega), fun z2 => B39 (fun w => by have := w.2 e3; omega)⟩⟩
  · have w : gI σ 706 0 = 0 := w
    omega
