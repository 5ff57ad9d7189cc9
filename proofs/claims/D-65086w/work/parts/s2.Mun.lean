/-! Model.unlink -/
theorem sp_grp2 {tv : Nat → Int} {cf : Cf} {σ : St} {S S' : List (Int × Int × Int × (Int → Int)) × Int} {W : List (Int × (List (Int × Int × Int × (Int → Int)) × Int))} {p : Int} {op a b x : Int} {K : Int → St → Prop} (hrk : RK σ) (m : MP cf σ S S' W p) (ho : rI op) (ha : rI a) (hb : rI b) (hx : rJ x) (hK : ∀ τ c d y bs, RWn σ τ W.length → rwI τ W.length op a b c d 0 x y bs → RK τ → K W.length τ) : wp_Model_group cf tv op a b (fun r τ => rI r → RK τ → ((0 : Int) ≤ r ∧ r < 8) ∧ ∀ τ', τ' = sA τ 738 0 r x → K r τ') σ := by
  obtain ⟨-, -, ⟨gw, hw, h7⟩, -⟩ := m
  refine sp_Mgroup hrk hw (by omega) ho ha hb (fun τ1 o1 o2 o3 o4 o5 f1 k1 _ _ => ⟨by omega, fun σ77 e77 => ?_⟩)
  have f77 : Fr (fun f o' => (f = 738) ∧ o' = 0) τ1 σ77 := by rw [e77]; exact (Fr.rf _ _).sA ⟨rfl, rfl⟩
  refine hK σ77 _ _ _ _ ⟨(f1.mono (fun f o' z => by omega)).tr (f77.mono (fun f o' z => by omega)), fun f hf j hj => ?_, fun j _ => ?_⟩ ⟨by omega, ?_, ?_, ?_, rfl, rfl, ?_, ?_, rfl, rfl⟩ (by rw [e77]; exact k1.sA (f := 738) (by show rJ x; exact hx))
  · rw [e77, gA_sA, if_neg (fun z => hj z.2.2)]
    exact o5 f hf j hj
  · rw [congrFun (f77.a 740 0 (by omega)) j, congrFun (f1.a 740 0 (by omega)) j]
  · rw [congrFun (f77.a 732 0 (by omega)) _]; exact o1
  · rw [congrFun (f77.a 733 0 (by omega)) _]; exact o2
  · rw [congrFun (f77.a 734 0 (by omega)) _]; exact o3
  · rw [congrFun (f77.a 737 0 (by omega)) _]; exact o4
  · rw [e77, gA_sA, if_pos ⟨rfl, rfl, rfl⟩]
theorem rwI.gone {σ τ υ : St} {w op a b c d x y g g0 : Int} {bs : Int → Int} (r : RWn σ τ w) (h : rwI τ w op a b c d g0 x y bs) (e : υ = sA τ 737 0 w g) : RWn σ υ w ∧ rwI υ w op a b c d g x y bs := by
  have f : Fr (fun f o' => (f = 737) ∧ o' = 0) τ υ := by rw [e]; exact (Fr.rf _ _).sA ⟨rfl, rfl⟩
  obtain ⟨h0, h1, h2, h3, h4, h5, h6, h7, h8, h9⟩ := h
  refine ⟨⟨r.1.tr (f.mono (fun f o' z => by omega)), fun f' hf j hj => ?_, fun j hj => ?_⟩, h0, ?_, ?_, ?_, ?_, ?_, ?_, ?_, ?_, ?_⟩
  · rw [e, gA_sA, if_neg (fun z => hj z.2.2)]
    exact r.2.1 f' hf j hj
  · rw [congrFun (f.a 740 0 (by omega)) j]; exact r.2.2 j hj
  · rw [congrFun (f.a 732 0 (by omega)) _]; exact h1
  · rw [congrFun (f.a 733 0 (by omega)) _]; exact h2
  · rw [congrFun (f.a 734 0 (by omega)) _]; exact h3
  · rw [congrFun (f.a 735 0 (by omega)) _]; exact h4
  · rw [congrFun (f.a 736 0 (by omega)) _]; exact h5
  · rw [e, gA_sA, if_pos ⟨rfl, rfl, rfl⟩]
  · rw [congrFun (f.a 738 0 (by omega)) _]; exact h7
  · rw [congrFun (f.a 739 0 (by omega)) _]; exact h8
  · rw [← h9]; unfold rowB; rw [f.a 740 0 (by omega)]
theorem GO_un {cf : Cf} {S S2 : List (Int × Int × Int × (Int → Int)) × Int} {op d b c dd gn x y w k s : Int} {bs : Int → Int} {E0 : List (Int × Int × Int)} (hc : CfOK cf) (W : WF cf S) (ho : op = 3 ∨ op = 4) (hE : (ens S.1).Perm ((d, x, w) :: E0)) (row : (w, k, s) ∈ nds S.1) (R0 : gn = 0 → RWS S2.1 (nds S.1) E0 (ats S.1) (pcs S.1)) (R1 : gn ≠ 0 → RWS S2.1 ((nds S.1).filter (fun n => decide (n.1 ≠ w))) E0 ((ats S.1).filter (fun r => decide (kpA w r))) ((pcs S.1).filter (fun p => decide (p.1 ≠ w)))) (h2 : S2.2 = S.2) : GO op d b c dd gn x y bs S S2 := by
  intro tv' cf' σ t g Q ht rk m rw' kk
  have wr := W.wr
  have me : (d, x, w) ∈ ens S.1 := hE.mem_iff.mpr List.mem_cons_self
  exact sp_dUnl (N0 := (nds S.1).filter (fun n => decide (n.1 ≠ w))) rk ht m (W.fts hc) rw' ho hE (fun q hq a b => nodup_key (E := ens S.1) W.2.2.2.2.2.1 hq me a b) (fun _ => nd_fl wr.1.2 row) (fun r hr e => wr.u hr row e) (fun p hp => ((W.x.fit hc).2.2 p hp).2.1) (fun e τ T o k' => kk τ (MR.of T (R0 e) h2) o k') (fun e τ T o k' => kk τ (MR.of T (R1 e) h2) o k')
/-- as gnP, in the reference -/
def gnM (σ : St) (w k : Int) (E0 : List (Int × Int × Int)) : Prop := k = 1 ∨ (cn3 w E0 = 0 ∧ ¬ opM σ w)
theorem sp_Munlink {tv : Nat → Int} {cf : Cf} {σ : St} {S S' : List (Int × Int × Int × (Int → Int)) × Int} {W : List (Int × (List (Int × Int × Int × (Int → Int)) × Int))} {p : Int} {d x : Int} {Q : Int → St → Prop} (hc : CfOK cf) (hrk : RK σ) (m : MP cf σ S S' W p) (hd : rI d) (hx : rJ x)
    (h0 : ∀ no, namA S d x = no → no < 0 → Q no σ)
    (hD : ∀ w, namA S d x = 0 → (d, x, w) ∈ ens S.1 → (w, 1, 0) ∈ nds S.1 → Q (-7) σ)
    (h1 : ∀ w k s, namA S d x = 0 → (d, x, w) ∈ ens S.1 → (w, k, s) ∈ nds S.1 → k ≠ 1 → ∃ E0 S2 p0 S0 W0 n, (ens S.1).Perm ((d, x, w) :: E0) ∧ (¬ gnM σ w k E0 → RWS S2.1 (nds S.1) E0 (ats S.1) (pcs S.1)) ∧ (gnM σ w k E0 → RWS S2.1 ((nds S.1).filter (fun n => decide (n.1 ≠ w))) E0 ((ats S.1).filter (fun r => decide (kpA w r))) ((pcs S.1).filter (fun p => decide (p.1 ≠ w)))) ∧ S2.2 = S.2 ∧ WF cf S2 ∧ TM cf p 144 S S' W p0 S0 W0 ∧ SFo (p0 + 144) (W0 ++ [(p0 + 144, S2)]) n ∧ ∀ τ, MP cf τ S2 (laS S0 ((W0 ++ [(p0 + 144, S2)]).take n)) ((W0 ++ [(p0 + 144, S2)]).drop n) (p0 + 144) → Fr mMh σ τ → RK τ → Q (cn3 w E0) τ) : wp_Model_unlink cf tv d x Q σ := by
  have m' := m
  obtain ⟨⟨m0, m1⟩, ⟨w0, w1, w2⟩, ⟨gw, hw, h7⟩, l, on, q, q'⟩ := m'
  have F := w0.fts hc
  have wr := w0.wr
  unfold wp_Model_unlink
  refine ⟨fun _ => ?_, fun w => by have w : gI σ 706 0 = 0 := w; omega⟩
  refine sp_MisName hrk hx (fun nm _ _ => ⟨fun _ => ?_, fun w => absurd w (by decide)⟩) (fun nm _ _ => ⟨fun w => absurd rfl w, fun _ => ?_⟩)
  rotate_left
  · unfold wp_Model_unlink_b27
    exact ⟨fun w => absurd w (by decide), fun _ => h0 (-3) (cif_y nm) (by omega)⟩
  have A0 : namA S d x = dirA (nds S.1) d (cif (∃ w, (d, x, w) ∈ ens S.1) 0 (-4)) := cif_n (fun q => q nm)
  unfold wp_Model_unlink_b27
  refine sp_Mask (t := 0) hrk m0 F (fun no _ _ => ⟨fun w => absurd w (by decide), fun _ => h0 (-4) (by rw [A0]; exact dir_o (fun k s v => no _ v rfl)) (by omega)⟩) (fun s n' _ _ => ⟨fun _ => ?_, fun w => absurd rfl w⟩) (fun k s n' nk _ _ => ⟨fun w => absurd w (by decide), fun _ => h0 (-6) (by rw [A0]; exact dir_n n' nk (fun a b => wr.u)) (by omega)⟩)
  have s0 : s = 0 := (wr.1.1 _ n').2 rfl
  rw [s0] at n'
  rw [dir_y n'] at A0
  refine sp_MentryOf hrk (Or.inl rfl) m0 F (fun e _ _ => ⟨fun w => absurd rfl w, fun _ => h0 (-4) (by rw [A0]; exact cif_n (fun ⟨w, v⟩ => e _ v ⟨rfl, rfl⟩)) (by omega)⟩) (fun i i0 i1 i2 i3 _ _ => ⟨fun _ => ?_, fun w => by omega⟩)
  have nn := m0.n
  have rowE : meR σ 0 i ∈ ens S.1 := (TR.me m0).mpr ⟨i, i0, i1, rfl⟩
  have rowEe : meR σ 0 i = (d, x, gA σ 720 0 (700 * 0 + i)) := by unfold meR; rw [i2, i3]
  rw [rowEe] at rowE
  refine ⟨by have := F.1.2; omega, fun y6 e6 => ?_⟩
  have e6 : y6 = gA σ 720 0 (700 * 0 + i) := e6
  rw [← e6] at rowE
  have A1 : namA S d x = 0 := by rw [A0]; exact cif_y ⟨_, rowE⟩
  obtain ⟨-, ⟨k0, t0, tn⟩, t1⟩ := wr.2.2.1 _ rowE
  have tn : (y6, k0, t0) ∈ nds S.1 := tn
  refine sp_MnodeOf hrk (Or.inl rfl) m0 F (fun no _ _ => absurd rfl (no _ tn)) (fun j j0 j1 j2 _ _ => ?_)
  have rowN : mnR σ 0 j ∈ nds S.1 := (TR.mn m0).mpr ⟨j, j0, j1, rfl⟩
  have rowNe : mnR σ 0 j = (y6, gA σ 715 0 (700 * 0 + j), gA σ 716 0 (700 * 0 + j)) := by unfold mnR; rw [j2]
  rw [rowNe] at rowN
  have ek := wr.u rowN tn rfl
  rw [Prod.mk.injEq, Prod.mk.injEq] at ek
  have kk : gA σ 715 0 (700 * 0 + j) = k0 := ek.2.1
  refine ⟨by have := F.1.1; omega, ?_⟩
  rw [kk]
  refine ⟨fun k1 => ?_, fun k1 => ?_⟩
  · obtain ⟨E0, S2, p0, S0, W0, n, pE, R0, R1, h2, wS2, ht, hsf, hQ⟩ := h1 y6 k0 t0 A1 rowE tn k1
    refine sp_Mlinks hrk (Or.inl rfl) m0 F (fun _ _ y7 e7 => ?_)
    have cw := cn3_le (a := y6) (R := E0)
    have le := pE.length_eq
    have lim := (w0.x.ft hc).2.2.2.1
    rw [List.length_cons] at le
    rw [perm_cn3 pE, cn3_i (show ((d, x, y6) : Int × Int × Int).2.2 = y6 from rfl), w32_id (by unfold rI; omega)] at e7
    have e7 : y7 = cn3 y6 E0 := by omega
    refine sp_grp2 hrk m (by unfold rI; omega) hd (by unfold rI; omega) hx (fun τ c dd y bs rn hg kτ => ?_)
    have fin : ∀ g, ((g = 0 ∧ ¬ gnM σ y6 k0 E0) ∨ (g = 1 ∧ gnM σ y6 k0 E0)) → wp_Model_unlink_b136 cf tv d x Q y7 g W.length τ := by
      intro g hgn
      unfold wp_Model_unlink_b136
      refine ⟨by omega, fun σ21 e21 => ?_⟩
      obtain ⟨r2, g2⟩ := rwI.gone rn hg e21
      have k21 : RK σ21 := by rw [e21]; exact kτ.sA (f := 737) (by show rZ g; unfold rZ; omega)
      refine sp_handM hc k21 m r2 wS2 g2 (GO_un hc w0 (Or.inl rfl) pE tn (fun z => R0 ?_) (fun z => R1 ?_) h2) (by omega) ht hsf (fun τ2 M f k2 _ => ?_)
      · rcases hgn with v | v
        · exact v.2
        · omega
      · rcases hgn with v | v
        · omega
        · exact v.2
      · rw [e7]
        exact hQ τ2 M ((r2.1.mono (fun f o' z => by unfold mMh; omega)).tr f) k2
    have op : opM τ y6 ↔ opM σ y6 := by unfold opM; rw [rn.1.a 711 0 (by omega)]
    refine ⟨fun z => ?_, fun z => ?_⟩
    · unfold wp_Model_unlink_b135
      exact fin 0 (Or.inl ⟨rfl, fun v => v.elim k1 (fun u => z (by omega))⟩)
    · refine sp_MisOpen (fun o _ _ => ⟨fun _ => ?_, fun v => absurd v (by decide)⟩) (fun o _ _ => ⟨fun v => absurd rfl v, fun _ => ?_⟩)
      · unfold wp_Model_unlink_b135
        exact fin 0 (Or.inl ⟨rfl, fun v => v.elim k1 (fun u => u.2 (op.mp o))⟩)
      · exact fin 1 (Or.inr ⟨rfl, Or.inr ⟨by omega, fun u => o (op.mpr u)⟩⟩)
  · rw [k1] at tn
    have z0 := (wr.1.1 _ tn).2 rfl
    have z0 : t0 = 0 := z0
    rw [z0] at tn
    exact hD y6 A1 rowE tn
