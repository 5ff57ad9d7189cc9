/-! Model.close -/
theorem sp_MisHandle {tv : Nat → Int} {cf : Cf} {σ : St} {x : Int} {Q : Int → St → Prop} (h1 : (0 ≤ x ∧ x < 8) ∧ gA σ 711 0 x ≠ 0 → Q 1 σ) (h0 : ¬ ((0 ≤ x ∧ x < 8) ∧ gA σ 711 0 x ≠ 0) → Q 0 σ) : wp_Model_isHandle cf tv x Q σ := by
  unfold wp_Model_isHandle
  exact ⟨fun q => h0 (fun w => by omega), fun q => ⟨fun q2 => h0 (fun w => by omega), fun q2 => ⟨by omega, fun q3 => h0 (fun w => w.2 q3), fun q3 => h1 ⟨by omega, q3⟩⟩⟩⟩
/-- a row without a name -/
theorem sp_grp0 {tv : Nat → Int} {cf : Cf} {σ : St} {S S' : List (Int × Int × Int × (Int → Int)) × Int} {W : List (Int × (List (Int × Int × Int × (Int → Int)) × Int))} {p : Int} {op a b : Int} {K : St → Prop} (hrk : RK σ) (m : MP cf σ S S' W p) (ho : rI op) (ha : rI a) (hb : rI b) (hK : ∀ τ c d x y bs, RWn σ τ W.length → rwI τ W.length op a b c d 0 x y bs → RK τ → K τ) : wp_Model_group cf tv op a b (fun r τ => rI r → RK τ → K τ) σ := by
  obtain ⟨-, -, ⟨gw, hw, h7⟩, -⟩ := m
  refine sp_Mgroup hrk hw (by omega) ho ha hb (fun τ1 o1 o2 o3 o4 o5 f1 k1 _ _ => ?_)
  refine hK τ1 _ _ _ _ _ ⟨f1.mono (fun f o' z => by omega), fun f hf j hj => o5 f hf j hj, fun j _ => ?_⟩ ⟨by omega, o1, o2, o3, rfl, rfl, o4, rfl, rfl, rfl⟩ k1
  rw [congrFun (f1.a 740 0 (by omega)) j]
theorem GO_cl {cf : Cf} {S S2 : List (Int × Int × Int × (Int → Int)) × Int} {w k s b c dd gn x y : Int} {bs : Int → Int} (hc : CfOK cf) (W : WF cf S) (row : (w, k, s) ∈ nds S.1) (R : RWS S2.1 ((nds S.1).filter (fun n => decide (n.1 ≠ w))) (ens S.1) ((ats S.1).filter (fun r => decide (kpA w r))) ((pcs S.1).filter (fun p => decide (p.1 ≠ w)))) (h2 : S2.2 = S.2) : GO 8 w b c dd gn x y bs S S2 := by
  intro tv' cf' σ t g Q ht rk m rw' kk
  have wr := W.wr
  exact sp_dClose (N0 := (nds S.1).filter (fun n => decide (n.1 ≠ w))) rk ht m (W.fts hc) rw' (nd_fl wr.1.2 row) (fun r hr e => wr.u hr row e) (fun p hp => ((W.x.fit hc).2.2 p hp).2.1) (fun τ T o k' => kk τ (MR.of T R h2) o k')
theorem sp_Mclose {tv : Nat → Int} {cf : Cf} {σ : St} {S S' : List (Int × Int × Int × (Int → Int)) × Int} {W : List (Int × (List (Int × Int × Int × (Int → Int)) × Int))} {p : Int} {h : Int} {Q : Int → St → Prop} (hc : CfOK cf) (hrk : RK σ) (m : MP cf σ S S' W p) (hh : HH (gA σ 711 0) (nds S.1))
    (h0 : clA S (gA σ 711 0) h = -3 → Q (-3) σ)
    (hz : ∀ τ, clA S (gA σ 711 0) h = 0 → 0 ≤ h → h < 8 → gA τ 711 0 = upF (gA σ 711 0) h 0 → MP cf τ S S' W p → Fr (fun f o' => f = 711 ∧ o' = 0) σ τ → RK τ → Q 0 τ)
    (h1 : ∀ w s, clA S (gA σ 711 0) h = 1 → 0 ≤ h → h < 8 → gA σ 711 0 h = w → (w, 2, s) ∈ nds S.1 → ∃ S2 p0 S0 W0 k, RWS S2.1 ((nds S.1).filter (fun n => decide (n.1 ≠ w))) (ens S.1) ((ats S.1).filter (fun r => decide (kpA w r))) ((pcs S.1).filter (fun p => decide (p.1 ≠ w))) ∧ S2.2 = S.2 ∧ WF cf S2 ∧ TM cf p 48 S S' W p0 S0 W0 ∧ SFo (p0 + 48) (W0 ++ [(p0 + 48, S2)]) k ∧ ∀ τ, gA τ 711 0 = upF (gA σ 711 0) h 0 → MP cf τ S2 (laS S0 ((W0 ++ [(p0 + 48, S2)]).take k)) ((W0 ++ [(p0 + 48, S2)]).drop k) (p0 + 48) → Fr (fun f o' => mMh f o' ∨ (f = 711 ∧ o' = 0)) σ τ → RK τ → Q 1 τ) : wp_Model_close cf tv h Q σ := by
  have m' := m
  obtain ⟨⟨m0, m1⟩, ⟨w0, w1, w2⟩, ⟨gw, hw, h7⟩, l, on, q, q'⟩ := m'
  have wr := w0.wr
  unfold wp_Model_close
  refine ⟨fun _ => ?_, fun w => by have w : gI σ 706 0 = 0 := w; omega⟩
  refine sp_MisHandle (fun hd _ _ => ⟨fun _ => ?_, fun w => absurd w (by decide)⟩) (fun hd _ _ => ⟨fun w => absurd rfl w, fun _ => h0 (cif_n hd)⟩)
  obtain ⟨⟨hd0, hd1⟩, hd2⟩ := hd
  refine ⟨⟨hd0, hd1⟩, fun y2 e2 => ⟨⟨hd0, hd1⟩, fun σ16 e16 => ?_⟩⟩
  obtain ⟨s, row⟩ : ∃ s, (gA σ 711 0 h, 2, s) ∈ nds S.1 := (hh h hd0 hd1).elim (fun q => absurd q hd2) id
  have ry2 : rI (gA σ 711 0 h) := hrk.2 711 0 h
  rw [e2]
  have hd3 : gA σ 711 0 h ≠ 0 := hd2
  generalize hw' : gA σ 711 0 h = w at *
  have A0 : clA S (gA σ 711 0) h = cif (cn3 w (ens S.1) ≠ 0 ∨ ∃ k, (0 ≤ k ∧ k < 8) ∧ k ≠ h ∧ gA σ 711 0 k = w) 0 1 := by
    unfold clA; rw [hw']; exact cif_y ⟨⟨hd0, hd1⟩, hd3⟩
  have f16 : Fr (fun f o' => f = 711 ∧ o' = 0) σ σ16 := by rw [e16]; exact (Fr.rf _ _).sA ⟨rfl, rfl⟩
  have k16 : RK σ16 := by rw [e16]; exact hrk.sA (f := 711) (by show rI 0; unfold rI; omega)
  have h16 : gA σ16 711 0 = upF (gA σ 711 0) h 0 := by rw [e16]; exact sA_up _ _ _ _ _
  have M16 : MP cf σ16 S S' W p := m.fr f16 (fun g a b => by omega)
  clear e16
  have op : opM σ16 w ↔ ∃ k, (0 ≤ k ∧ k < 8) ∧ k ≠ h ∧ gA σ 711 0 k = w := by
    unfold opM
    rw [show gA σ16 711 0 = upF (gA σ 711 0) h 0 from h16]
    refine ⟨fun ⟨k, a, b⟩ => ⟨k, a, ?_⟩, fun ⟨k, a, b, c⟩ => ⟨k, a, by unfold upF; rw [if_neg b]; exact c⟩⟩
    unfold upF at b
    by_cases q : k = h
    · rw [if_pos q] at b; omega
    · rw [if_neg q] at b; exact ⟨q, b⟩
  refine sp_Mlinks k16 (Or.inl rfl) M16.1.1 (w0.fts hc) (fun _ _ => ⟨fun v => hz σ16 (by rw [A0]; exact cif_y (Or.inl (by omega))) hd0 hd1 h16 M16 f16 k16, fun v => ?_⟩)
  refine sp_MisOpen (fun o _ _ => ⟨fun v => absurd v (by decide), fun _ => hz σ16 (by rw [A0]; exact cif_y (Or.inr (op.mp o))) hd0 hd1 h16 M16 f16 k16⟩) (fun o _ _ => ⟨fun _ => ?_, fun v => absurd rfl v⟩)
  have A1 : clA S (gA σ 711 0) h = 1 := by rw [A0]; exact cif_n (fun u => u.elim (fun t => by omega) (fun t => o (op.mpr t)))
  obtain ⟨S2, p0, S0, W0, k, R, h2, wS2, ht, hsf, hQ⟩ := h1 w s A1 hd0 hd1 rfl row
  refine sp_grp0 k16 M16 (by unfold rI; omega) ry2 (by unfold rI; omega) (fun τ c dd x y bs rn hg kτ => ?_)
  refine sp_handM hc kτ M16 rn wS2 hg (GO_cl hc w0 row R h2) (by omega) ht hsf (fun τ2 M f k2 _ => ?_)
  refine hQ τ2 ?_ M ((f16.mono (fun f o' => Or.inr)).tr (((rn.1.mono (fun f o' z => by unfold mMh; omega)).tr f).mono (fun f o' => Or.inl))) k2
  rw [f.a _ _ (by unfold mMh; omega), rn.1.a _ _ (by omega)]; exact h16
