/-! Model.resize -/
theorem GO_rs {cf : Cf} {S S2 : List (Int × Int × Int × (Int → Int)) × Int} {w s s0 c dd gn x y : Int} {bs : Int → Int} {P2 : List (Int × Int × Int × (Int → Int))} {N0 : List (Int × Int × Int)} (hc : CfOK cf) (W : WF cf S) (hs : 0 ≤ s ∧ s ≤ 16384) (hN : (nds S.1).Perm ((w, 2, s0) :: N0)) (hcR : cutR w s s0 (pcs S.1) P2) (R : RWS S2.1 ((w, 2, s) :: N0) (ens S.1) (ats S.1) P2) (h2 : S2.2 = S.2) : GO 7 w s c dd gn x y bs S S2 := by
  intro tv' cf' σ t g Q ht rk mr rw' kk
  have wr := W.wr
  have row : (w, 2, s0) ∈ nds S.1 := hN.mem_iff.mpr List.mem_cons_self
  have lp := (W.x.fit hc).2.2
  refine sp_dCut (P2 := P2) rk ht mr (W.fts hc) rw' hs hN (fun r hr e => wr.u hr row e) (fun p q hp hq e1 e2 => W.p1 hp hq e1 e2) (fun p hp j hj => W.pz hp j (by have := lp p hp; omega)) hcR (fun τ T' o k' => kk τ (MR.of T' R h2) o k')
theorem sp_Mresize {tv : Nat → Int} {cf : Cf} {σ : St} {S S' : List (Int × Int × Int × (Int → Int)) × Int} {W : List (Int × (List (Int × Int × Int × (Int → Int)) × Int))} {p : Int} {h s : Int} {Q : Int → St → Prop} (hc : CfOK cf) (hrk : RK σ) (m : MP cf σ S S' W p) (hrs : rI s) (hh : HH (gA σ 711 0) (nds S.1))
    (h0 : ¬ rsOk (gA σ 711 0) h s → Q (-3) σ)
    (hz : rsOk (gA σ 711 0) h s → (gA σ 711 0 h, 2, s) ∈ nds S.1 → Q s σ)
    (h1 : ∀ w s0, rsOk (gA σ 711 0) h s → gA σ 711 0 h = w → (w, 2, s0) ∈ nds S.1 → s0 ≠ s → ∃ N0 P2 S2 p0 S0 W0 k, (nds S.1).Perm ((w, 2, s0) :: N0) ∧ cutR w s s0 (pcs S.1) P2 ∧ RWS S2.1 ((w, 2, s) :: N0) (ens S.1) (ats S.1) P2 ∧ S2.2 = S.2 ∧ WF cf S2 ∧ TM cf p (rsE S w s s0) S S' W p0 S0 W0 ∧ SFo (p0 + rsE S w s s0) (W0 ++ [(p0 + rsE S w s s0, S2)]) k ∧ ∀ τ, MP cf τ S2 (laS S0 ((W0 ++ [(p0 + rsE S w s s0, S2)]).take k)) ((W0 ++ [(p0 + rsE S w s s0, S2)]).drop k) (p0 + rsE S w s s0) → Fr mMh σ τ → RK τ → Q s0 τ) : wp_Model_resize cf tv h s Q σ := by
  have m' := m
  obtain ⟨⟨m0, m1⟩, ⟨w0, w1, w2⟩, ⟨gw, hw', h7⟩, l', on, q, q'⟩ := m'
  have F := w0.fts hc
  have wr := w0.wr
  have nn := m0.n
  have F3 := F.2.2
  unfold wp_Model_resize
  refine ⟨fun _ => ?_, fun w => by have w : gI σ 706 0 = 0 := w; omega⟩
  refine sp_MisHandle (fun hd _ _ => ⟨fun w => absurd w (by decide), fun _ => ?_⟩) (fun hd _ _ => ⟨fun _ => h0 (fun q => hd q.1), fun w => absurd rfl w⟩)
  refine ⟨fun w => h0 (fun q => by have := q.2.1; omega), fun g0 => ⟨fun g1 => ⟨hd.1, fun y3 e3 => ?_⟩, fun w => h0 (fun q => w q.2.2)⟩⟩
  have okr : rsOk (gA σ 711 0) h s := ⟨hd, by omega, g1⟩
  obtain ⟨sR, row⟩ := (hh h hd.1.1 hd.1.2).resolve_left hd.2
  have row : (gA σ 711 0 h, 2, sR) ∈ nds S.1 := row
  have ry : rI (gA σ 711 0 h) := hrk.2 711 0 h
  have hz : (gA σ 711 0 h, 2, s) ∈ nds S.1 → Q s σ := hz okr
  have h1 := fun s0 => h1 (gA σ 711 0 h) s0 okr rfl
  rw [e3]
  generalize hgw : gA σ 711 0 h = w at *
  refine sp_MnodeOf hrk (Or.inl rfl) m0 F (fun no _ _ => absurd rfl (no _ row)) (fun i i0 i1 i2 _ _ => ⟨by have := F.1.1; omega, fun y4 e4 => ?_⟩)
  have rowN : mnR σ 0 i ∈ nds S.1 := (TR.mn m0).mpr ⟨i, i0, i1, rfl⟩
  have es : y4 = sR := by
    have := wr.u rowN row i2
    have : gA σ 716 0 (700 * 0 + i) = sR := congrArg (fun r => r.2.2) this
    rw [e4]; exact this
  rw [es]
  refine ⟨fun ne => ?_, fun eq => by rw [← eq]; exact hz (by rw [eq]; exact row)⟩
  obtain ⟨N0, P2, S2, p0, S0, W0, k, hN, hcR, R, h2, wS2, ht, hsf, hQ⟩ := h1 sR row (fun q => ne q.symm)
  have eb : 0 < rsE S w s sR ∧ rsE S w s sR ≤ 512 := by
    unfold rsE
    by_cases a : sR < s
    · rw [cif_y a]; omega
    · rw [cif_n a]
      by_cases b : rsC S w s
      · rw [cif_y b]; omega
      · rw [cif_n b]; omega
  have fin : ∀ e, e = rsE S w s sR → wp_Model_resize_b144 cf tv h s Q w sR e σ := by
    intro e ee
    unfold wp_Model_resize_b144
    refine sp_grp0 hrk m (by unfold rI; omega) ry hrs (fun τ cc dd x y bs rn hg kτ => ?_)
    rw [ee]
    exact sp_handM hc kτ m rn wS2 hg (GO_rs hc w0 ⟨by omega, g1⟩ hN hcR R h2) eb ht hsf (fun τ2 M f k2 _ => hQ τ2 M ((rn.1.mono (fun f o' z => by unfold mMh; omega)).tr f) k2)
  refine ⟨fun gr => fin 48 (cif_y (show sR < s by omega)).symm, fun gr => ?_⟩
  have eE : rsE S w s sR = 88 + cif (rsC S w s) (32 + (s % 64 + 7) / 8 * 8) 0 := cif_n (by omega)
  rw [jdv_nn (by omega) (by omega) (by omega), jrm_nn (by omega) (by omega) (by omega)]
  have no : ¬ rsC S w s → wp_Model_resize_b114 cf tv h s Q (wp_Model_resize_b115 cf tv h s Q (wp_Model_resize_b144 cf tv h s Q)) w sR 48 σ := by
    intro nC
    unfold wp_Model_resize_b114 wp_Model_resize_b115 wp_Model_resize_b140
    refine ⟨fun _ y5 e5 => ?_, fun w => absurd rfl w⟩
    rw [w32_id (x := (40 : Int) + 0) (by unfold rI; omega), w32_id (by unfold rI; omega)] at e5
    exact fin y5 (by rw [eE, cif_n nC, e5]; rfl)
  refine sp_MpieceOf hrk (Or.inl rfl) m0 F (fun nop _ _ => ⟨fun _ => no (fun ⟨l, b, hm, _⟩ => nop _ hm ⟨rfl, rfl⟩), fun g => absurd rfl g⟩) (fun i i0 i1 i2 i3 _ _ => ⟨fun g => by omega, fun _ => ⟨fun g2 => no (fun ⟨l, b, hm, hx⟩ => by omega), fun g2 => ⟨by omega, fun g3 => no (fun ⟨l, b, hm, hx⟩ => ?_), fun g3 => ?_⟩⟩⟩)
  · have rowP : mpR σ 0 i ∈ pcs S.1 := (TR.mp m0).mpr ⟨i, i0, i1, rfl⟩
    have := w0.p1 hm rowP (by show w = _; rw [← i2]; rfl) (by show s / 64 = _; rw [← i3]; rfl)
    have : l = gA σ 728 0 (720 * 0 + i) := congrArg (fun r => r.2.2.1) this
    omega
  · have rowP : mpR σ 0 i ∈ pcs S.1 := (TR.mp m0).mpr ⟨i, i0, i1, rfl⟩
    have rowe : mpR σ 0 i = (w, s / 64, gA σ 728 0 (720 * 0 + i), fun j => if 0 ≤ j ∧ j < 64 then gA σ 729 0 (64 * (720 * 0 + i) + j) else 0) := by unfold mpR; rw [i2, i3]
    rw [rowe] at rowP
    have cC : rsC S w s := ⟨_, _, rowP, by omega, by omega⟩
    unfold wp_Model_resize_b115 wp_Model_resize_b140
    refine ⟨fun g => absurd g (by decide), fun _ => ?_⟩
    rw [jrm_nn (by omega) (by omega) (by omega)]
    refine sp_Meights (by omega) (fun _ _ y5 e5 => ?_)
    rw [w32_id (x := 32 + (s % 64 + 7) / 8 * 8) (by unfold rI; omega), w32_id (x := 40 + (32 + (s % 64 + 7) / 8 * 8)) (by unfold rI; omega), w32_id (by unfold rI; omega)] at e5
    exact fin y5 (by rw [eE, cif_y cC, e5]; omega)
