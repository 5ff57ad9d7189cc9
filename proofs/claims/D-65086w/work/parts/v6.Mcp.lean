/-! Model.copy -/
/-- byte i of a file, by its pieces -/
noncomputable def fbt (P : List (Int × Int × Int × (Int → Int))) (w i : Int) : Int := @dite Int (∃ v l b, (w, i / 64, l, b) ∈ P ∧ b (i % 64) = v) (Classical.propDecidable _) (fun h => h.choose) (fun _ => 0)
theorem fbt_e {cf : Cf} {S : List (Int × Int × Int × (Int → Int)) × Int} {w i l : Int} {b : Int → Int} {P0 : List (Int × Int × Int × (Int → Int))} (W : WF cf S) (h : pcO (pcs S.1) w (i / 64) l b P0) : fbt (pcs S.1) w i = b (i % 64) := by
  unfold fbt
  rcases h with ⟨-, pm⟩ | ⟨-, b0, -, no⟩
  · have mem : (w, i / 64, l, b) ∈ pcs S.1 := pm.mem_iff.mpr List.mem_cons_self
    have ex : ∃ v l b, (w, i / 64, l, b) ∈ pcs S.1 ∧ b (i % 64) = v := ⟨_, l, b, mem, rfl⟩
    rw [dif_pos ex]
    obtain ⟨l', b', m', e'⟩ := ex.choose_spec
    have := W.p1 m' mem rfl rfl
    rw [Prod.mk.injEq, Prod.mk.injEq, Prod.mk.injEq] at this
    rw [← e', this.2.2.2]
  · rw [dif_neg (fun ⟨v, l', b', m', _⟩ => no _ m' ⟨rfl, rfl⟩), b0]
theorem fbt_r {S : List (Int × Int × Int × (Int → Int)) × Int} {σ : St} {w i : Int} (hrk : RK σ) (m : MR σ 0 S) : rB (fbt (pcs S.1) w i) := by
  unfold fbt
  by_cases h : ∃ v l b, (w, i / 64, l, b) ∈ pcs S.1 ∧ b (i % 64) = v
  · rw [dif_pos h]
    obtain ⟨l', b', m', e'⟩ := h.choose_spec
    obtain ⟨j, j0, j1, j2⟩ := (TR.mp m).mp m'
    have eb : b' = fun j' => if 0 ≤ j' ∧ j' < 64 then gA σ 729 0 (64 * (720 * 0 + j) + j') else 0 := (congrArg (fun r => r.2.2.2) j2).symm
    rw [← e', eb]
    show rB (if 0 ≤ i % 64 ∧ i % 64 < 64 then gA σ 729 0 (64 * (720 * 0 + j) + i % 64) else 0)
    rw [if_pos (by omega)]
    exact hrk.2 729 0 _
  · rw [dif_neg h]; unfold rB; omega
theorem sp_MbyteOf {tv : Nat → Int} {cf : Cf} {σ : St} {S S' : List (Int × Int × Int × (Int → Int)) × Int} {W : List (Int × (List (Int × Int × Int × (Int → Int)) × Int))} {p : Int} {w i : Int} {Q : Int → St → Prop} (hc : CfOK cf) (hrk : RK σ) (m : MP cf σ S S' W p) (hi : 0 ≤ i ∧ i < 1000000) (hQ : Q (fbt (pcs S.1) w i % 256) σ) : wp_Model_byteOf cf tv w i Q σ := by
  have w0 := m.2.1.1
  have F := w0.fts hc
  have m0 := m.1.1
  have nn := m0.n
  have lim := F.2.2
  have fit := (w0.x.fit hc).2.2
  unfold wp_Model_byteOf wp_Model_byteOf_b29
  rw [jdv_nn hi.1 (by omega) (by omega), jrm_nn hi.1 (by omega) (by omega)]
  refine sp_MpieceOf hrk (Or.inl rfl) m0 F (fun no _ _ => ⟨fun _ => ?_, fun g => absurd rfl g⟩) (fun j j0 j1 j2 j3 _ _ => ⟨fun g => by omega, fun _ => ⟨by omega, ?_⟩⟩)
  · rw [fbt_e w0 (l := 0) (b := fun _ => 0) (P0 := pcs S.1) (Or.inr ⟨rfl, rfl, rfl, fun r hr => no r hr⟩)] at hQ
    exact hQ
  · have row : mpR σ 0 j ∈ pcs S.1 := (TR.mp m0).mpr ⟨j, j0, j1, rfl⟩
    have rowe : mpR σ 0 j = (w, i / 64, gA σ 728 0 (720 * 0 + j), fun j' => if 0 ≤ j' ∧ j' < 64 then gA σ 729 0 (64 * (720 * 0 + j) + j') else 0) := by unfold mpR; rw [j2, j3]
    rw [rowe] at row
    have ft := (fit _ row).1
    have ft : 1 ≤ gA σ 728 0 (720 * 0 + j) ∧ gA σ 728 0 (720 * 0 + j) ≤ 64 := ft
    obtain ⟨u, v', uv⟩ := List.append_of_mem row
    have e := fbt_e w0 (Or.inl ⟨ft.1, by rw [uv]; exact List.perm_middle⟩ : pcO (pcs S.1) w (i / 64) (gA σ 728 0 (720 * 0 + j)) (fun j' => if 0 ≤ j' ∧ j' < 64 then gA σ 729 0 (64 * (720 * 0 + j) + j') else 0) (u ++ v'))
    rw [e] at hQ
    refine ⟨fun g => ?_, fun g => ?_⟩
    · rw [w32_id (x := 64 * (720 * 0 + j)) (by unfold rI; omega), w32_id (by unfold rI; omega), iand255]
      refine ⟨by omega, ?_⟩
      have hQ : Q ((if 0 ≤ i % 64 ∧ i % 64 < 64 then gA σ 729 0 (64 * (720 * 0 + j) + i % 64) else 0) % 256) σ := hQ
      rw [if_pos (by omega)] at hQ
      exact hQ
    · have z : (if 0 ≤ i % 64 ∧ i % 64 < 64 then gA σ 729 0 (64 * (720 * 0 + j) + i % 64) else 0) = 0 := w0.pz row (i % 64) (by show ¬ (0 ≤ i % 64 ∧ i % 64 < gA σ 728 0 (720 * 0 + j)); omega)
      rw [z] at hQ
      exact hQ
def cpOk (H : Int → Int) (h a h2 to n : Int) : Prop := ((0 ≤ h ∧ h < 8) ∧ H h ≠ 0) ∧ ((0 ≤ h2 ∧ h2 < 8) ∧ H h2 ≠ 0) ∧ (1 ≤ n ∧ n ≤ 2048) ∧ 0 ≤ a ∧ (0 ≤ to ∧ to ≤ 16384 - n)
noncomputable def byC (S : List (Int × Int × Int × (Int → Int)) × Int) (w a : Int) : Int → Int := fun i => fbt (pcs S.1) w (a + i)
theorem sp_Mcopy {tv : Nat → Int} {cf : Cf} {σ : St} {S S' : List (Int × Int × Int × (Int → Int)) × Int} {W : List (Int × (List (Int × Int × Int × (Int → Int)) × Int))} {p : Int} {h a h2 to n : Int} {Q : Int → St → Prop} (hc : CfOK cf) (hrk : RK σ) (m : MP cf σ S S' W p) (ha : rI a) (hto : rI to) (hn : rI n) (hh : HH (gA σ 711 0) (nds S.1))
    (h0 : ¬ cpOk (gA σ 711 0) h a h2 to n → Q (-3) σ)
    (hz : ∀ s, cpOk (gA σ 711 0) h a h2 to n → (gA σ 711 0 h, 2, s) ∈ nds S.1 → min n (s - a) ≤ 0 → Q 0 σ)
    (h1 : ∀ w s, cpOk (gA σ 711 0) h a h2 to n → gA σ 711 0 h = w → (w, 2, s) ∈ nds S.1 → 0 < min n (s - a) → ∃ s2 d Sn Sn' Wn pn, (gA σ 711 0 h2, 2, s2) ∈ nds S.1 ∧ WTr cf (gA σ 711 0 h2) to (min n (s - a)) (byC S w a) 0 S S' W p d Sn Sn' Wn pn ∧ ∀ τ, MP cf τ Sn Sn' Wn pn → Fr (fun f o' => mMw f o' ∨ (f = 742 ∧ o' = 0)) σ τ → RK τ → Q (if d = 0 then -10 else d) τ) : wp_Model_copy cf tv h a h2 to n Q σ := by
  have m' := m
  obtain ⟨⟨m0, m1⟩, ⟨w0, w1, w2⟩, ⟨gw, hw', h7⟩, l, on, q, q'⟩ := m'
  have F := w0.fts hc
  have wr := w0.wr
  unfold rI at ha hto hn
  unfold wp_Model_copy
  refine ⟨fun _ => ?_, fun w => by have w : gI σ 706 0 = 0 := w; omega⟩
  refine sp_MisHandle (fun hd _ _ => ⟨fun w => absurd w (by decide), fun _ => ?_⟩) (fun hd _ _ => ⟨fun _ => h0 (fun q => hd q.1), fun w => absurd rfl w⟩)
  refine sp_MisHandle (fun hd2 _ _ => ⟨fun w => absurd w (by decide), fun _ => ?_⟩) (fun hd2 _ _ => ⟨fun _ => h0 (fun q => hd2 q.2.1), fun w => absurd rfl w⟩)
  refine ⟨fun w => h0 (fun q => by have := q.2.2.1.1; omega), fun g1 => ⟨fun w => h0 (fun q => by have := q.2.2.1.2; omega), fun g2 => ⟨fun w => h0 (fun q => by have := q.2.2.2.1; omega), fun g3 => ⟨fun w => h0 (fun q => by have := q.2.2.2.2.1; omega), fun g4 => ?_⟩⟩⟩⟩
  rw [w32_id (x := 16384 - n) (by unfold rI; omega)]
  refine ⟨fun g5 => ⟨hd.1, ?_⟩, fun g5 => h0 (fun q => g5 q.2.2.2.2.2)⟩
  have okc : cpOk (gA σ 711 0) h a h2 to n := ⟨hd, hd2, by omega, by omega, by omega⟩
  obtain ⟨s, row⟩ := (hh h hd.1.1 hd.1.2).resolve_left hd.2
  have row : (gA σ 711 0 h, 2, s) ∈ nds S.1 := row
  refine sp_MnodeOf hrk (Or.inl rfl) m0 F (fun no _ _ => absurd rfl (no _ row)) (fun i i0 i1 i2 _ _ => ⟨by have := F.1.1; have := m0.n; omega, fun y6 e6 => ?_⟩)
  have rowN : mnR σ 0 i ∈ nds S.1 := (TR.mn m0).mpr ⟨i, i0, i1, rfl⟩
  have sz : gA σ 716 0 (700 * 0 + i) = s := congrArg (fun r => r.2.2) (wr.u rowN row i2)
  have sR : 0 ≤ s ∧ s ≤ 16384 := (w0.nk row).2.2
  rw [show gA σ 716 0 (700 * 0 + i) = s from sz, w32_id (by unfold rI; omega)] at e6
  have loop : ∀ t, t = min n (s - a) → wp_Model_copy_b97 cf tv h a h2 to n Q t σ := by
    intro t et
    unfold wp_Model_copy_b97
    refine lQ2_rule (fun y7 j τ => y7 = t ∧ (0 ≤ j ∧ (j ≤ t ∨ j = 0)) ∧ RK τ ∧ Fr (fun f o' => f = 742 ∧ o' = 0) σ τ ∧ (j = 0 → τ = σ) ∧ ∀ i, 0 ≤ i → i < j → gA τ 742 0 i = byC S (gA σ 711 0 h) a i) (fun _ j _ => (t - j).toNat) ?_ t 0 σ ⟨rfl, by omega, hrk, Fr.rf _ _, fun _ => rfl, fun i i0 i1 => by omega⟩
    intro K y7 j τ hI hK
    obtain ⟨e7, hj, kτ, fτ, eτ, cτ⟩ := hI
    rw [e7]
    have mτ := m.fr fτ (fun g a b => by omega)
    unfold wp_Model_copy_L102
    refine ⟨fun g => ⟨fun g' => ?_, fun g' => ?_⟩, fun g => ⟨hd.1, ?_⟩⟩
    · obtain ⟨s2, d, Sn, Sn', Wn, pn, row2, tr, hQ⟩ := h1 _ s okc rfl row (by omega)
      have h711 : gA τ 711 0 = gA σ 711 0 := fτ.a _ _ (by omega)
      refine sp_MwrA (by' := byC S (gA σ 711 0 h) a) hc kτ mτ hd2.1 (by show gA τ 711 0 h2 = _; rw [h711]) row2 (by omega) (by omega) (by omega) (fun i => fbt_r hrk m0) (fun i i0 i1 => ⟨fun _ => cτ i i0 (by omega), fun g => absurd g (by decide), fun _ g => absurd rfl g⟩) (by rw [et]; exact tr) (fun υ M f k _ _ => hQ υ M ((fτ.mono (fun f o' => Or.inr)).tr (f.mono (fun f o' => Or.inl))) k)
    · rw [eτ (by omega)]
      exact hz s okc row (by omega)
    · have h711 : gA τ 711 0 = gA σ 711 0 := fτ.a _ _ (by omega)
      rw [h711, w32_id (x := a + j) (by unfold rI; omega)]
      refine sp_MbyteOf hc kτ mτ (by omega) (fun _ _ => ⟨by omega, fun σ31 e31 j2 ej2 => ?_⟩)
      rw [w32_id (by unfold rI; omega)] at ej2
      have rb : rB (fbt (pcs S.1) (gA σ 711 0 h) (a + j)) := fbt_r hrk m0
      have eb : b8 (fbt (pcs S.1) (gA σ 711 0 h) (a + j) % 256) = byC S (gA σ 711 0 h) a j := by
        show _ = fbt (pcs S.1) (gA σ 711 0 h) (a + j)
        unfold rB at rb; unfold b8; omega
      rw [eb] at e31
      rw [ej2]
      refine hK t (j + 1) σ31 ⟨rfl, by omega, by rw [e31]; exact kτ.sA (f := 742) rb, fτ.tr (by rw [e31]; exact (Fr.rf _ _).sA ⟨rfl, rfl⟩), fun g => by omega, fun i i0 i1 => ?_⟩ (by omega)
      rw [e31, sA_if]
      by_cases z : i = j
      · rw [if_pos z, z]
      · rw [if_neg z]; exact cτ i i0 (by omega)
  rw [e6]
  exact ⟨fun g => loop n (by omega), fun g => loop (s - a) (by omega)⟩
