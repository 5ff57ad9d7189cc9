/-! Model.isIn -/
theorem sp_MisIn {tv : Nat → Int} {cf : Cf} {σ : St} {S : List (Int × Int × Int × (Int → Int)) × Int} {d b : Int} {Q : Int → St → Prop} (hc : CfOK cf) (m0 : MR σ 0 S) (w : WF cf S) (hd : (d, 1, 0) ∈ nds S.1) (h1 : Anc (nds S.1) (ens S.1) b d → Q 1 σ) (h0 : ¬ Anc (nds S.1) (ens S.1) b d → Q 0 σ) : wp_Model_isIn cf tv d b Q σ := by
  have wr := w.wr
  obtain ⟨rk, hrk⟩ := wr.2.2.2.2.2.2.2.2
  have F := w.fts hc
  have nn := m0.n
  obtain ⟨⟨f1, f2⟩, f3, f4⟩ := F
  unfold wp_Model_isIn
  refine lQ1_rule (fun y τ => τ = σ ∧ (y, 1, 0) ∈ nds S.1 ∧ (Anc (nds S.1) (ens S.1) b d ↔ Anc (nds S.1) (ens S.1) b y)) (fun y _ => rk y) ?_ d σ ⟨rfl, hd, Iff.rfl⟩
  intro K y τ hI hK
  obtain ⟨et, yd, ya⟩ := hI
  subst et
  unfold wp_Model_isIn_L2 wp_Model_isIn_b66
  refine ⟨fun e => ?_, fun e => ⟨fun e1 => ?_, fun e1 => ?_⟩⟩
  · rw [if_pos e]; exact h1 (ya.mpr (by rw [e]; exact Anc.rf))
  · rw [if_neg e]
    refine h0 (fun q => ?_)
    have q' := ya.mp q
    rw [e1] at q' e
    exact Anc.root (fun e he => (wr.2.2.1 e he).2.2) (fun v => e v.symm) q'
  · have c3 : cn3 y (ens S.1) = 1 := wr.2.2.2.2.2.2.1 _ yd (by show (1 : Int) ≠ 2; decide) e1 id
    refine lQ3_rule (fun z3 z4 z5 υ => υ = τ ∧ z3 = y ∧ (0 ≤ z5 ∧ z5 ≤ gA τ 717 0 0) ∧ (((∀ j, 0 ≤ j → j < z5 → (meR τ 0 j).2.2 ≠ y) ∧ z4 = 1) ∨ ∃ j, (0 ≤ j ∧ j < z5) ∧ (meR τ 0 j).2.2 = y ∧ z4 = (meR τ 0 j).1)) (fun _ _ z5 _ => (gA τ 717 0 0 - z5).toNat) ?_ y 1 0 τ ⟨rfl, rfl, by omega, Or.inl ⟨fun j j0 j1 => by omega, rfl⟩⟩
    intro K' z3 z4 z5 υ hI' hK'
    obtain ⟨eu, e3, hz, hh⟩ := hI'
    subst eu
    unfold wp_Model_isIn_L18 wp_Model_isIn_b52
    have tg : ∀ j, (meR υ 0 j).2.2 = gA υ 720 0 j := fun j => by
      show gA υ 720 0 (700 * 0 + j) = _
      rw [show 700 * 0 + j = j by omega]
    have hg : ∀ j, (meR υ 0 j).1 = gA υ 718 0 j := fun j => by
      show gA υ 718 0 (700 * 0 + j) = _
      rw [show 700 * 0 + j = j by omega]
    refine ⟨by omega, fun q => ?_, fun q => ⟨by omega, fun q2 y5 e5 => ?_, fun q2 => ⟨by omega, fun y5 e5 => ?_⟩⟩⟩
    · have ez : z5 = gA υ 717 0 0 := by have q : gA υ 717 0 0 ≤ z5 := q; omega
      rcases hh with ⟨h5, -⟩ | ⟨j, hj, j1, j2⟩
      · obtain ⟨e, he, e2⟩ := cn3_ex (t := y) (E := ens S.1) (by omega)
        obtain ⟨i, i0, i1, i2⟩ := (TR.me m0).mp he
        exact absurd (by rw [i2]; exact e2) (h5 i i0 (by omega))
      · have mj : meR υ 0 j ∈ ens S.1 := (TR.me m0).mpr ⟨j, hj.1, by omega, rfl⟩
        have hd := (wr.2.2.1 _ mj).1
        have r := hrk _ mj (by rw [j1]; exact yd)
        rw [j1] at r
        rw [j2]
        exact hK _ υ ⟨rfl, hd, ya.trans (Anc.up c3 yd mj j1 (fun v => e v))⟩ r
    · have q : ¬ gA υ 717 0 0 ≤ z5 := q
      rw [w32_id (by unfold rI; omega)] at e5
      rw [e5]
      refine hK' z3 z4 (z5 + 1) υ ⟨rfl, e3, by omega, ?_⟩ (by omega)
      rcases hh with ⟨h5, h6⟩ | ⟨j, hj, j1, j2⟩
      · refine Or.inl ⟨fun j j0 j1 => ?_, h6⟩
        by_cases v : j = z5
        · rw [v, tg, ← e3]; exact q2
        · exact h5 j j0 (by omega)
      · exact Or.inr ⟨j, by omega, j1, j2⟩
    · have q : ¬ gA υ 717 0 0 ≤ z5 := q
      rw [w32_id (by unfold rI; omega)] at e5
      rw [e5]
      exact hK' z3 _ (z5 + 1) υ ⟨rfl, e3, by omega, Or.inr ⟨z5, by omega, by rw [tg, ← e3]; exact q2, (hg z5).symm⟩⟩ (by omega)
