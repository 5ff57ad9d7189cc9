/-! House.loses -/
def mLs (f : Nat) (o' : Int) : Prop := ((640 ≤ f ∧ f < 704) ∧ o' = 1) ∨ mRow 6 f o' ∨ mIs 0 f o' ∨ ((f = 71 ∨ f = 72) ∧ o' = 0)
theorem sp_Hloses {tv : Nat → Int} {cf : Cf} {σ : St} {S S' : List (Int × Int × Int × (Int → Int)) × Int} {W : List (Int × (List (Int × Int × Int × (Int → Int)) × Int))} {r : RT} {B : Int} {e w kd lk sz en at' A T : Int} {Sx : List (Int × Int × Int × (Int → Int)) × Int} {K : St → Prop} (hc : CfOK cf) (hp : HP tv cf σ S S' W r B) (hrk : RK σ) (g : GR σ S e Sx) (he : e + 48 ≤ 512) (ok : okC Sx 5) (sN : Sx.2 = S.2) (hw : 1 ≤ w ∧ w < S.2) (hkd : 1 ≤ kd ∧ kd ≤ 3) (v1 : gI σ 640 1 = w) (v2 : gI σ 641 1 = kd) (v3 : gI σ 642 1 = lk) (v4 : gI σ 643 1 = sz) (v5 : gI σ 644 1 = en) (v6 : gI σ 645 1 = at') (hl : gI σ 71 0 = A) (hA : 0 ≤ A ∧ A ≤ 1000000) (ht : gI σ 72 0 = T) (hT : 0 ≤ T ∧ T ≤ 1000000)
    (hG : (kd = 1 ∨ (w32 (lk - 1) = 0 ∧ ¬ opn σ w)) → ∀ τ, GR τ S (e + 48) (mforget w Sx.1, S.2) → gI τ 71 0 = w32 (A - cpM (S.1.filter (fun y => decide (ofT w y)))) → gI τ 72 0 = T - 1 → Fr mLs σ τ → RK τ → K τ)
    (hK : ¬ (kd = 1 ∨ (w32 (lk - 1) = 0 ∧ ¬ opn σ w)) → ∀ τ P2, inF P2 w kd (w32 (lk - 1)) sz en at' → GR τ S (e + 48) (mput (4 * w, 0, 48, P2) Sx.1, S.2) → gI τ 71 0 = A → gI τ 72 0 = T → Fr mLs σ τ → RK τ → K τ) : wp_House_loses cf tv 1 0 (fun r_19 σ_20 => rZ r_19 → RK σ_20 → K σ_20) σ := by
  have n1 := hp.nx
  have wf := hp.wf
  have cl := capa_le hc
  have cp := wf.2.2.2.2.2.2.2.2.2.2.1
  unfold wp_House_loses
  intro σ18 e18
  rw [show gI σ 642 1 = lk from v3] at e18
  have f18 : Fr (fun f o' => (640 ≤ f ∧ f < 704) ∧ o' = 1) σ σ18 := by rw [e18]; exact (Fr.rf _ _).sI (by omega)
  have k18 : RK σ18 := by rw [e18]; exact hrk.sI (f := 642) (by show rI _; exact w32_r _)
  have g18 : GR σ18 S e Sx := g.fr f18 ⟨by omega, by omega⟩
  have l18 : gI σ18 642 1 = w32 (lk - 1) := by rw [e18, gI_sI1]
  have v18 : gI σ18 640 1 = w ∧ gI σ18 641 1 = kd ∧ gI σ18 643 1 = sz ∧ gI σ18 644 1 = en ∧ gI σ18 645 1 = at' := by
    rw [e18]; simp only [gI_sI]; simp
    exact ⟨v1, v2, v4, v5, v6⟩
  clear e18
  have op : opn σ18 w ↔ opn σ w := by unfold opn; rw [f18.a _ _ (by omega)]
  have lv : gI σ18 71 0 = A := by rw [f18.i _ _ (by omega)]; exact hl
  have th : gI σ18 72 0 = T := by rw [f18.i _ _ (by omega)]; exact ht
  have gone : (kd = 1 ∨ (w32 (lk - 1) = 0 ∧ ¬ opn σ w)) → wp_House_loses_b36 cf tv 1 0 (fun r_19 σ_20 => rZ r_19 → RK σ_20 → K σ_20) (wp_House_loses_b41 cf tv 1 0 (fun r_19 σ_20 => rZ r_19 → RK σ_20 → K σ_20)) σ18 := by
    intro hg
    unfold wp_House_loses_b36 wp_House_loses_b41 wp_House_loses_b78
    refine ⟨fun v => absurd v (by decide), fun _ => ?_⟩
    rw [v18.1]
    have H18 : HP tv cf σ18 S S' W r B := hp.frH f18 (fun f o' q => by unfold mHR; omega) k18
    refine H18.room hc (by unfold rI; omega) (fun τ fr kr _ _ => ?_)
    intro σ15 e15 σ16 e16 σ17 e17
    generalize hrm : cpM (S.1.filter (fun y => decide (ofT w y))) = rm at *
    rw [lv] at e15
    have t15 : gI σ15 72 0 = T := by rw [e15, gI_sIo (by decide), fr.i _ _ (by unfold mIs; omega)]; exact th
    rw [t15, w32_id (by unfold rI; omega)] at e16
    have k17 : RK σ17 := by rw [e17, e16, e15]; exact ((kr.sI (f := 71) (by show rI _; exact w32_r _)).sI (f := 72) (by show rI _; unfold rI; omega)).sI (f := 641) (by show rI _; unfold rI; omega)
    have f17 : Fr (fun f o' => ((640 ≤ f ∧ f < 704) ∧ o' = 1) ∨ mIs 0 f o' ∨ ((f = 71 ∨ f = 72) ∧ o' = 0)) σ18 σ17 := by
      rw [e17, e16, e15]
      exact (((fr.mono (fun f o' q => Or.inr (Or.inl q))).sI (Or.inr (Or.inr ⟨Or.inl rfl, rfl⟩))).sI (Or.inr (Or.inr ⟨Or.inr rfl, rfl⟩))).sI (Or.inl (by omega))
    have v17 : gI σ17 641 1 = 0 ∧ ∀ g, g ≠ 641 → 640 ≤ g → g ≤ 645 → gI σ17 g 1 = gI σ18 g 1 := by
      rw [e17, e16, e15]
      refine ⟨by rw [gI_sI1], fun g g1 g2 g3 => ?_⟩
      rw [gI_sIo g1, gI_sIo (by omega), gI_sIo (by omega), fr.i _ _ (by unfold mIs; omega)]
    have lv17 : gI σ17 71 0 = w32 (A - rm) := by rw [e17, gI_sIo (by decide), e16, gI_sIo (by decide), e15, gI_sI1]
    have th17 : gI σ17 72 0 = T - 1 := by rw [e17, gI_sIo (by decide), e16, gI_sI1]
    clear e17 e16 e15
    have g17 := g18.fr f17 ⟨by unfold mIs; omega, by unfold mIs; omega⟩
    refine sp_gIno (l := 0) (a := w) (kd := 0) (lk := w32 (lk - 1)) (sz := sz) (en := en) (at' := at') k17 g17 he (ok.s (by omega)) ((v17.2 640 (by decide) (by decide) (by decide)).trans v18.1) v17.1 ((v17.2 642 (by decide) (by decide) (by decide)).trans l18) ((v17.2 643 (by decide) (by decide) (by decide)).trans v18.2.2.1) ((v17.2 644 (by decide) (by decide) (by decide)).trans v18.2.2.2.1) ((v17.2 645 (by decide) (by decide) (by decide)).trans v18.2.2.2.2) (by omega) (fun τ5 P2 p2 g5 f5 k5 _ _ _ => ?_)
    have g5 := g5.1 rfl
    have sI5 : sIn Sx w 0 P2 = (mforget w Sx.1, S.2) := by
      unfold sIn; rw [if_pos rfl, sN, show max S.2 (w + 1) = S.2 by omega]
    rw [sI5] at g5
    refine hG hg τ5 g5 (by rw [f5.i _ _ (by unfold mRow; omega)]; exact lv17) (by rw [f5.i _ _ (by unfold mRow; omega)]; exact th17) (((f18.mono (fun f o' q => Or.inl q)).tr (f17.mono (fun f o' q => ?_))).tr (f5.mono (fun f o' q => Or.inr (Or.inl q)))) k5
    rcases q with q | q | q
    · exact Or.inl q
    · exact Or.inr (Or.inr (Or.inl q))
    · exact Or.inr (Or.inr (Or.inr q))
  have keep : ¬ (kd = 1 ∨ (w32 (lk - 1) = 0 ∧ ¬ opn σ w)) → wp_House_loses_b40 cf tv 1 0 (fun r_19 σ_20 => rZ r_19 → RK σ_20 → K σ_20) (wp_House_loses_b41 cf tv 1 0 (fun r_19 σ_20 => rZ r_19 → RK σ_20 → K σ_20)) σ18 := by
    intro hg
    unfold wp_House_loses_b40 wp_House_loses_b41 wp_House_loses_b78
    refine ⟨fun _ => ?_, fun v => absurd rfl v⟩
    refine sp_gIno (l := 0) (a := w) (kd := kd) (lk := w32 (lk - 1)) (sz := sz) (en := en) (at' := at') k18 g18 he (ok.s (by omega)) v18.1 v18.2.1 l18 v18.2.2.1 v18.2.2.2.1 v18.2.2.2.2 (by omega) (fun τ5 P2 p2 g5 f5 k5 _ _ _ => ?_)
    have g5 := g5.1 rfl
    have sI5 : sIn Sx w kd P2 = (mput (4 * w, 0, 48, P2) Sx.1, S.2) := by
      unfold sIn; rw [if_neg (by omega), sN, show max S.2 (w + 1) = S.2 by omega]
    rw [sI5] at g5
    exact hK hg τ5 P2 p2 g5 (by rw [f5.i _ _ (by unfold mRow; omega)]; exact lv) (by rw [f5.i _ _ (by unfold mRow; omega)]; exact th) ((f18.mono (fun f o' q => Or.inl q)).tr (f5.mono (fun f o' q => Or.inr (Or.inl q)))) k5
  refine ⟨fun q => gone (Or.inl (by rw [← v18.2.1]; exact q)), fun q => ⟨fun q2 => keep (fun g => ?_), fun q2 => ?_⟩⟩
  · rcases g with g | g
    · exact q (by rw [v18.2.1]; exact g)
    · exact q2 (by rw [l18]; exact g.1)
  · rw [l18] at q2
    rw [v18.1]
    refine sp_HisOpen (fun o _ _ => ⟨fun _ => keep (fun g => ?_), fun v => absurd v (by decide)⟩) (fun o _ _ => ⟨fun v => absurd rfl v, fun _ => gone (Or.inr ⟨q2, fun v => o (op.mpr v)⟩)⟩)
    rcases g with g | g
    · exact q (by rw [v18.2.1]; exact g)
    · exact g.2 (op.mp o)
