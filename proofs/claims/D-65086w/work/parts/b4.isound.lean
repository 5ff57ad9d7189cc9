/-! the index is in order -/
def mHl (o : Int) (f : Nat) (o' : Int) : Prop := (f = 391 ∨ f = 392) ∧ o' = o
theorem ky_in {σ : St} (hrk : RK σ) {x k y j : Int} (h : ky σ x k = ky σ y j) : gA σ 578 x k = gA σ 578 y j ∧ gA σ 579 x k = gA σ 579 y j :=
  kap_inj (hrk.aj _ _ _ (by decide)) (hrk.aj _ _ _ (by decide)) h
theorem sp_isSoundI {tv : Nat → Int} {cf : Cf} {o : Int} : ∀ (l d : Nat) (σ : St) (z mn lo hi rt : Int) (Q : Int → St → Prop), l < d → d < 1000 → RK σ → WT σ l mn 8 z lo hi → (rt = 0 → 4 ≤ gI σ 577 z) → (rt ≠ 0 → 0 < l → 2 ≤ gI σ 577 z) →
    (∀ τ, Fr (mHl o) σ τ → (1 ≤ gI σ 577 z → kap (gI τ 391 o) (gI τ 392 o) < hi) → Q 1 τ) → wp_Index_isSound cf tv d o z rt Q σ := by
  intro l
  induction l with
  | zero =>
    intro d σ z mn lo hi rt Q hd hd2 hrk hT h4 h2 hQ
    obtain ⟨d', rfl⟩ : ∃ d', d = d' + 1 := ⟨d - 1, by omega⟩
    obtain ⟨c1, c2, c3, c4, c5⟩ := hT.cnt
    show wp_Index_isSound_R cf tv o z rt (wp_Index_isSound cf tv d') Q σ
    have loop : wp_Index_isSound_b45 cf tv o z rt (wp_Index_isSound cf tv d') Q 1 σ := by
      unfold wp_Index_isSound_b45
      refine lQ2_rule (fun y3 y4 τ => y3 = 1 ∧ (0 ≤ y4 ∧ y4 ≤ gI σ 577 z) ∧ Fr (mHl o) σ τ ∧ RK τ ∧ (1 ≤ y4 → kap (gI τ 391 o) (gI τ 392 o) < hi)) (fun _ y4 _ => (9 - y4).toNat) ?_ 1 0 σ ⟨rfl, by omega, Fr.rf _ _, hrk, fun q => by omega⟩
      intro K y3 y4 τ hI hK
      obtain ⟨rfl, hy, fr, rk, hb⟩ := hI
      have ec : gI τ 577 z = gI σ 577 z := fr.i _ _ (fun q => by unfold mHl at q; omega)
      have el : gI τ 576 z = 0 := by rw [fr.i _ _ (fun q => by unfold mHl at q; omega)]; exact c2
      have ek : ∀ i, en τ z i = en σ z i := en_fr fr (fun f a b q => by unfold mHl at q; omega)
      have body : y4 < gI σ 577 z → wp_Index_isSound_b107 cf tv o z rt (wp_Index_isSound cf tv d') Q K y4 1 1 τ := by
        intro lt
        unfold wp_Index_isSound_b107
        intro y e
        rw [iand11] at e
        rw [e]
        refine ⟨c1.1, fun q => absurd el q, fun _ => ⟨by omega, fun σ1 e1 => ⟨by omega, fun σ2 e2 => ?_⟩⟩⟩
        unfold wp_Index_isSound_b269
        intro y' ey'
        rw [w32_id (by unfold rI; omega)] at ey'
        rw [ey']
        have a1 : gA σ1 579 z y4 = gA τ 579 z y4 := by rw [e1]; rfl
        rw [a1] at e2
        have hhi : gI σ2 391 o = gA τ 578 z y4 := by rw [e2, gI_sI, if_neg (fun q => absurd q.1 (by decide)), e1, gI_sI, if_pos ⟨rfl, rfl⟩]
        have hlo : gI σ2 392 o = gA τ 579 z y4 := by rw [e2, gI_sI, if_pos ⟨rfl, rfl⟩]
        refine hK _ _ _ ⟨rfl, by omega, ?_, ?_, fun _ => ?_⟩ (by omega)
        · rw [e2, e1]; exact (fr.sI ⟨Or.inl rfl, rfl⟩).sI ⟨Or.inr rfl, rfl⟩
        · have j1 : rJ (gA τ 578 z y4) := rk.aj _ _ _ (by decide)
          have j2 : rJ (gA τ 579 z y4) := rk.aj _ _ _ (by decide)
          rw [e2, e1]; exact (rk.sI (by show rJ _; exact j1)).sI (by show rJ _; exact j2)
        · rw [hhi, hlo]
          have : ky σ z y4 < hi := (hT.hi hy.1 lt).2
          have e3 : kyE (en τ z y4) = ky σ z y4 := by rw [ek]; rfl
          show kyE (en τ z y4) < hi
          omega
      unfold wp_Index_isSound_L49
      rw [ec]
      refine ⟨c1.1, fun q => hQ τ fr (fun c => hb (by omega)), fun q => ⟨fun _ => body (by omega), fun ne => ⟨by rw [w32_id (by unfold rI; omega)]; omega, by rw [w32_id (by unfold rI; omega)]; omega, by omega, by omega, ?_⟩⟩⟩
      rw [w32_id (by unfold rI; omega)]
      refine sp_isBefore (rk.aj _ _ _ (by decide)) (rk.aj _ _ _ (by decide)) (fun g _ _ => ?_) (fun g _ _ => ⟨fun w => by omega, fun _ => body (by omega)⟩)
      have := (hT.ord (i := y4 - 1) (j := y4) (by omega) (by omega) (by omega)).2
      have e1 : kyE (en τ z (y4 - 1)) = ky σ z (y4 - 1) := by rw [ek]; rfl
      have e2 : kyE (en τ z y4) = ky σ z y4 := by rw [ek]; rfl
      have g' : kyE (en τ z y4) ≤ kyE (en τ z (y4 - 1)) := g
      omega
    have b21 : wp_Index_isSound_b21 cf tv o z rt (wp_Index_isSound cf tv d') Q (wp_Index_isSound_b44 cf tv o z rt (wp_Index_isSound cf tv d') Q (wp_Index_isSound_b45 cf tv o z rt (wp_Index_isSound cf tv d') Q)) (wp_Index_isSound_b45 cf tv o z rt (wp_Index_isSound cf tv d') Q) σ := by
      unfold wp_Index_isSound_b21 wp_Index_isSound_b40
      exact ⟨fun _ => loop, fun _ => ⟨c1.1, fun _ => loop, fun q => absurd c2 q⟩⟩
    unfold wp_Index_isSound_R
    exact ⟨c1.1, fun q => by omega, fun _ => ⟨fun _ => b21, fun q => ⟨fun w => by have := h4 q; omega, fun _ => b21⟩⟩⟩
  | succ l ih =>
    intro d σ z mn lo hi rt Q hd hd2 hrk hT h4 h2 hQ
    obtain ⟨d', rfl⟩ : ∃ d', d = d' + 1 := ⟨d - 1, by omega⟩
    obtain ⟨c1, c2, c3, c4, c5⟩ := hT.cnt
    show wp_Index_isSound_R cf tv o z rt (wp_Index_isSound cf tv d') Q σ
    have loop : wp_Index_isSound_b45 cf tv o z rt (wp_Index_isSound cf tv d') Q 1 σ := by
      unfold wp_Index_isSound_b45
      refine lQ2_rule (fun y3 y4 τ => y3 = 1 ∧ (0 ≤ y4 ∧ y4 ≤ gI σ 577 z) ∧ Fr (mHl o) σ τ ∧ RK τ ∧ (1 ≤ y4 → kap (gI τ 391 o) (gI τ 392 o) < hi)) (fun _ y4 _ => (9 - y4).toNat) ?_ 1 0 σ ⟨rfl, by omega, Fr.rf _ _, hrk, fun q => by omega⟩
      intro K y3 y4 τ hI hK
      obtain ⟨rfl, hy, fr, rk, hb⟩ := hI
      have ke : ∀ x, KE σ τ x := fun x => KE.fr fr (fun f a b q => by unfold mHl at q; omega)
      have hTτ : WT τ (l + 1) mn 8 z lo hi := hT.fr (fun x _ => ke x)
      have body : y4 < gI σ 577 z → wp_Index_isSound_b107 cf tv o z rt (wp_Index_isSound cf tv d') Q K y4 1 1 τ := by
        intro lt
        unfold wp_Index_isSound_b107
        intro y e
        rw [iand11] at e
        rw [e]
        have g := hTτ.2.2.2 y4 hy.1 (by rw [(ke z).2.1]; exact lt)
        have gc := g.2.2.cnt
        have lv : gI τ 576 z = ((l + 1 : Nat) : Int) := by rw [(ke z).1]; exact c2
        refine ⟨c1.1, fun _ => ⟨by omega, fun x ex => ?_⟩, fun q => by rw [lv] at q; omega⟩
        have ex' : x = be τ z y4 := ex
        rw [ex', lv, gc.2.1, w32_id (by unfold rI; omega)]
        have ek := ky_in rk g.2.1
        refine ⟨gc.1.1, fun q => by omega, fun _ => ⟨fun q => by omega, fun _ => ⟨by omega, by omega, fun q => absurd ek.1 q, fun _ => ⟨by omega, by omega, fun q => absurd ek.2 q, fun _ => ?_⟩⟩⟩⟩
        refine ih d' τ (be τ z y4) 4 _ _ 0 _ (by omega) (by omega) rk g.2.2 (fun _ => by omega) (fun q => absurd rfl q) (fun υ f2 hb2 _ kυ => ⟨fun q => by omega, fun _ => ?_⟩)
        have hb2' := hb2 (by omega)
        have ke2 : ∀ x, KE τ υ x := fun x => KE.fr f2 (fun f a b q => by unfold mHl at q; omega)
        have cυ : gI υ 577 z = gI σ 577 z := by rw [(ke2 z).2.1, (ke z).2.1]
        have nxt : ∀ y, y = 1 → wp_Index_isSound_b269 cf tv o z rt (wp_Index_isSound cf tv d') Q K y y4 υ := by
          intro y hy1
          unfold wp_Index_isSound_b269
          intro y' ey'
          rw [w32_id (by unfold rI; omega)] at ey'
          rw [ey', hy1]
          refine hK _ _ _ ⟨rfl, by omega, fr.tr f2, kυ, fun _ => ?_⟩ (by omega)
          have := (hTτ.hi hy.1 (by rw [(ke z).2.1]; exact lt)).1
          omega
        unfold wp_Index_isSound_b224
        intro y' ey'
        rw [iand11] at ey'
        rw [cυ, w32_id (by unfold rI; omega), ey']
        refine ⟨c1.1, fun _ => nxt 1 rfl, fun q => ⟨by omega, by omega, ?_⟩⟩
        refine sp_isBefore (kυ.j _ _ (by decide)) (kυ.aj _ _ _ (by decide)) (fun g' _ _ => ?_) (fun g' _ _ y e => nxt y (by rw [e]; exact iand11))
        have a : nx τ z y4 hi = ky τ z (y4 + 1) := nx_in (by rw [(ke z).2.1]; omega)
        have b : ky υ z (y4 + 1) = ky τ z (y4 + 1) := (ke2 z).k _
        have g2 : ky υ z (y4 + 1) ≤ kap (gI υ 391 o) (gI υ 392 o) := g'
        omega
      unfold wp_Index_isSound_L49
      rw [(ke z).2.1]
      refine ⟨c1.1, fun q => hQ τ fr (fun c => hb (by omega)), fun q => ⟨fun _ => body (by omega), fun ne => ⟨by rw [w32_id (by unfold rI; omega)]; omega, by rw [w32_id (by unfold rI; omega)]; omega, by omega, by omega, ?_⟩⟩⟩
      rw [w32_id (by unfold rI; omega)]
      refine sp_isBefore (rk.aj _ _ _ (by decide)) (rk.aj _ _ _ (by decide)) (fun g _ _ => ?_) (fun g _ _ => ⟨fun w => by omega, fun _ => body (by omega)⟩)
      have := (hTτ.ord (i := y4 - 1) (j := y4) (by omega) (by omega) (by rw [(ke z).2.1]; omega)).2
      have g' : ky τ z y4 ≤ ky τ z (y4 - 1) := g
      omega
    have c6 := hT.2.2.1.2.1
    have b21 : wp_Index_isSound_b21 cf tv o z rt (wp_Index_isSound cf tv d') Q (wp_Index_isSound_b44 cf tv o z rt (wp_Index_isSound cf tv d') Q (wp_Index_isSound_b45 cf tv o z rt (wp_Index_isSound cf tv d') Q)) (wp_Index_isSound_b45 cf tv o z rt (wp_Index_isSound cf tv d') Q) σ := by
      unfold wp_Index_isSound_b21 wp_Index_isSound_b40
      exact ⟨fun _ => loop, fun q => ⟨c1.1, fun _ => loop, fun _ => ⟨fun w => by have := h2 q (by omega); omega, fun _ => loop⟩⟩⟩
    unfold wp_Index_isSound_R
    exact ⟨c1.1, fun q => by omega, fun _ => ⟨fun _ => b21, fun q => ⟨fun w => by have := h4 q; omega, fun _ => b21⟩⟩⟩
