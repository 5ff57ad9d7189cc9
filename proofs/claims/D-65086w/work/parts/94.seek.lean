/-! looking for a key -/
def mIs (o : Int) (f : Nat) (o' : Int) : Prop := (391 ≤ f ∧ f ≤ 397) ∧ o' = o
theorem nx_in {σ : St} {z k hi : Int} (h : k + 1 < gI σ 577 z) : nx σ z k hi = ky σ z (k + 1) := by unfold nx; rw [if_pos h]
theorem ls0_at {σ : St} {z k : Int} (k0 : 0 ≤ k) (k1 : k < gI σ 577 z) : ls σ 0 z = cat (fun k => [en σ z k]) k.toNat ++ (en σ z k :: cat (fun i => [en σ z (k + 1 + i)]) ((gI σ 577 z).toNat - k.toNat - 1)) := by
  show cat _ _ = _
  rw [cat_at _ k0 (by omega : k < ((gI σ 577 z).toNat : Int))]; rfl
theorem lsS_at {σ : St} {l : Nat} {z k : Int} (k0 : 0 ≤ k) (k1 : k < gI σ 577 z) : ls σ (l + 1) z = cat (fun k => ls σ l (be σ z k)) k.toNat ++ (ls σ l (be σ z k) ++ cat (fun i => ls σ l (be σ z (k + 1 + i))) ((gI σ 577 z).toNat - k.toNat - 1)) := by
  show cat _ _ = _
  rw [cat_at _ k0 (by omega : k < ((gI σ 577 z).toNat : Int))]
/-- what is left of place k is below its key -/
theorem WT.left {σ : St} {l : Nat} {mn mx z lo hi k : Int} (h : WT σ (l + 1) mn mx z lo hi) (k0 : 0 ≤ k) (k1 : k < gI σ 577 z) {e : Int × Int × Int × Int × Int × Int} (he : e ∈ cat (fun k => ls σ l (be σ z k)) k.toNat) : kyE e < ky σ z k := by
  obtain ⟨i, hi', hx⟩ := cat_mem he
  have a := (h.2.2.2 i hi'.1 (by omega)).2.2.rng e hx
  have b := h.ord (j := k) hi'.1 (by omega) k1
  omega
theorem WT.right {σ : St} {l : Nat} {mn mx z lo hi k : Int} (h : WT σ (l + 1) mn mx z lo hi) (k0 : 0 ≤ k) {e : Int × Int × Int × Int × Int × Int} (he : e ∈ cat (fun i => ls σ l (be σ z (k + 1 + i))) ((gI σ 577 z).toNat - k.toNat - 1)) : nx σ z k hi ≤ kyE e := by
  obtain ⟨i, hi', hx⟩ := cat_mem he
  have a := (h.2.2.2 (k + 1 + i) (by omega) (by omega)).2.2.rng e hx
  have b := h.ord (i := k) (j := k + 1 + i) k0 (by omega) (by omega)
  omega
theorem WT.left0 {σ : St} {mn mx z lo hi k : Int} (h : WT σ 0 mn mx z lo hi) (k1 : k ≤ gI σ 577 z) {e : Int × Int × Int × Int × Int × Int} (he : e ∈ cat (fun k => [en σ z k]) k.toNat) : ∃ i, (0 ≤ i ∧ i < k) ∧ i < gI σ 577 z ∧ e = en σ z i := by
  obtain ⟨i, hi', hx⟩ := cat_mem he
  exact ⟨i, by omega, by omega, List.mem_singleton.mp hx⟩
theorem sp_seek {tv : Nat → Int} {cf : Cf} {σ : St} {o h lw z0 mn lo hi : Int} {l : Nat} {Q : Int → St → Prop} (hrk : RK σ) (hh : rJ h) (hlw : rJ lw) (hroot : gI σ 387 o = z0) (hT : WT σ l mn 8 z0 lo hi)
    (h0 : (∀ e, e ∈ ls σ l z0 → kyE e < kap h lw) → Q 0 σ)
    (h1 : ∀ τ A B x k, ls σ l z0 = A ++ en σ x k :: B → (∀ a, a ∈ A → kyE a < kap h lw) → kap h lw ≤ ky σ x k → x ∈ kl σ l z0 → (0 ≤ k ∧ k < gI σ 577 x) → gI σ 576 x = 0 → gI τ 396 o = x → gI τ 397 o = k → gI τ 391 o = (en σ x k).1 → gI τ 392 o = (en σ x k).2.1 → gI τ 393 o = (en σ x k).2.2.1 → gI τ 394 o = (en σ x k).2.2.2.1 → gI τ 395 o = (en σ x k).2.2.2.2.1 → Fr (mIs o) σ τ → Q 1 τ) : wp_Index_seek cf tv o h lw Q σ := by
  -- an entry is found
  have found : ∀ A B x k, ls σ l z0 = A ++ en σ x k :: B → (∀ a, a ∈ A → kyE a < kap h lw) → kap h lw ≤ ky σ x k → x ∈ kl σ l z0 → 0 ≤ x → (0 ≤ k ∧ k < gI σ 577 x) → k < 9 → gI σ 576 x = 0 → wp_Index_seek_b154 cf tv o h lw Q x k σ := by
    intro A B x k q1 q2 q3 q4 q5 q6 q7 q8
    unfold wp_Index_seek_b154
    intro σ1 e1 σ2 e2
    refine ⟨q5, ⟨q6.1, q7⟩, fun σ3 e3 => ⟨⟨q6.1, q7⟩, fun σ4 e4 => ⟨⟨q6.1, q7⟩, fun σ5 e5 => ⟨⟨q6.1, q7⟩, fun σ6 e6 => ⟨⟨q6.1, q7⟩, fun σ7 e7 => ?_⟩⟩⟩⟩⟩
    have a1 : ∀ f o' i, gA σ2 f o' i = gA σ f o' i := fun f o' i => by rw [e2, e1]; rfl
    have a3 : ∀ f o' i, gA σ3 f o' i = gA σ f o' i := fun f o' i => by rw [e3, gA_sI]; exact a1 f o' i
    have a4 : ∀ f o' i, gA σ4 f o' i = gA σ f o' i := fun f o' i => by rw [e4, gA_sI]; exact a3 f o' i
    have a5 : ∀ f o' i, gA σ5 f o' i = gA σ f o' i := fun f o' i => by rw [e5, gA_sI]; exact a4 f o' i
    have a6 : ∀ f o' i, gA σ6 f o' i = gA σ f o' i := fun f o' i => by rw [e6, gA_sI]; exact a5 f o' i
    rw [a1] at e3; rw [a3] at e4; rw [a4] at e5; rw [a5] at e6; rw [a6] at e7
    have fr : Fr (mIs o) σ σ7 := by
      rw [e7, e6, e5, e4, e3, e2, e1]
      exact (((((((Fr.rf _ _).sI ⟨by omega, rfl⟩).sI ⟨by omega, rfl⟩).sI ⟨by omega, rfl⟩).sI ⟨by omega, rfl⟩).sI ⟨by omega, rfl⟩).sI ⟨by omega, rfl⟩).sI ⟨by omega, rfl⟩
    have nf : ∀ {a b : Nat}, a ≠ b → ¬ (a = b ∧ o = o) := fun h q => h q.1
    refine h1 σ7 A B x k q1 q2 q3 q4 q6 q8 ?_ ?_ ?_ ?_ ?_ ?_ ?_ fr
    · rw [e7, gI_sI, if_neg (nf (by decide)), e6, gI_sI, if_neg (nf (by decide)), e5, gI_sI, if_neg (nf (by decide)), e4, gI_sI, if_neg (nf (by decide)), e3, gI_sI, if_neg (nf (by decide)), e2, gI_sI, if_neg (nf (by decide)), e1, gI_sI, if_pos ⟨rfl, rfl⟩]
    · rw [e7, gI_sI, if_neg (nf (by decide)), e6, gI_sI, if_neg (nf (by decide)), e5, gI_sI, if_neg (nf (by decide)), e4, gI_sI, if_neg (nf (by decide)), e3, gI_sI, if_neg (nf (by decide)), e2, gI_sI, if_pos ⟨rfl, rfl⟩]
    · rw [e7, gI_sI, if_neg (nf (by decide)), e6, gI_sI, if_neg (nf (by decide)), e5, gI_sI, if_neg (nf (by decide)), e4, gI_sI, if_neg (nf (by decide)), e3, gI_sI, if_pos ⟨rfl, rfl⟩]; rfl
    · rw [e7, gI_sI, if_neg (nf (by decide)), e6, gI_sI, if_neg (nf (by decide)), e5, gI_sI, if_neg (nf (by decide)), e4, gI_sI, if_pos ⟨rfl, rfl⟩]; rfl
    · rw [e7, gI_sI, if_neg (nf (by decide)), e6, gI_sI, if_neg (nf (by decide)), e5, gI_sI, if_pos ⟨rfl, rfl⟩]; rfl
    · rw [e7, gI_sI, if_neg (nf (by decide)), e6, gI_sI, if_pos ⟨rfl, rfl⟩]; rfl
    · rw [e7, gI_sI, if_pos ⟨rfl, rfl⟩]; rfl
  unfold wp_Index_seek
  intro y ey
  rw [ey, hroot]
  refine lQ2_rule (fun y5 y6 τ => τ = σ ∧ ∃ (lz : Nat) (mn' lo' hi' : Int) (P R : List (Int × Int × Int × Int × Int × Int)), WT σ lz mn' 8 y5 lo' hi' ∧ (∀ x, x ∈ kl σ lz y5 → x ∈ kl σ l z0) ∧ ls σ l z0 = P ++ (ls σ lz y5 ++ R) ∧ (∀ a, a ∈ P → kyE a < kap h lw) ∧ (∀ a, a ∈ R → kap h lw ≤ kyE a) ∧ ((y6 = -1 ∧ R = []) ∨ (0 ≤ y6 ∧ ∃ (lr : Nat) (R' : List (Int × Int × Int × Int × Int × Int)) (lo2 hi2 : Int), WT σ lr 4 8 y6 lo2 hi2 ∧ (∀ x, x ∈ kl σ lr y6 → x ∈ kl σ l z0) ∧ R = ls σ lr y6 ++ R'))) (fun y5 _ τ => (gI τ 576 y5).toNat) ?_ z0 (-1) σ ⟨rfl, l, mn, lo, hi, [], [], hT, fun _ q => q, by rw [List.append_nil]; rfl, fun a q => (by cases q), fun a q => (by cases q), Or.inl ⟨rfl, rfl⟩⟩
  intro K y5 y6 τ hI hK
  obtain ⟨rfl, lz, mn', lo', hi', P, R, hW, hsub, hls, hP, hR, hr⟩ := hI
  obtain ⟨c1, c2, c3, c4, c5⟩ := hW.cnt
  unfold wp_Index_seek_L9
  refine ⟨c1.1, fun q => ?_, fun q => ?_⟩
  · have e0 : lz = 0 := by omega
    subst e0
    refine sp_slot hrk hlw (by omega) (fun r hr1 hr2 hr3 _ _ => ?_)
    -- from place y7 on
    have b110 : ∀ y7, (0 ≤ y7 ∧ y7 ≤ gI τ 577 y5) → (∀ k, 0 ≤ k → k < y7 → ky τ y5 k < kap h lw) → (y7 < gI τ 577 y5 → kap h lw ≤ ky τ y5 y7) → wp_Index_seek_b110 cf tv o h lw Q y5 y6 y7 τ := by
      intro y7 h7 hlt hge
      have before : ∀ a, a ∈ cat (fun k => [en τ y5 k]) y7.toNat → kyE a < kap h lw := by
        intro a ha
        obtain ⟨i, i1, i2, i3⟩ := hW.left0 h7.2 ha
        rw [i3]; exact hlt i i1.1 i1.2
      unfold wp_Index_seek_b110
      refine ⟨c1.1, fun ne => ?_, fun e => ⟨fun y60 => ?_, fun y60 => ?_⟩⟩
      · have k1 : y7 < gI τ 577 y5 := by omega
        refine found (P ++ cat (fun k => [en τ y5 k]) y7.toNat) (cat (fun i => [en τ y5 (y7 + 1 + i)]) ((gI τ 577 y5).toNat - y7.toNat - 1) ++ R) y5 y7 ?_ ?_ (hge k1) (hsub y5 (kl_self _ _ _)) c1.1 ⟨h7.1, k1⟩ (by omega) (by rw [c2]; rfl)
        · rw [hls, ls0_at h7.1 k1]; simp only [List.append_assoc, List.cons_append]
        · intro a ha
          rcases List.mem_append.mp ha with w | w
          · exact hP a w
          · exact before a w
      · rcases hr with w | ⟨w0, lr, R', lo2, hi2, w1, w2, w3⟩
        · omega
        refine lQ1_rule (fun v υ => υ = τ ∧ ∃ (lv : Nat) (R2 : List (Int × Int × Int × Int × Int × Int)) (lo3 hi3 : Int), WT τ lv 4 8 v lo3 hi3 ∧ (∀ x, x ∈ kl τ lv v → x ∈ kl τ l z0) ∧ R = ls τ lv v ++ R2) (fun v υ => (gI υ 576 v).toNat) ?_ y6 τ ⟨rfl, lr, R', lo2, hi2, w1, w2, w3⟩
        intro K2 v υ hJ hK2
        obtain ⟨rfl, lv, R2, lo3, hi3, v1, v2, v3⟩ := hJ
        obtain ⟨d1, d2, d3, d4, d5⟩ := v1.cnt
        unfold wp_Index_seek_L131
        refine ⟨d1.1, fun q2 => ?_, fun q2 => ⟨by omega, fun v' ev => ?_⟩⟩
        · have e0 : lv = 0 := by omega
          subst e0
          have first := ls0_at (σ := υ) (z := v) (k := 0) (by omega) (by omega)
          refine found (P ++ ls υ 0 y5) (cat (fun i => [en υ v (0 + 1 + i)]) ((gI υ 577 v).toNat - (0 : Int).toNat - 1) ++ R2) v 0 ?_ ?_ ?_ (v2 v (kl_self _ _ _)) d1.1 (by omega) (by omega) (by rw [d2]; rfl)
          · rw [hls, v3, first]; simp only [List.append_assoc, List.cons_append]; rfl
          · intro a ha
            rcases List.mem_append.mp ha with w | w
            · exact hP a w
            · have : ls υ 0 y5 = cat (fun k => [en υ y5 k]) y7.toNat := by rw [e]; rfl
              rw [this] at w
              exact before a w
          · refine hR _ ?_
            rw [v3, first]
            exact List.mem_append.mpr (Or.inl (List.mem_append.mpr (Or.inr List.mem_cons_self)))
        · obtain ⟨lv', rfl⟩ : ∃ m, lv = m + 1 := ⟨lv - 1, by omega⟩
          have g := v1.2.2.2 0 (by omega) (by omega)
          have ev' : v' = be υ v 0 := ev
          rw [ev']
          have g2 := g.2.2.cnt
          refine hK2 _ _ ⟨rfl, lv', cat (fun i => ls υ lv' (be υ v (0 + 1 + i))) ((gI υ 577 v).toNat - (0 : Int).toNat - 1) ++ R2, _, _, g.2.2, fun x hx => v2 x (kl_below (Int.le_refl 0) (by omega) hx), ?_⟩ (by rw [g2.2.1, d2]; omega)
          rw [v3, lsS_at (k := 0) (by omega) (by omega)]
          simp only [List.append_assoc]; rfl
      · refine h0 (fun a ha => ?_)
        rw [hls] at ha
        rcases List.mem_append.mp ha with w | w
        · exact hP a w
        · rcases List.mem_append.mp w with w | w
          · have : ls τ 0 y5 = cat (fun k => [en τ y5 k]) y7.toNat := by rw [e]; rfl
            rw [this] at w
            exact before a w
          · rcases hr with v | v
            · rw [v.2] at w; cases w
            · omega
    have nomatch' : (0 ≤ r → ky τ y5 r ≠ kap h lw) → wp_Index_seek_b107 cf tv o h lw Q (wp_Index_seek_b110 cf tv o h lw Q) y5 y6 r τ := by
      intro hne
      unfold wp_Index_seek_b107
      intro y7 e7
      rw [w32_id (by unfold rI; omega)] at e7
      rw [e7]
      refine b110 (r + 1) (by omega) (fun k k0 k1 => ?_) (fun k1 => ?_)
      · by_cases e : k = r
        · rw [e]
          have := hr3 (by omega)
          have := hne (by omega)
          omega
        · have := hr3 (by omega)
          have := (hW.ord (i := k) (j := r) k0 (by omega) (by omega)).2
          omega
      · have := hr2 (r + 1) (by omega) k1
        omega
    refine ⟨fun w => nomatch' (fun z => by omega), fun w => ⟨by omega, fun v => nomatch' (fun _ z => v ?_), fun v => ⟨by omega, fun u => ?_, fun u => nomatch' (fun _ z => u ?_)⟩⟩⟩
    · exact (kap_inj (hrk.aj _ _ _ (by decide)) hlw z).1
    · refine b110 r (by omega) (fun k k0 k1 => ?_) (fun k1 => ?_)
      · have := hr3 (by omega)
        have := (hW.ord (i := k) (j := r) k0 k1 (by omega)).2
        omega
      · have : ky τ y5 r = kap h lw := by
          show kap (gA τ 578 y5 r) (gA τ 579 y5 r) = _
          rw [v, u]
        omega
    · exact (kap_inj (hrk.aj _ _ _ (by decide)) hlw z).2
  · obtain ⟨lz', rfl⟩ : ∃ m, lz = m + 1 := ⟨lz - 1, by omega⟩
    have c6 := hW.2.2.1.2.1
    refine sp_slot hrk hlw (by omega) (fun r hr1 hr2 hr3 _ _ y7 e7 => ?_)
    have h7 : 0 ≤ y7 ∧ y7 < gI τ 577 y5 := by omega
    have g := hW.2.2.2 y7 h7.1 h7.2
    have g2 := g.2.2.cnt
    have hP' : ∀ a, a ∈ P ++ cat (fun k => ls τ lz' (be τ y5 k)) y7.toNat → kyE a < kap h lw := by
      intro a ha
      rcases List.mem_append.mp ha with w | w
      · exact hP a w
      · have w2 := hW.left h7.1 h7.2 w
        by_cases e : 0 ≤ r
        · have := hr3 e
          have : y7 = r := by omega
          rw [this] at w2; omega
        · have : y7 = 0 := by omega
          rw [this] at w; cases w
    rw [w32_id (by unfold rI; omega)]
    refine ⟨fun w => ?_, fun w => ⟨by omega, fun y6' e6 => ?_⟩⟩
    · unfold wp_Index_seek_b54
      refine ⟨c1.1, by omega, fun v ev => ?_⟩
      have ev' : v = be τ y5 y7 := ev
      rw [ev']
      have en0 : (gI τ 577 y5).toNat - y7.toNat - 1 = 0 := by omega
      refine hK _ _ _ ⟨rfl, lz', 4, _, _, P ++ cat (fun k => ls τ lz' (be τ y5 k)) y7.toNat, R, g.2.2, fun x hx => hsub x (kl_below h7.1 h7.2 hx), ?_, hP', hR, hr⟩ (by rw [g2.2.1, c2]; omega)
      rw [hls, lsS_at h7.1 h7.2, en0]
      simp only [List.append_assoc]; rfl
    · unfold wp_Index_seek_b54
      refine ⟨c1.1, by omega, fun v ev => ?_⟩
      have ev' : v = be τ y5 y7 := ev
      have e6' : y6' = be τ y5 (y7 + 1) := e6
      rw [ev', e6']
      have g8 := hW.2.2.2 (y7 + 1) (by omega) (by omega)
      have g9 := g8.2.2.cnt
      obtain ⟨nn, hnn⟩ : ∃ nn, (gI τ 577 y5).toNat - y7.toNat - 1 = 1 + nn := ⟨(gI τ 577 y5).toNat - y7.toNat - 2, by omega⟩
      have spl : cat (fun i => ls τ lz' (be τ y5 (y7 + 1 + i))) (1 + nn) = ls τ lz' (be τ y5 (y7 + 1)) ++ cat (fun i => ls τ lz' (be τ y5 (y7 + 1 + (((1 : Nat) : Int) + i)))) nn := by
        rw [cat_add, cat_one]
        rw [show y7 + 1 + 0 = y7 + 1 by omega]
      refine hK _ _ _ ⟨rfl, lz', 4, _, _, P ++ cat (fun k => ls τ lz' (be τ y5 k)) y7.toNat, cat (fun i => ls τ lz' (be τ y5 (y7 + 1 + i))) (1 + nn) ++ R, g.2.2, fun x hx => hsub x (kl_below h7.1 h7.2 hx), ?_, hP', ?_, Or.inr ⟨g9.1.1, lz', _, _, _, g8.2.2, fun x hx => hsub x (kl_below (by omega) (by omega) hx), by rw [spl, List.append_assoc]⟩⟩ (by rw [g2.2.1, c2]; omega)
      · rw [hls, lsS_at h7.1 h7.2, hnn]
        simp only [List.append_assoc]
      · intro a ha
        rcases List.mem_append.mp ha with w2 | w2
        · rw [← hnn] at w2
          have w3 := hW.right h7.1 w2
          rw [nx_in (by omega)] at w3
          have := hr2 (y7 + 1) (by omega) (by omega)
          omega
        · exact hR a w2
