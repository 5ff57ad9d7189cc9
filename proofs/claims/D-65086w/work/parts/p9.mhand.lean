/-! the reference hands a group over -/
theorem GW.ends {σ : St} : ∀ {W : List (Int × (List (Int × Int × Int × (Int → Int)) × Int))} {g : Int} {S : List (Int × Int × Int × (Int → Int)) × Int}, GW σ W g S → ∀ (i : Nat) (hi : i < W.length), gA σ 731 0 (g + i) = W[i].1
  | [], _, _, _, i, hi => absurd hi (Nat.not_lt_zero _)
  | x :: W, g, S, ⟨h1, h2, h3⟩, 0, hi => by
    rw [show g + ((0 : Nat) : Int) = g by omega]; exact h1
  | x :: W, g, S, ⟨h1, h2, h3⟩, i + 1, hi => by
    have := h3.ends i (by rw [List.length_cons] at hi; omega)
    rw [show g + ((i + 1 : Nat) : Int) = g + 1 + i by omega]
    exact this
/-- a row is laid -/
theorem sp_Mgroup {tv : Nat → Int} {cf : Cf} {σ : St} {op a b w : Int} {Q : Int → St → Prop} (hrk : RK σ) (hw : gI σ 730 0 = w) (h8 : 0 ≤ w ∧ w < 8) (ho : rI op) (ha : rI a) (hb : rI b)
    (hQ : ∀ τ, gA τ 732 0 w = op → gA τ 733 0 w = a → gA τ 734 0 w = b → gA τ 737 0 w = 0 → (∀ f, (731 ≤ f ∧ f ≤ 739) → ∀ j, j ≠ w → gA τ f 0 j = gA σ f 0 j) → Fr (fun f o' => (f = 732 ∨ f = 733 ∨ f = 734 ∨ f = 737) ∧ o' = 0) σ τ → RK τ → Q w τ) : wp_Model_group cf tv op a b Q σ := by
  unfold wp_Model_group
  rw [hw]
  refine ⟨h8, fun σ5 e5 => ?_⟩
  have w5 : gI σ5 730 0 = w := by rw [e5]; exact hw
  rw [w5]
  refine ⟨h8, fun σ6 e6 => ?_⟩
  have w6 : gI σ6 730 0 = w := by rw [e6]; exact w5
  rw [w6]
  refine ⟨h8, fun σ7 e7 => ?_⟩
  have w7 : gI σ7 730 0 = w := by rw [e7]; exact w6
  rw [w7]
  refine ⟨h8, fun υ eυ => ?_⟩
  have wυ : gI υ 730 0 = w := by rw [eυ]; exact w7
  rw [wυ]
  refine hQ υ ?_ ?_ ?_ ?_ (fun f hf j hj => ?_) ?_ ?_
  · rw [eυ, gA_sAo (by decide), e7, gA_sAo (by decide), e6, gA_sAo (by decide), e5, sA_eq]
  · rw [eυ, gA_sAo (by decide), e7, gA_sAo (by decide), e6, sA_eq]
  · rw [eυ, gA_sAo (by decide), e7, sA_eq]
  · rw [eυ, sA_eq]
  · have ne : ∀ (x : St) (f' : Nat) (v : Int), gA (sA x f' 0 w v) f 0 j = gA x f 0 j := fun x f' v => by rw [gA_sA, if_neg (fun q => hj q.2.2)]
    rw [eυ, ne, e7, ne, e6, ne, e5, ne]
  · rw [eυ, e7, e6, e5]
    exact ((((Fr.rf _ _).sA ⟨by omega, rfl⟩).sA ⟨by omega, rfl⟩).sA ⟨by omega, rfl⟩).sA ⟨by omega, rfl⟩
  · rw [eυ, e7, e6, e5]
    have p := hrk.sA (f := 732) (o := 0) (i := w) (v := op) ho
    have q := p.sA (f := 733) (o := 0) (i := w) (v := a) ha
    have r := q.sA (f := 734) (o := 0) (i := w) (v := b) hb
    exact r.sA (f := 737) (by show rZ 0; unfold rZ; omega)
def mMh (f : Nat) (o' : Int) : Prop := ((712 ≤ f ∧ f ≤ 740) ∨ f = 707) ∧ o' = 0
theorem sp_Mhand {tv : Nat → Int} {cf : Cf} {σ : St} {S S' S2 S0 : List (Int × Int × Int × (Int → Int)) × Int} {W W0 : List (Int × (List (Int × Int × Int × (Int → Int)) × Int))} {op a b c d gn x y e p p0 : Int} {bs : Int → Int} {k : Nat} {Q : St → Prop} (hc : CfOK cf) (hrk : RK σ) (h0 : MR σ 0 S) (h1 : MR σ 1 S') (hS : laS S' W = S) (f2 : FTs S2) (f1 : FTs S') (hW : GW σ W 0 S') (hw : gI σ 730 0 = W.length) (h7 : W.length ≤ 7) (hg : rwI σ W.length op a b c d gn x y bs) (hgo : GO op a b c d gn x y bs S S2) (he : 0 < e ∧ e ≤ 512) (hp : gI σ 707 0 = p) (hpr : 0 ≤ p ∧ p ≤ 4096) (ht : (p + e ≤ (cf.2.1 - 2) * 128 ∧ p0 = p ∧ S0 = S' ∧ W0 = W) ∨ ((cf.2.1 - 2) * 128 < p + e ∧ p0 = 0 ∧ S0 = S ∧ W0 = [])) (hsf : SFo (p0 + e) (W0 ++ [(p0 + e, S2)]) k)
    (hQ : ∀ τ, MR τ 0 S2 → MR τ 1 (laS S0 ((W0 ++ [(p0 + e, S2)]).take k)) → GW τ ((W0 ++ [(p0 + e, S2)]).drop k) 0 (laS S0 ((W0 ++ [(p0 + e, S2)]).take k)) → gI τ 730 0 = (((W0 ++ [(p0 + e, S2)]).drop k).length : Int) → gI τ 707 0 = p0 + e → Fr mMh σ τ → RK τ → Q τ) : wp_Model_hand cf tv e Q σ := by
  have hP : 8 ≤ cf.2.1 ∧ cf.2.1 ≤ 32 := hc.2.1
  unfold wp_Model_hand
  rw [hw]
  refine hgo tv cf σ 0 W.length _ (Or.inl rfl) hrk h0 hg (fun τ1 m1 O1 k1 _ => ?_)
  have M1 : MR τ1 1 S' := O1.tr2 (by decide) ⟨Or.inl rfl, Or.inr rfl⟩ h1 f1
  have G1 : GW τ1 W 0 S' := hW.fr (by omega) O1.1 (fun f a b q => by unfold mMt at q; omega)
  have r1 := O1.rw hg
  have w1 : gI τ1 730 0 = W.length := by rw [O1.1.i _ _ (fun q => by unfold mMt at q; omega)]; exact hw
  have p1 : gI τ1 707 0 = p := by rw [O1.1.i _ _ (fun q => by unfold mMt at q; omega)]; exact hp
  -- what is common to both
  have b56 : ∀ kb : Nat, kb ≤ W.length + 1 → laS S' ((W ++ [(p0 + e, S2)]).take kb) = S0 → (W ++ [(p0 + e, S2)]).drop kb = W0 ++ [(p0 + e, S2)] → 0 ≤ p0 + e ∧ p0 + e ≤ 5000 → wp_Model_hand_b56 cf tv e Q kb (p0 + e) τ1 := by
    intro kb hkb hla hdr hpe
    unfold wp_Model_hand_b56
    intro σ37 e37
    have w37 : gI σ37 730 0 = W.length := by rw [e37, gI_sIo (by decide)]; exact w1
    have p37 : gI σ37 707 0 = p0 + e := by rw [e37, gI_sI1]
    rw [w37, p37]
    refine ⟨by omega, fun σ38 e38 σ39 e39 => ?_⟩
    have w38 : gI σ38 730 0 = W.length := by rw [e38]; exact w37
    rw [w38, w32_id (by unfold rI; omega)] at e39
    have F : Fr (fun f o' => (f = 707 ∨ f = 731 ∨ f = 730) ∧ o' = 0) τ1 σ39 := by rw [e39, e38, e37]; exact (((Fr.rf _ _).sI ⟨Or.inl rfl, rfl⟩).sA ⟨Or.inr (Or.inl rfl), rfl⟩).sI ⟨Or.inr (Or.inr rfl), rfl⟩
    have k39 : RK σ39 := by
      rw [e39, e38, e37]
      have a := k1.sI (f := 707) (o := 0) (v := p0 + e) (by show rI _; unfold rI; omega)
      have b := a.sA (f := 731) (o := 0) (i := W.length) (v := p0 + e) (by show rI _; unfold rI; omega)
      exact b.sI (f := 730) (by show rI _; unfold rI; omega)
    have en39 : ∀ j, gA σ39 731 0 j = if j = W.length then p0 + e else gA τ1 731 0 j := fun j => by
      rw [e39]
      show gA σ38 731 0 j = _
      rw [e38, sA_if, e37]; rfl
    have rows39 : ∀ f, (732 ≤ f ∧ f ≤ 740) → gA σ39 f 0 = gA τ1 f 0 := fun f hf => F.a f 0 (fun q => by omega)
    have G39 : GW σ39 W 0 S' := GW.eq (σ := τ1) (d := 0) (by rw [Int.add_zero]; exact G1) (by omega) (by omega) (fun j j0 j1 => ⟨fun f hf => by
      rw [Int.add_zero]
      by_cases q : f = 731
      · rw [q, en39, if_neg (by omega)]
      · rw [rows39 f (by omega)], by
      unfold rowB
      rw [rows39 740 (by decide), Int.add_zero]⟩)
    have GA : GW σ39 (W ++ [(p0 + e, S2)]) 0 S' := by
      refine G39.app (by rw [Int.zero_add, en39, if_pos rfl]) ?_
      rw [Int.zero_add, hS]
      refine ⟨op, a, b, c, d, gn, x, y, bs, ⟨r1.1, ?_⟩, hgo⟩
      have r2 := r1.2
      unfold rowB at r2 ⊢
      rw [rows39 732 (by decide), rows39 733 (by decide), rows39 734 (by decide), rows39 735 (by decide), rows39 736 (by decide), rows39 737 (by decide), rows39 738 (by decide), rows39 739 (by decide), rows39 740 (by decide)]
      exact r2
    have lA : (W ++ [(p0 + e, S2)]).length = W.length + 1 := by rw [List.length_append, List.length_singleton]
    refine sp_MbecomesSafe (W := W ++ [(p0 + e, S2)]) (S' := S') (k := kb) k39 (m1.fr F (fun g a b q => by omega)) f2 (M1.fr F (fun g a b q => by omega)) GA (by rw [e39, gI_sI1, lA]; omega) (by omega) (by omega) (fun τ2 m02 m12 g2 w2 f2' k2 _ => ?_)
    rw [hla] at m12 g2
    rw [hdr] at g2 w2
    generalize hW1 : W0 ++ [(p0 + e, S2)] = W1 at *
    have p2 : gI τ2 707 0 = p0 + e := by rw [f2'.i _ _ (fun q => by unfold mMb at q; omega), e39, gI_sIo (by decide), e38]; exact p37
    obtain ⟨s1, s2, s3, s4⟩ := hsf
    have l1 : W1.length ≤ 8 := by rw [← hdr, List.length_drop, lA]; omega
    refine lQ1_rule (fun i τ => τ = τ2 ∧ 0 ≤ i ∧ i ≤ k) (fun i _ => (k - i).toNat) ?_ 0 τ2 ⟨rfl, by omega, by omega⟩
    intro K i τ hI hK
    obtain ⟨et, i0, i1⟩ := hI
    subst et
    have fin : i = k → wp_Model_hand_b127 cf tv e Q i τ := fun q => by
      unfold wp_Model_hand_b127
      rw [q]
      refine sp_MbecomesSafe k2 m02 f2 m12 g2 w2 l1 s1 (fun υ u0 u1 u2 u3 u4 u5 _ => hQ υ u0 u1 u2 u3 ?_ ?_ u5)
      · rw [u4.i _ _ (fun q => by unfold mMb at q; omega)]; exact p2
      · exact (O1.1.mono (fun f o' q => by unfold mMt at q; exact ⟨by omega, q.2⟩)).tr ((F.mono (fun f o' q => ⟨by omega, q.2⟩)).tr ((f2'.mono (fun f o' q => by unfold mMb at q; exact ⟨by omega, q.2⟩)).tr (u4.mono (fun f o' q => by unfold mMb at q; exact ⟨by omega, q.2⟩))))
    unfold wp_Model_hand_L90
    rw [w2, p2, jdv_nn (by omega) (by omega) (by omega), w32_id (x := (p0 + e) / 128 * 128) (by unfold rI; omega)]
    refine ⟨fun q => fin (by omega), fun q => ⟨by omega, fun w => fin ?_, fun w y2 ey => ?_⟩⟩
    · apply Classical.byContradiction
      intro u
      have il : i.toNat < W1.length := by omega
      have en := g2.ends i.toNat il
      rw [show (0 : Int) + (i.toNat : Int) = i by omega] at en
      have := s2 W1[i.toNat] (by
        rw [List.mem_take_iff_getElem]
        exact ⟨i.toNat, by omega, rfl⟩)
      omega
    · rw [w32_id (by unfold rI; omega)] at ey
      rw [ey]
      have ik : i < k := by
        apply Classical.byContradiction
        intro u
        have ik : i.toNat = k := by omega
        have il : k < W1.length := by omega
        have en := g2.ends k il
        rw [show (0 : Int) + (k : Int) = i by omega] at en
        have := s3 W1[k] (by
          rw [List.drop_eq_getElem_cons il]
          exact List.mem_cons_self)
        omega
      exact hK (i + 1) τ ⟨rfl, by omega, by omega⟩ (by omega)
  intro y2 e2
  rw [p1, w32_id (x := p + e) (by unfold rI; omega)] at e2
  unfold wp_Model_hand_b40
  rcases ht with ⟨t1, t2, t3, t4⟩ | ⟨t1, t2, t3, t4⟩
  · rw [if_pos t1] at e2
    refine ⟨fun _ => ⟨fun _ => ?_, fun w => absurd e2 w⟩, fun w => absurd e2 w⟩
    rw [p1, w32_id (x := p + e) (by unfold rI; omega), ← t2]
    exact b56 0 (by omega) (by rw [t3]; rfl) (by rw [t4]; rfl) (by omega)
  · rw [if_neg (by omega)] at e2
    refine ⟨fun w => by omega, fun _ => ⟨fun w => by omega, fun _ => ?_⟩⟩
    rw [w1]
    have tk : (W ++ [(p0 + e, S2)]).take W.length = W := List.take_left
    have dr : (W ++ [(p0 + e, S2)]).drop W.length = [(p0 + e, S2)] := List.drop_left
    have := b56 W.length (by omega) (by rw [tk, hS, t3]) (by rw [dr, t4]; rfl) (by omega)
    rw [show p0 + e = e by omega] at this
    exact this
