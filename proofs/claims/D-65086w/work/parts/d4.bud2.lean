theorem gN_cases {tv : Nat → Int} {g : Int → Int} : ∀ {u : List Int} {a s : Int} {S : List (Int × Int × Int × (Int → Int)) × Int} {b s' : Int} {S' : List (Int × Int × Int × (Int → Int)) × Int}, gN tv g u a s S b s' S' → ∃ n v, u = n :: v ∧ jnV tv g a n ∧ okS S ∧ s < srl g a ∧ ((v = [] ∧ g (a + 17) = 1 ∧ b = a + n ∧ s' = srl g a ∧ S' = apS g a n S) ∨ (g (a + 17) ≠ 1 ∧ gN tv g v (a + n) (srl g a) (apS g a n S) b s' S'))
  | [], _, _, _, _, _, _, h => absurd h id
  | [n], _, _, _, _, _, _, ⟨h1, h2, h3, h4, h5, h6, h7⟩ => ⟨n, [], rfl, h1, h2, h3, Or.inl ⟨rfl, h4, h5, h6, h7⟩⟩
  | n :: m :: t, _, _, _, _, _, _, ⟨h1, h2, h3, h4, h5⟩ => ⟨n, m :: t, rfl, h1, h2, h3, Or.inr ⟨h4, h5⟩⟩
theorem sp_lookN {tv : Nat → Int} {cf : Cf} {σ : St} {o : Int} {dk : Int → Int} {db : Int → Int → Int} {Sp : Int → Int → (Int → Int → Int) → Prop} {B : Int} (hc : CfOK cf) {n a m r : Int} {Q : Int → St → Prop} (hD : DJ tv cf σ o dk db Sp B) (hW : WW cf σ o dk db) (hm : 0 ≤ m ∧ m < cf.1 - 6) (hr : 320 ≤ rowL r) (ha : 0 ≤ a) (hl : a + n ≤ lmF dk m) (w : ndV tv (db m) a n)
    (hQ : ∀ τ, (∀ i, 0 ≤ i → i < n → gA τ 512 r i = db m (a + i)) → gI τ 513 r = 0 → gI τ 514 r = n → Fr (mRd2 o r) σ τ → Q n τ) : wp_Store_look cf tv o m a r Q σ := by
  have hP : 8 ≤ cf.2.1 ∧ cf.2.1 ≤ 32 := hc.2.1
  have nn := w.2.1
  have dm := hD.k hc hm
  have lme : lmF dk m = 128 * max 0 (dk m) := rfl
  have e := w.1.2.1
  refine sp_look hc hD hW hm ha (by omega) hr (lim := lmF dk m) rfl (fun τ q f => ?_) (fun τ q1 q2 f => ?_) (fun τ k q1 q2 q3 q4 q5 q6 q7 f => ?_)
  · exfalso
    rcases q with q | q
    · omega
    · rw [e] at q
      rcases q.2 with q | q | q | q
      · omega
      · omega
      · omega
      · exact q w.1
  · exfalso; omega
  · have ek : k = n := by rw [← q1]; exact e
    rw [ek] at q5 q7 ⊢
    exact hQ τ q5 q6 q7 f
theorem pdZ.z {g : Int → Int} {a : Int} (h : pdZ g a) (h8 : a % 8 = 0) : rI4 g (a + 4) = 0 := by
  obtain ⟨h1, h2⟩ := h
  unfold rI4
  rw [h2 _ (by omega) (by omega), h2 _ (by omega) (by omega), h2 _ (by omega) (by omega), h2 _ (by omega) (by omega)]
  decide
theorem sp_look0 {tv : Nat → Int} {cf : Cf} {σ : St} {o : Int} {dk : Int → Int} {db : Int → Int → Int} {Sp : Int → Int → (Int → Int → Int) → Prop} {B : Int} (hc : CfOK cf) {a m r : Int} {Q : Int → St → Prop} (hD : DJ tv cf σ o dk db Sp B) (hW : WW cf σ o dk db) (hm : 0 ≤ m ∧ m < cf.1 - 6) (hr : 320 ≤ rowL r) (ha : 0 ≤ a) (h8 : a % 8 = 0) (hl : (a + 127) / 128 * 128 ≤ lmF dk m) (w : pdZ (db m) a)
    (hQ : ∀ τ, Fr (mRd2 o r) σ τ → Q 0 τ) : wp_Store_look cf tv o m a r Q σ := by
  have hP : 8 ≤ cf.2.1 ∧ cf.2.1 ≤ 32 := hc.2.1
  have dm := hD.k hc hm
  have lme : lmF dk m = 128 * max 0 (dk m) := rfl
  have e := w.z h8
  have w1 := w.1
  refine sp_look hc hD hW hm ha (by omega) hr (lim := lmF dk m) rfl (fun τ q f => ?_) (fun τ q1 q2 f => hQ τ f) (fun τ k q1 q2 q3 q4 q5 q6 q7 f => ?_)
  · exfalso
    rcases q with q | q
    · omega
    · exact q.1 e
  · exfalso; omega
theorem BD0.q {tv : Nat → Int} {cf : Cf} {σ τ υ : St} {o : Int} {dk : Int → Int} {db : Int → Int → Int} {X m a : Int} {S : List (Int × Int × Int × (Int → Int)) × Int} {L L' : List (Int × Int × Int × Int × Int × Int)} (h : BD0 tv cf σ τ o dk db X m a S L L') (f : Fr (mRq o) τ υ) (k : RK υ) : BD0 tv cf σ υ o dk db X m a S L L' := by
  obtain ⟨h1, h2, h3, h4, h5⟩ := h
  refine ⟨k, h2.fr f mRq_no, h3.tr (XP.q f), ?_, ?_⟩
  · rw [f.a 324 o (mRq_no _ _ (Or.inr (Or.inr (Or.inr ⟨rfl, rfl⟩))))]; exact h4
  · rw [f.a 324 o (mRq_no _ _ (Or.inr (Or.inr (Or.inr ⟨rfl, rfl⟩))))]; exact h5
theorem BD0.le {tv : Nat → Int} {cf : Cf} {σ τ : St} {o : Int} {dk : Int → Int} {db : Int → Int → Int} {X m a b : Int} {S : List (Int × Int × Int × (Int → Int)) × Int} {L L' : List (Int × Int × Int × Int × Int × Int)} (h : BD0 tv cf σ τ o dk db X m a S L L') (ab : a ≤ b) : BD0 tv cf σ τ o dk db X m b S L L' := by
  obtain ⟨h1, h2, h3, h4, h5⟩ := h
  exact ⟨h1, h2, h3, by omega, h5⟩
theorem sp_replayBud {tv : Nat → Int} {cf : Cf} {σ : St} {o : Int} {dk : Int → Int} {db : Int → Int → Int} {Sp : Int → Int → (Int → Int → Int) → Prop} {B : Int} (hc : CfOK cf) (ho : o = 0 ∨ o = 1) (hrk : RK σ) {m a0 ls b s1 X : Int} {t : List (List Int)} {v : List Int} {S S1 : List (Int × Int × Int × (Int → Int)) × Int} {L : List (Int × Int × Int × Int × Int × Int)} {Q : St → Prop} (hD : DJ tv cf σ o dk db Sp B) (hW : noW σ o) (hm : 4 + cf.2.2 ≤ m ∧ m < cf.1 - 6) (ha : 0 ≤ a0) (h8 : a0 % 8 = 0) (hls : rJ ls) (hs : sM tv (db m) t a0 (max (gI σ 228 o) ls) S b s1 S1) (hb : b ≤ lmF dk m) (hT : gT tv (db m) (lmF dk m) v b s1) (hR : RS tv cf db (lmF dk) X σ o S L) (hlv : gA σ 324 o m ≤ a0) (hon : onC tv (db m) a0) (hX : s1 ≤ X)
    (hQ : ∀ τ L', BD0 tv cf σ τ o dk db X m b S1 L L' → max (gI τ 228 o) ls = s1 → gI σ 202 o ≤ gI τ 202 o → gI τ 228 o ≤ max (gI σ 228 o) (gI τ 202 o) → gI τ 202 o ≤ max (gI σ 202 o) s1 → Q τ) : wp_Store_replayBud cf tv o m a0 ls Q σ := by
  have hP : 8 ≤ cf.2.1 ∧ cf.2.1 ≤ 32 := hc.2.1
  have hR0 : 0 ≤ cf.2.2 ∧ cf.2.2 ≤ 4 := hc.2.2
  have dm := hD.k hc (n := m) ⟨by omega, hm.2⟩
  have lme : lmF dk m = 128 * max 0 (dk m) := rfl
  have ro : rowL o = 320 := by unfold rowL; rw [if_pos (by omega)]
  generalize hlim : lmF dk m = lim at hb hT lme
  unfold wp_Store_replayBud
  intro y7 e7
  rw [← e7] at hs
  have rja := hrk.j 228 o (by decide)
  refine lQ3_rule (fun y5 y6 y7 τ => rJ y7 ∧ y6 % 8 = 0 ∧ (a0 ≤ y5 ∧ y5 ≤ y6 ∧ y6 ≤ lim ∧ onC tv (db m) y5) ∧ ∃ S' L', BD0 tv cf σ τ o dk db X m y5 S' L L' ∧ gI σ 202 o ≤ gI τ 202 o ∧ gI τ 228 o ≤ max (gI σ 228 o) (gI τ 202 o) ∧ gI τ 202 o ≤ max (gI σ 202 o) (max (gI τ 228 o) ls) ∧ ((y5 = y6 ∧ y7 = max (gI τ 228 o) ls ∧ ∃ t, sM tv (db m) t y6 y7 S' b s1 S1) ∨ (∃ t d u a1 s2 S2 Sx, gN tv (db m) (d ++ u) y5 (max (gI τ 228 o) ls) S' a1 s2 S2 ∧ gN tv (db m) u y6 y7 Sx a1 s2 S2 ∧ sM tv (db m) t a1 s2 S2 b s1 S1) ∨ (y5 = b ∧ S' = S1 ∧ max (gI τ 228 o) ls = s1 ∧ ∃ v, gT tv (db m) lim v y6 y7))) (fun _ y6 _ _ => (lim - y6).toNat) ?_ a0 a0 y7 σ ⟨?_, h8, ⟨by omega, by omega, ?_, hon⟩, S, L, ⟨hrk, hR, XP.q (Fr.rf _ _), by omega, fun k _ _ _ => by omega⟩, by omega, by omega, by omega, Or.inl ⟨rfl, e7, t, hs⟩⟩
  rotate_left
  · rw [e7]; unfold rJ at *; omega
  · have := sM_le hs; omega
  intro K y5 y6 y7 τ hI hK
  obtain ⟨j7, m8, pos, S', L', bd, sr1, sr2, sr3, cs⟩ := hI
  have Dv := hD.fr bd.2.2.1.2.2 mRp_b
  have Wv := hW.fr bd.2.2.1.2.2 (fun w _ => mRp_w _ w (by decide) (by decide))
  have fq : ∀ {υ : St}, Fr (mRd2 o o) τ υ → Fr (mRq o) τ υ := fun f => f.mono (fun f o' q => Or.inl q)
  have ny : ∀ f, (f = 228 ∨ f = 202) → ¬ mRd2 o o f o := fun f a q => by unfold mRd2 mPg mRow at q; omega
  -- a node of a group
  have mid : ∀ t d u a1 s2 S2 Sx, gN tv (db m) (d ++ u) y5 (max (gI τ 228 o) ls) S' a1 s2 S2 → gN tv (db m) u y6 y7 Sx a1 s2 S2 → sM tv (db m) t a1 s2 S2 b s1 S1 → wp_Store_replayBud_L16 cf tv o m a0 ls Q K y5 y6 y7 τ := by
    intro t d u a1 s2 S2 Sx g1 g2 g3
    obtain ⟨n, u', eu, nv, okx, slt, nx⟩ := gN_cases g2
    have nn := nv.n
    have n8 := nv.1.1.2
    have l3 := sM_le g3
    have l2 := gN_le g2
    have l1 := gN_le g1
    have nb : y6 + n ≤ a1 := by
      rcases nx with q | q
      · omega
      · have := gN_le q.2; omega
    unfold wp_Store_replayBud_L16
    refine sp_lookN hc Dv (Wv.w cf dk db) ⟨by omega, hm.2⟩ (by omega) (by omega) (by rw [hlim]; omega) nv.v (fun υ b1 b2 b3 f1 _ k1 => ⟨fun _ => ?_, fun z => absurd z (by omega)⟩)
    have es : rL8 (gA υ 512 o) (0 + 8) = srl (db m) y6 := rL8_sh (fun i i0 i1 => by rw [show (0 : Int) + 8 + i = 8 + i by omega, b1 _ (by omega) (by omega)]; congr 1; omega)
    have ef : gA υ 512 o (0 + 17) = db m (y6 + 17) := b1 17 (by omega) (by omega)
    have ea : gI υ 228 o = gI τ 228 o := f1.i _ _ (ny _ (Or.inl rfl))
    have eser : gI υ 202 o = gI τ 202 o := f1.i _ _ (ny _ (Or.inr rfl))
    have bdu := bd.q (fq f1) k1
    unfold wp_Store_replayBud_b55
    refine ⟨fun z => absurd z (by omega), fun _ => sp_rser b2 (by omega) (by omega) (fun _ js _ => ?_)⟩
    rw [es] at js ⊢
    refine ⟨fun _ => sp_rser b2 (by omega) (by omega) (fun _ _ _ y6' e6 => ?_), fun z => absurd slt z⟩
    rw [es]
    rw [w32_id (by unfold rI; omega)] at e6
    rw [e6]
    refine sp_rlast b2 (by omega) (by omega) (fun _ _ => ?_)
    rw [ef]
    rcases nx with ⟨x1, x2, x3, x4, x5⟩ | ⟨x1, x2⟩
    · rw [if_pos x2]
      refine ⟨fun z => absurd z (by omega), fun _ => ?_⟩
      have ew : y6 + n = a1 := x3.symm
      rw [ew, ← x4]
      refine sp_redos hc ho hD hW hm g1 (by omega) (by omega) bdu (by omega) (by rw [x4]; exact js) pos.2.2.2 (by omega) (fun υ2 L2 b2' a2 s2' => ?_)
      unfold wp_Store_replayBud_b141
      have e9 : max (gI υ2 228 o) ls = s2 := by rw [a2]; omega
      have m82 : a1 % 8 = 0 := by omega
      refine hK _ _ _ _ ⟨by rw [x4]; exact js, m82, ⟨by omega, by omega, by omega, pos.2.2.2.ch (gN_chn g1)⟩, S2, L2, b2', by omega, by omega, by omega, Or.inl ⟨rfl, e9.symm, t, g3⟩⟩ (by omega)
    · rw [if_neg x1]
      refine ⟨fun _ => ?_, fun z => absurd rfl z⟩
      unfold wp_Store_replayBud_b141
      refine hK _ _ _ _ ⟨js, by omega, ⟨by omega, by omega, by omega, pos.2.2.2⟩, S', L', bdu, by omega, by omega, by omega, Or.inr (Or.inl ⟨t, d ++ [n], u', a1, s2, S2, _, ?_, x2, g3⟩)⟩ (by omega)
      rw [ea, List.append_assoc, List.singleton_append, ← eu]
      exact g1
  -- nodes without an end
  have tail : ∀ v, y5 = b → S' = S1 → max (gI τ 228 o) ls = s1 → gT tv (db m) lim v y6 y7 → wp_Store_replayBud_L16 cf tv o m a0 ls Q K y5 y6 y7 τ := by
    intro v e5 eS eg g1
    rw [eS] at bd
    have fin : ∀ {υ : St}, Fr (mRd2 o o) τ υ → RK υ → Q υ := by
      intro υ f k
      have ea : gI υ 228 o = gI τ 228 o := f.i _ _ (ny _ (Or.inl rfl))
      have eser : gI υ 202 o = gI τ 202 o := f.i _ _ (ny _ (Or.inr rfl))
      have bdu := bd.q (fq f) k
      rw [e5] at bdu
      exact hQ υ L' bdu (by rw [ea]; exact eg) (by omega) (by omega) (by omega)
    unfold wp_Store_replayBud_L16
    match v, g1 with
    | [], g1 =>
      have g1' : noN tv (db m) y6 lim ∨ (rI4 (db m) (y6 + 4) ≠ 0 ∧ srl (db m) y6 ≤ y7) := g1
      refine sp_look hc Dv (Wv.w cf dk db) ⟨by omega, hm.2⟩ (by omega) (by omega) (by omega) (lim := lim) lme (fun υ q f _ k => ⟨fun _ => ?_, fun z => absurd z (by omega)⟩) (fun υ q1 q2 f => ?_) (fun υ n q1 q2 q3 q4 q5 q6 q7 f _ k => ⟨fun _ => ?_, fun z => absurd z (by omega)⟩)
      · unfold wp_Store_replayBud_b55
        exact ⟨fun _ => fin f k, fun z => absurd (by omega) z⟩
      · exfalso
        rcases g1' with g | g
        · rcases g with g | g
          · omega
          · exact g.1 q2
        · exact g.1 q2
      · have es : rL8 (gA υ 512 o) (0 + 8) = srl (db m) y6 := rL8_sh (fun i i0 i1 => by rw [show (0 : Int) + 8 + i = 8 + i by omega, q5 _ (by omega) (by omega)]; congr 1; omega)
        unfold wp_Store_replayBud_b55
        refine ⟨fun z => absurd z (by omega), fun _ => sp_rser q6 (by omega) (by omega) (fun _ _ _ => ?_)⟩
        rw [es]
        refine ⟨fun z => ?_, fun z => fin f k⟩
        exfalso
        rcases g1' with g | g
        · rcases g with g | g
          · omega
          · rw [q1] at g
            rcases g.2 with g | g | g | g
            · omega
            · omega
            · omega
            · exact g q4
        · omega
    | n :: v', ⟨h1, h2, h3, h4, h5⟩ =>
      have nn := h1.n
      have n8 := h1.1.1.2
      refine sp_lookN hc Dv (Wv.w cf dk db) ⟨by omega, hm.2⟩ (by omega) (by omega) (by rw [hlim]; omega) h1.v (fun υ b1 b2 b3 f1 _ k1 => ⟨fun _ => ?_, fun z => absurd z (by omega)⟩)
      have es : rL8 (gA υ 512 o) (0 + 8) = srl (db m) y6 := rL8_sh (fun i i0 i1 => by rw [show (0 : Int) + 8 + i = 8 + i by omega, b1 _ (by omega) (by omega)]; congr 1; omega)
      have ef : gA υ 512 o (0 + 17) = db m (y6 + 17) := b1 17 (by omega) (by omega)
      have ea : gI υ 228 o = gI τ 228 o := f1.i _ _ (ny _ (Or.inl rfl))
      have eser : gI υ 202 o = gI τ 202 o := f1.i _ _ (ny _ (Or.inr rfl))
      have bdu := bd.q (fq f1) k1
      unfold wp_Store_replayBud_b55
      refine ⟨fun z => absurd z (by omega), fun _ => sp_rser b2 (by omega) (by omega) (fun _ js _ => ?_)⟩
      rw [es] at js ⊢
      refine ⟨fun _ => sp_rser b2 (by omega) (by omega) (fun _ _ _ y6' e6 => ?_), fun z => absurd h3 z⟩
      rw [es]
      rw [w32_id (by unfold rI; omega)] at e6
      rw [e6]
      refine sp_rlast b2 (by omega) (by omega) (fun _ _ => ?_)
      rw [ef, if_neg h4]
      refine ⟨fun _ => ?_, fun z => absurd rfl z⟩
      unfold wp_Store_replayBud_b141
      exact hK _ _ _ _ ⟨js, by omega, ⟨by omega, by omega, by omega, pos.2.2.2⟩, S1, L', bdu, by omega, by omega, by omega, Or.inr (Or.inr ⟨e5, rfl, by rw [ea]; exact eg, v', h5⟩)⟩ (by omega)
  rcases cs with ⟨e5, eg, t, g⟩ | ⟨t, d, u, a1, s2, S2, Sx, g1, g2, g3⟩ | ⟨e5, eS, eg, v, g⟩
  · match t, g with
    | [], ⟨q1, q2, q3⟩ => exact tail v (e5.trans q1) q3 (eg.symm.trans q2) (by rw [q1, q2]; exact hT)
    | [] :: t', ⟨q1, q2⟩ =>
      have l2 := sM_le q2
      unfold wp_Store_replayBud_L16
      refine sp_look0 hc Dv (Wv.w cf dk db) ⟨by omega, hm.2⟩ (by omega) (by omega) m8 (by rw [hlim]; omega) q1 (fun υ f1 _ k1 => ⟨fun z => absurd rfl z, fun _ => ⟨fun z => absurd e5 z, fun _ => ?_⟩⟩)
      have q11 := q1.1
      unfold wp_Store_behindPage
      rw [jrm_nn (by omega) (by omega) (by omega), w32_id (x := y6 - y6 % 128) (by unfold rI; omega), w32_id (by unfold rI; omega)]
      intro _ k2
      have ea : gI υ 228 o = gI τ 228 o := f1.i _ _ (ny _ (Or.inl rfl))
      have eser : gI υ 202 o = gI τ 202 o := f1.i _ _ (ny _ (Or.inr rfl))
      have bdu := (bd.q (fq f1) k1).le (b := y6 - y6 % 128 + 128) (by omega)
      have eu : (y6 + 127) / 128 * 128 = y6 - y6 % 128 + 128 := by omega
      rw [eu] at q2
      exact hK _ _ _ _ ⟨j7, by omega, ⟨by omega, by omega, by omega, by rw [← eu]; have z := pos.2.2.2; rw [e5] at z; exact z.p q1⟩, S', L', bdu, by omega, by omega, by omega, Or.inl ⟨rfl, by rw [ea]; exact eg, t', q2⟩⟩ (by omega)
    | (n :: u) :: t', ⟨a1, s2, S2, q1, q2⟩ =>
      refine mid t' [] (n :: u) a1 s2 S2 S' ?_ q1 q2
      rw [e5, ← eg]; exact q1
  · exact mid t d u a1 s2 S2 Sx g1 g2 g3
  · exact tail v e5 eS eg g
