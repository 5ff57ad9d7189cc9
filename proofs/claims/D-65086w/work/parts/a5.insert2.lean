theorem KE.tc {σ τ : St} {o z : Int} (f : Fr (mTc o z) σ τ) (x : Int) : KE σ τ x := KE.fr f (fun f a b q => by unfold mTc at q; omega)
theorem OE.tc {σ τ : St} {o z : Int} (f : Fr (mTc o z) σ τ) {x : Int} (h : x ≠ z) : OE σ τ x := OE.fr f (fun f a b q => by
  unfold mTc at q
  rcases q with q | q
  · exact h q.2
  · omega)
theorem KE.ku {σ τ : St} {K : List Int} (f : Fr (mKu K) σ τ) {x : Int} (h : x ∉ K) : KE σ τ x := KE.fr f (fun f a b q => h q.2)
theorem OE.ku {σ τ : St} {K : List Int} (f : Fr (mKu K) σ τ) (x : Int) : OE σ τ x := OE.fr f (fun f a b q => by unfold mKu at q; omega)
theorem nfr_le {σ : St} (X K Y : List Int) : nfr σ K ≤ nfr σ (X ++ (K ++ Y)) := by rw [nfr_app, nfr_app]; omega
theorem sp_insert {tv : Nat → Int} {cf : Cf} {o h lw : Int} (ho : o = 0 ∨ o = 1) (hh : rJ h) (hlw : rJ lw) : ∀ (l d : Nat) (σ : St) (z mn lo hi : Int) (A B : List (Int × Int × Int × Int × Int × Int)) (Q : Int → St → Prop), l < d → RK σ → WT σ l mn 8 z lo hi → kap h lw < hi → ls σ l z = A ++ B → (∀ a, a ∈ A → kyE a < kap h lw) → (∀ b, b ∈ B → kap h lw < kyE b) → NC σ l z → PO σ o → (∀ x, x ∈ kl σ l z → ¬ FP σ o x) → gI σ 386 o + l + 1 ≤ 320 → 0 ≤ gI σ 390 o → gI σ 390 o + nfr σ (kl σ l z) ≤ 640 →
    (∀ r τ e, (e.1 = h ∧ e.2.1 = lw ∧ e.2.2.2.2.2 = -1) → IPo σ τ o l mn z lo hi (kap h lw) A B e r → Q r τ) → wp_Index_insert cf tv d o z h lw Q σ := by
  intro l
  induction l with
  | zero =>
    intro d σ z mn lo hi A B Q hd hrk hT hhi hL hA hB hN hp hK h320 ho0 hol hQ
    obtain ⟨d', rfl⟩ : ∃ d', d = d' + 1 := ⟨d - 1, by omega⟩
    obtain ⟨c1, c2, c3, c4, c5⟩ := hT.cnt
    have hzp := hK z (kl_self σ 0 z)
    have eK : kl σ 0 z = [z] := rfl
    have hnz : gI σ 584 z = 0 → gI σ 390 o < 640 := by
      intro q
      rw [eK, nfr_cons, if_pos q] at hol
      have : nfr σ [] = 0 := rfl
      omega
    show wp_Index_insert_R cf tv o z h lw (wp_Index_insert cf tv d') Q σ
    unfold wp_Index_insert_R
    refine sp_touch c1.1 (fun q => ⟨ho0, hnz q⟩) (fun σ36 t1 t2 t3 t4 t5 t6 t7 k36 => ⟨c1.1, ?_⟩)
    have C1 : CH σ σ36 o [z] [z] := CH.touch hp hzp ho0 t1 t4 t5 t6 t7
    have ke := KE.tc t7 z
    have T36 : WT σ36 0 mn 8 z lo hi := hT.fr (fun x hx => KE.tc t7 x)
    refine sp_slot k36 hlw (by rw [ke.2.1]; omega) (fun r s1 s2 s3 _ _ => ⟨fun q => absurd (ke.1.trans c2) q, fun _ => ?_⟩)
    rw [ke.2.1] at s1 s2
    have kk : ∀ k, ky σ36 z k = ky σ z k := ke.k
    have ne : ∀ k, 0 ≤ k → k < gI σ 577 z → ky σ z k ≠ kap h lw := by
      intro k k0 k1 q
      have m : en σ z k ∈ ls σ 0 z := mem_cat (f := fun k => [en σ z k]) k0 (by omega) (List.mem_singleton.mpr rfl)
      rw [hL] at m
      rcases List.mem_append.mp m with w | w
      · have := hA _ w
        have e : kyE (en σ z k) = kap h lw := q
        omega
      · have := hB _ w
        have e : kyE (en σ z k) = kap h lw := q
        omega
    rw [w32_id (by unfold rI; omega)]
    refine sp_part c1.1 (c := gI σ 577 z) ke.2.1 (by omega) (by omega) (fun σ44 p1 p2 p3 p4 p5 k44 => ?_)
    refine sp_kset (by omega) (fun σ46 g1 g2 k46 => ?_)
    have c46 : gI σ46 577 z = gI σ 577 z + 1 := by rw [g2.i _ _ (fun q => by unfold mKa at q; omega)]; exact p1
    generalize hp' : r + 1 = p at *
    have hpr : r = p - 1 := by omega
    have e46 : ∀ i, 0 ≤ i → i < gI σ 577 z + 1 → en σ46 z i = insq (en σ z) p (en σ46 z p) i := by
      intro i i0 i1
      rw [insq_eq]
      by_cases q : i < p
      · rw [if_pos q, g1, if_neg (fun w => by omega), p2 i i0 q, ke.2.2]
      · rw [if_neg q]
        by_cases q2 : i = p
        · rw [if_pos q2, q2]
        · rw [if_neg q2, g1, if_neg (fun w => q2 w.2), p3 i (by omega) (by omega), ke.2.2]
    have ee : (en σ46 z p).1 = h ∧ (en σ46 z p).2.1 = lw ∧ (en σ46 z p).2.2.2.2.2 = -1 := by
      rw [g1, if_pos ⟨rfl, rfl⟩]; exact ⟨rfl, rfl, rfl⟩
    have ek : kyE (en σ46 z p) = kap h lw := by unfold kyE; rw [ee.1, ee.2.1]
    obtain ⟨w1, w2, w3, w4⟩ := WT_it.mp hT
    have W46 : WQ σ46 0 (en σ46 z) (gI σ 577 z + 1) (min lo (kap h lw)) hi := by
      have := w4.ins0 (p := p) (e := en σ46 z p) (by omega) ee.2.2 (fun k k0 k1 => ?_) (fun k1 => ?_) (by rw [ek]; exact hhi)
      · rw [ek] at this
        intro k k0 k1
        have a := (this.ext (s' := en σ46 z) (fun k a b => e46 k a b)) k k0 k1
        exact a
      · rw [ek]
        have a := s3 (by omega)
        rw [kk] at a
        have b := ne k k0 (by omega)
        have b2 := ne r (by omega) (by omega)
        by_cases q : k = r
        · rw [q]; show ky σ z r < _; omega
        · have := (hT.ord (i := k) (j := r) k0 (by omega) (by omega)).2
          show ky σ z k < _; omega
      · rw [ek]
        have a := s2 p (by omega) (by omega)
        rw [kk] at a; exact a
    have f36 : Fr (mKu [z]) σ36 σ46 := by
      refine (p5.mono (fun f o' q => ?_)).tr (g2.mono (fun f o' q => ?_))
      · unfold mKa at q; exact ⟨by omega, List.mem_singleton.mpr (by omega)⟩
      · unfold mKa at q; exact ⟨by omega, List.mem_singleton.mpr q.2⟩
    have nk : ∀ f x, (f < 577 ∨ 583 < f) → ¬ mKu [z] f x := fun f x a q => by unfold mKu at q; omega
    have C2 : CH σ36 σ46 o [z] [z] := CH.updL C1.2.2.1.1 C1.2.2.1.2 C1.2.2.2.2.2.1.1 (fun x hx => by rw [List.mem_singleton.mp hx]; exact t1) f36
    have lv : gI σ46 576 z = 0 := by rw [f36.i _ _ (nk _ _ (by decide)), ke.1]; exact c2
    have T46 : WT σ46 0 mn 9 z (min lo (kap h lw)) hi := WT_it.mpr ⟨w1, lv, by rw [c46]; split <;> omega, by rw [c46]; exact W46⟩
    have key : ls σ46 0 z = A ++ en σ46 z p :: B := by
      have l1 : ls σ46 0 z = cat (fun i => [en σ z i]) p.toNat ++ ([en σ46 z p] ++ cat (fun i => [en σ z (p + i)]) ((gI σ 577 z).toNat - p.toNat)) := by
        show cat _ _ = _
        rw [c46, show (gI σ 577 z + 1).toNat = p.toNat + (1 + ((gI σ 577 z).toNat - p.toNat)) by omega]
        rw [← cat_ins (fun e => [e]) (en σ z) (en σ46 z p) _ (by omega)]
        exact cat_ext _ (fun i a b => by rw [← e46 i a (by omega)])
      have l0 : ls σ 0 z = cat (fun i => [en σ z i]) p.toNat ++ ([] ++ cat (fun i => [en σ z (p + i)]) ((gI σ 577 z).toNat - p.toNat)) := by
        show cat _ _ = _
        rw [show (gI σ 577 z).toNat = p.toNat + ((gI σ 577 z).toNat - p.toNat) by omega, cat_add]
        rw [show (p.toNat : Int) = p by omega, show p.toNat + ((gI σ 577 z).toNat - p.toNat) - p.toNat = (gI σ 577 z).toNat - p.toNat by omega]
        rfl
      have hX : ∀ x, x ∈ cat (fun i => [en σ z i]) p.toNat → kyE x < kap h lw := by
        intro x hx
        obtain ⟨i, i1, i2, i3⟩ := hT.left0 (k := p) (by omega) hx
        have a := s3 (by omega)
        rw [kk] at a
        have b := ne i i1.1 (by omega)
        rw [i3]
        by_cases q : i = r
        · rw [q] at b ⊢; show ky σ z r < _; omega
        · have := (hT.ord (i := i) (j := r) i1.1 (by omega) (by omega)).2
          show ky σ z i < _; omega
      have hY : ∀ y, y ∈ cat (fun i => [en σ z (p + i)]) ((gI σ 577 z).toNat - p.toNat) → kap h lw < kyE y := by
        intro y hy
        obtain ⟨i, i1, hx⟩ := cat_mem hy
        rw [List.mem_singleton.mp hx]
        have a := s2 (p + i) (by omega) (by omega)
        rw [kk] at a; exact a
      obtain ⟨A', B', m1, m2, m3⟩ := spl_mid (κ := kap h lw) (hL.symm.trans l0) hA hB hX hY
      have : A' = [] ∧ B' = [] := by
        cases A' with
        | nil => cases B' with
          | nil => exact ⟨rfl, rfl⟩
          | cons b B' => cases m1
        | cons a A' => cases m1
      rw [this.1, List.append_nil] at m2
      rw [this.2, List.nil_append] at m3
      rw [l1, m2, m3]; rfl
    refine sp_b124 (σ := σ) (e := en σ46 z p) (lo := lo) (κ := kap h lw) ho T46 trivial key (C1.tr C2) ?_ ?_ h320 (fun c => ?_) (fun r' τ ip => hQ r' τ _ ee ip)
    · rw [f36.i _ _ (nk _ _ (by decide))]; exact t1
    · rw [f36.i _ _ (nk _ _ (by decide)), t7.i _ _ (fun q => by unfold mTc at q; omega)]; omega
    · show kyE (en σ46 z 0) = _
      rw [e46 0 (by omega) (by omega), insq_eq]
      by_cases q : kap h lw < ky σ z 0
      · rw [if_pos q]
        have : p = 0 := by
          apply Classical.byContradiction
          intro np
          have a := s3 (by omega)
          rw [kk] at a
          by_cases r0 : r = 0
          · rw [r0] at a; omega
          · have := (hT.ord (i := 0) (j := r) (by omega) (by omega) (by omega)).2
            omega
        rw [if_neg (by omega), if_pos this.symm]; exact ek
      · rw [if_neg q]
        have : 0 < p := by
          apply Classical.byContradiction
          intro np
          have a := s2 0 (by omega) (by omega)
          rw [kk] at a; omega
        rw [if_pos this]; rfl
  | succ l ih =>
    intro d σ z mn lo hi A B Q hd hrk hT hhi hL hA hB hN hp hK h320 ho0 hol hQ
    obtain ⟨d', rfl⟩ : ∃ d', d = d' + 1 := ⟨d - 1, by omega⟩
    obtain ⟨c1, c2, c3, c4, c5⟩ := hT.cnt
    have c6 := hT.2.2.1.2.1
    have hzp := hK z (kl_self σ (l + 1) z)
    obtain ⟨w1, w2, w3, w4⟩ := WT_it.mp hT
    have hnz : gI σ 584 z = 0 → gI σ 390 o < 640 := by
      intro q
      rw [kl_it, nfr_cons, if_pos q] at hol
      omega
    show wp_Index_insert_R cf tv o z h lw (wp_Index_insert cf tv d') Q σ
    unfold wp_Index_insert_R
    refine sp_touch c1.1 (fun q => ⟨ho0, hnz q⟩) (fun σ36 t1 t2 t3 t4 t5 t6 t7 k36 => ⟨c1.1, ?_⟩)
    have C1 : CH σ σ36 o [z] [z] := CH.touch hp hzp ho0 t1 t4 t5 t6 t7
    have ke := KE.tc t7 z
    have kk := ke.k
    refine sp_slot k36 hlw (by rw [ke.2.1]; omega) (fun r s1 s2 s3 _ _ => ⟨fun _ c ec => ?_, fun q => by rw [ke.1, c2] at q; omega⟩)
    rw [ke.2.1] at s1 s2
    have hc : 0 ≤ c ∧ c < gI σ 577 z := by omega
    have g := hT.2.2.2 c hc.1 hc.2
    have gc := g.2.2.cnt
    have hκ : kap h lw < nx σ z c hi := by
      unfold nx
      by_cases q : c + 1 < gI σ 577 z
      · rw [if_pos q]
        have a := s2 (c + 1) (by omega) q
        rw [kk] at a; exact a
      · rw [if_neg q]; exact hhi
    have hr0 : r < 0 → c = 0 ∧ kap h lw < ky σ z 0 := by
      intro q
      have a := s2 0 (by omega) (by omega)
      rw [kk] at a
      exact ⟨by omega, a⟩
    have hr1 : 0 ≤ r → c = r ∧ ky σ z c ≤ kap h lw := by
      intro q
      have a := s3 q
      rw [kk] at a
      have : c = r := by omega
      rw [this]; exact ⟨rfl, a⟩
    have topc : ∀ i, 0 ≤ i → i < gI σ 577 z → z ∉ kl σ l (be σ z i) := fun i a b => hT.top a b
    have main : ∀ σ42, RK σ42 → (∀ i, 0 ≤ i → i < gI σ 577 z → i ≠ c → en σ42 z i = en σ z i) → be σ42 z c = be σ z c → (r < 0 → kyE (en σ42 z c) = kap h lw) → (0 ≤ r → kyE (en σ42 z c) = ky σ z c) → Fr (mKu [z]) σ36 σ42 → gI σ42 577 z = gI σ 577 z → wp_Index_insert_b71 cf tv o z h lw (wp_Index_insert cf tv d') Q (wp_Index_insert_b124 cf tv o z h lw (wp_Index_insert cf tv d') Q) c σ42 := by
      intro σ42 k42 m1 m2 m3 m4 f42 m5
      have nk : ∀ f x, (f < 577 ∨ 583 < f) → ¬ mKu [z] f x := fun f x a q => by unfold mKu at q; omega
      have C2 : CH σ36 σ42 o [z] [z] := CH.updL C1.2.2.1.1 C1.2.2.1.2 C1.2.2.2.2.2.1.1 (fun x hx => by rw [List.mem_singleton.mp hx]; exact t1) f42
      have ko : ∀ x, x ≠ z → KE σ σ42 x ∧ OE σ σ42 x := fun x hx => ⟨(KE.tc t7 x).tr (KE.ku f42 (fun w => hx (List.mem_singleton.mp w))), (OE.tc t7 hx).tr (OE.ku f42 x)⟩
      have f42z : gI σ42 584 z ≠ 0 := by rw [f42.i _ _ (nk _ _ (by decide))]; exact t1
      have fr42 : gI σ42 386 o = gI σ 386 o := by rw [f42.i _ _ (nk _ _ (by decide)), t7.i _ _ (fun q => by unfold mTc at q; omega)]
      have lv42 : gI σ42 576 z = ((l + 1 : Nat) : Int) := by rw [f42.i _ _ (nk _ _ (by decide)), ke.1]; exact c2
      generalize hX : cat (fun k => itK σ (l + 1) (en σ z k)) c.toNat = X
      generalize hY : cat (fun i => itK σ (l + 1) (en σ z (c + 1 + i))) ((gI σ 577 z).toNat - c.toNat - 1) = Y
      generalize hy : be σ z c = y at *
      have eK : kl σ (l + 1) z = z :: (X ++ (kl σ l y ++ Y)) := by
        rw [kl_it, cat_at _ hc.1 (by omega : c < ((gI σ 577 z).toNat : Int)), hX, hY, ← hy]; rfl
      have memX : ∀ x, x ∈ X → x ≠ z ∧ x ∉ kl σ l y := by
        intro x hx
        rw [← hX] at hx
        obtain ⟨i, hi', hx'⟩ := cat_mem hx
        refine ⟨fun e => topc i hi'.1 (by omega) (e ▸ hx'), ?_⟩
        rw [← hy]
        exact hT.dis hi'.1 (by omega) hc.1 hc.2 (by omega) hx'
      have memY : ∀ x, x ∈ Y → x ≠ z ∧ x ∉ kl σ l y := by
        intro x hx
        rw [← hY] at hx
        obtain ⟨i, hi', hx'⟩ := cat_mem hx
        refine ⟨fun e => topc (c + 1 + i) (by omega) (by omega) (e ▸ hx'), ?_⟩
        rw [← hy]
        exact hT.dis (i := c + 1 + i) (by omega) (by omega) hc.1 hc.2 (by omega) hx'
      have topy : z ∉ kl σ l y := by rw [← hy]; exact topc c hc.1 hc.2
      have inK : ∀ x, x ∈ X ∨ x ∈ kl σ l y ∨ x ∈ Y → x ∈ kl σ (l + 1) z := by
        intro x hx
        rw [eK]
        refine List.mem_cons_of_mem _ (List.mem_append.mpr ?_)
        rcases hx with w | w | w
        · exact Or.inl w
        · exact Or.inr (List.mem_append.mpr (Or.inl w))
        · exact Or.inr (List.mem_append.mpr (Or.inr w))
      have nez : ∀ x, x ∈ X ++ (kl σ l y ++ Y) → x ≠ z := by
        intro x hx
        rcases List.mem_append.mp hx with w | w
        · exact (memX x w).1
        · rcases List.mem_append.mp w with w | w
          · exact fun e => topy (e ▸ w)
          · exact (memY x w).1
      have K42 : CH σ σ42 o (kl σ (l + 1) z) (z :: (X ++ (kl σ l y ++ Y))) := by
        have := (C1.tr C2).ctx [] (X ++ (kl σ l y ++ Y)) (fun x hx => (by cases hx)) (fun x hx => ⟨fun w => nez x hx (List.mem_singleton.mp w), hK x (by rw [eK]; exact List.mem_cons_of_mem _ hx)⟩)
        rw [eK]; exact this
      have T42 : WT σ42 l 4 8 y (ky σ z c) (nx σ z c hi) := by
        have := g.2.2
        exact this.fr (fun x hx => (ko x (fun e => topy (e ▸ hx))).1)
      obtain ⟨l42, k42'⟩ := tr_fr (σ := σ) (τ := σ42) l y (fun x hx => (ko x (fun e => topy (e ▸ hx))).1)
      have N42 : NC σ42 l y := by
        have a := (hN c hc.1 hc.2).2
        rw [hy] at a
        exact a.fr (fun x hx => ko x (fun e => topy (e ▸ hx)))
      -- the row parted
      have hLs : ls σ (l + 1) z = cat (fun k => ls σ l (be σ z k)) c.toNat ++ (ls σ l y ++ cat (fun i => ls σ l (be σ z (c + 1 + i))) ((gI σ 577 z).toNat - c.toNat - 1)) := by rw [lsS_at hc.1 hc.2, hy]
      have hXl : ∀ e, e ∈ cat (fun k => ls σ l (be σ z k)) c.toNat → kyE e < kap h lw := by
        intro e he
        have a := hT.left hc.1 hc.2 he
        by_cases q : 0 ≤ r
        · have := (hr1 q).2; omega
        · have := (hr0 (by omega)).1
          rw [this] at he; cases he
      have hYl : ∀ e, e ∈ cat (fun i => ls σ l (be σ z (c + 1 + i))) ((gI σ 577 z).toNat - c.toNat - 1) → kap h lw < kyE e := by
        intro e he
        have a := hT.right hc.1 he
        omega
      obtain ⟨Ac, Bc, b1, b2, b3⟩ := spl_mid (κ := kap h lw) (hL.symm.trans hLs) hA hB hXl hYl
      unfold wp_Index_insert_b71
      have ebe : gA σ42 583 z c = y := m2
      rw [ebe]
      refine ⟨c1.1, by omega, ?_⟩
      refine ih d' σ42 y 4 (ky σ z c) (nx σ z c hi) Ac Bc _ (by omega) k42 T42 hκ (l42.trans b1) (fun a ha => hA a (by rw [b2]; exact List.mem_append.mpr (Or.inr ha))) (fun b hb => hB b (by rw [b3]; exact List.mem_append.mpr (Or.inl hb))) N42 C2.2.2.1.1 (fun x hx => ?_) (by rw [fr42]; omega) C2.2.2.2.2.2.1.1 ?_ (fun r' υ e he ip rr kυ => ?_)
      · rw [k42'] at hx
        exact K42.2.2.1.2 x (List.mem_cons_of_mem _ (List.mem_append.mpr (Or.inr (List.mem_append.mpr (Or.inl hx)))))
      · have a := K42.2.2.2.2.2.1.2
        rw [k42']
        have b := nfr_le (σ := σ42) (z :: X) (kl σ l y) Y
        have e1 : z :: X ++ (kl σ l y ++ Y) = z :: (X ++ (kl σ l y ++ Y)) := rfl
        rw [e1] at b
        omega
      obtain ⟨u1, u2, u3, u4⟩ := ip
      rw [k42'] at u3
      have zFP : ¬ FP σ42 o z := K42.2.2.1.2 z List.mem_cons_self
      have yk : ky σ42 y 0 = ky σ z c := by
        have a := g.2.1
        rw [(ko y (fun e => topy (e ▸ kl_self σ l y))).1.k, ← hy]
        rw [hy]; exact a
      have cy : 1 ≤ gI σ42 577 y := by have := T42.cnt; omega
      have uk : ky υ y 0 = kyE (en σ42 z c) := by
        rw [u4 cy, yk]
        by_cases q : 0 ≤ r
        · rw [if_neg (by have := (hr1 q).2; omega), m4 q]
        · have a := hr0 (by omega)
          rw [m3 (by omega), if_pos (by rw [a.1]; exact a.2)]
      have mnk : min (ky σ z c) (kap h lw) = kyE (en σ42 z c) := by
        by_cases q : 0 ≤ r
        · have := (hr1 q).2; rw [m4 q]; omega
        · have a := hr0 (by omega)
          have : ky σ z c = ky σ z 0 := by rw [a.1]
          rw [m3 (by omega)]; omega
      have hkc : (c = 0 ∧ kyE (en σ42 z c) ≤ kyE (en σ z c)) ∨ kyE (en σ42 z c) = kyE (en σ z c) := by
        by_cases q : 0 ≤ r
        · exact Or.inr (m4 q)
        · have a := hr0 (by omega)
          have : kyE (en σ z c) = ky σ z 0 := by rw [a.1]; rfl
          exact Or.inl ⟨a.1, by rw [m3 (by omega)]; omega⟩
      have hlo : min lo (kap h lw) ≤ lo ∧ min lo (kap h lw) ≤ kyE (en σ42 z c) := by
        have := g.1.1
        refine ⟨by omega, ?_⟩
        rw [← mnk]; omega
      have hk0 : ∀ v : Int, (c ≠ 0 → v = ky σ z 0) → (c = 0 → v = kyE (en σ42 z c)) → v = if kap h lw < ky σ z 0 then kap h lw else ky σ z 0 := by
        intro v v1 v2
        by_cases q : 0 ≤ r
        · have a := hr1 q
          by_cases q2 : c = 0
          · rw [v2 q2, m4 q, q2, if_neg (by rw [q2] at a; omega)]
          · have := (hT.ord (i := 0) (j := c) (by omega) (by omega) hc.2).2
            rw [v1 q2, if_neg (by omega)]
        · have a := hr0 (by omega)
          rw [v2 a.1, m3 (by omega), if_pos a.2]
      refine ⟨fun q => ?_, fun q => ?_⟩
      · rcases u3 with ⟨_, v1, v2, v3, v4⟩ | ⟨v0, _⟩
        rotate_left
        · omega
        have zz := v4.ke topy zFP
        have Kυ : CH σ υ o (kl σ (l + 1) z) (z :: (X ++ (kl υ l y ++ Y))) := by
          refine K42.tr (v4.ctx (z :: X) Y (fun x hx => ?_) (fun x hx => ?_))
          · rcases List.mem_cons.mp hx with w | w
            · rw [w]; exact ⟨topy, zFP⟩
            · exact ⟨(memX x w).2, K42.2.2.1.2 x (List.mem_cons_of_mem _ (List.mem_append.mpr (Or.inl w)))⟩
          · exact ⟨(memY x hx).2, K42.2.2.1.2 x (List.mem_cons_of_mem _ (List.mem_append.mpr (Or.inr (List.mem_append.mpr (Or.inr hx)))))⟩
        have koυ : ∀ i, 0 ≤ i → i < gI σ 577 z → i ≠ c → ∀ x, x ∈ itK σ (l + 1) (en σ z i) → KE σ υ x ∧ OE σ υ x := by
          intro i i0 i1 ne x hx
          have nz : x ≠ z := fun e => topc i i0 i1 (e ▸ hx)
          have ny : x ∉ kl σ l y := by rw [← hy]; exact hT.dis i0 i1 hc.1 hc.2 ne hx
          have nf : ¬ FP σ42 o x := K42.2.2.1.2 x (by rw [← eK]; exact kl_below i0 i1 hx)
          have a := v4.ke ny nf
          exact ⟨(ko x nz).1.tr a.1, (ko x nz).2.tr a.2⟩
        have en1 : ∀ i, 0 ≤ i → i < gI σ 577 z → i ≠ c → en υ z i = en σ z i := fun i a b ne => by rw [zz.1.2.2]; exact m1 i a b ne
        have enc : en υ z c = en σ42 z c := zz.1.2.2 c
        have bec : (en υ z c).2.2.2.2.2 = y := by rw [enc]; exact m2
        have W : WQ υ (l + 1) (en υ z) (gI σ 577 z) (min lo (kap h lw)) hi := by
          refine w4.par1 hc en1 (by rw [enc]; exact hkc) (by rw [enc]; exact hlo) (fun i a b ne x hx => (koυ i a b ne x hx).1) ⟨?_, ?_⟩
          · rw [bec, enc]; exact uk
          · rw [bec, enc, ← mnk]; exact v1
        have cυ : gI υ 577 z = gI σ 577 z := zz.1.2.1.trans m5
        refine sp_b124 (σ := σ) (e := e) (lo := lo) (κ := kap h lw) (mn := mn) (hi := hi) (A := A) (B := B) ho (WT_it.mpr ⟨w1, by rw [zz.1.1]; exact lv42, by rw [cυ]; split <;> omega, by rw [cυ]; exact W⟩) (NC.of (by rw [zz.2.1]; exact f42z) (fun k k0 k1 => ?_)) ?_ ?_ (by rw [zz.2.1]; exact f42z) (by rw [fr42] at u2; omega) h320 (fun _ => ?_) (fun r2 τ ip2 => hQ r2 τ e he ip2)
        · rw [cυ] at k1
          by_cases e1 : k = c
          · rw [e1]; show NC υ l (en υ z c).2.2.2.2.2
            rw [bec]; exact v2
          · rw [en1 k k0 k1 e1]
            exact (hN.it k k0 k1).fr (koυ k k0 k1 e1)
        · rw [ls_it, cυ, cat_rep1 (f := itL σ (l + 1)) (s := en σ z) hc.1 (by omega) (fun i a b ne => by rw [en1 i a (by omega) ne]; exact (it_fr (fun x hx => (koυ i a (by omega) ne x hx).1)).1)]
          have e1 : itL υ (l + 1) (en υ z c) = Ac ++ e :: Bc := by
            show ls υ l (en υ z c).2.2.2.2.2 = _
            rw [bec]; exact v3
          rw [e1, b2, b3]
          simp only [List.append_assoc, List.cons_append]; rfl
        · have e2 : kl υ (l + 1) z = z :: (X ++ (kl υ l y ++ Y)) := by
            rw [kl_it, cυ, cat_rep1 (f := itK σ (l + 1)) (s := en σ z) hc.1 (by omega) (fun i a b ne => by rw [en1 i a (by omega) ne]; exact (it_fr (fun x hx => (koυ i a (by omega) ne x hx).1)).2.1), hX, hY]
            have e1 : itK υ (l + 1) (en υ z c) = kl υ l y := by
              show kl υ l (en υ z c).2.2.2.2.2 = _
              rw [bec]
            rw [e1]
          rw [e2]; exact Kυ
        · refine hk0 _ (fun ne => ?_) (fun e1 => ?_)
          · show kyE (en υ z 0) = kyE (en σ z 0)
            rw [en1 0 (by omega) (by omega) (fun e => ne e.symm)]
          · rw [← enc, e1]; rfl
      · rcases u3 with ⟨v0, _⟩ | ⟨v0, x1, v1, x2, v2, x3, v3, v4⟩
        · omega
        have zz := v4.ke topy zFP
        have koυ : ∀ i, 0 ≤ i → i < gI σ 577 z → i ≠ c → ∀ x, x ∈ itK σ (l + 1) (en σ z i) → x ≠ z ∧ KE σ υ x ∧ OE σ υ x := by
          intro i i0 i1 ne x hx
          have nz : x ≠ z := fun e => topc i i0 i1 (e ▸ hx)
          have ny : x ∉ kl σ l y := by rw [← hy]; exact hT.dis i0 i1 hc.1 hc.2 ne hx
          have nf : ¬ FP σ42 o x := K42.2.2.1.2 x (by rw [← eK]; exact kl_below i0 i1 hx)
          have a := v4.ke ny nf
          exact ⟨nz, (ko x nz).1.tr a.1, (ko x nz).2.tr a.2⟩
        have en1 : ∀ i, 0 ≤ i → i < gI σ 577 z → i ≠ c → en υ z i = en σ z i := fun i a b ne => by rw [zz.1.2.2]; exact m1 i a b ne
        have enc : en υ z c = en σ42 z c := zz.1.2.2 c
        have bec : (en υ z c).2.2.2.2.2 = y := by rw [enc]; exact m2
        have cυ : gI υ 577 z = gI σ 577 z := zz.1.2.1.trans m5
        have lvr := x2.cnt.2.1
        have lvz : gI υ 576 z = ((l + 1 : Nat) : Int) := by rw [zz.1.1]; exact lv42
        have rz : r' ≠ z := fun e => by rw [e] at lvr; omega
        have yz : y ≠ z := fun e => topy (e ▸ kl_self σ l y)
        have zKR : z ∉ kl υ l y ++ kl υ l r' := fun w => (v4.1 z w).elim topy zFP
        have zFυ : ¬ FP υ o z := fun w => (v4.2.1 z w).elim zFP topy
        have fzυ : gI υ 584 z ≠ 0 := by rw [zz.2.1]; exact f42z
        rw [w32_id (by unfold rI; omega)]
        refine sp_part c1.1 (c := gI σ 577 z) cυ (by omega) (by omega) (fun σ31 p1 p2 p3 p4 p5 k31 => ⟨v0, by omega, by omega, ?_⟩)
        refine sp_kset (by omega) (fun σ34 g1 g2 k34 => ?_)
        have f34 : Fr (mKu [z]) υ σ34 := by
          refine (p5.mono (fun f o' q => ?_)).tr (g2.mono (fun f o' q => ?_))
          · unfold mKa at q; exact ⟨by omega, List.mem_singleton.mpr (by omega)⟩
          · unfold mKa at q; exact ⟨by omega, List.mem_singleton.mpr q.2⟩
        have k34' : ∀ x, x ≠ z → KE υ σ34 x ∧ OE υ σ34 x := fun x hx => ⟨KE.ku f34 (fun w => hx (List.mem_singleton.mp w)), OE.ku f34 x⟩
        have c34 : gI σ34 577 z = gI σ 577 z + 1 := by rw [g2.i _ _ (fun q => by unfold mKa at q; omega)]; exact p1
        have r31 : ∀ i, en σ31 r' i = en υ r' i := en_fr p5 (fun f a b q => by
          rcases q with q | q
          · exact rz q.2
          · exact rz q.2)
        have er := g1 z (c + 1)
        rw [if_pos ⟨rfl, rfl⟩] at er
        have ek : kyE (en σ34 z (c + 1)) = ky υ r' 0 := by
          rw [er]
          show kyE (en σ31 r' 0) = kyE (en υ r' 0)
          rw [r31]
        have eb : (en σ34 z (c + 1)).2.2.2.2.2 = r' := by rw [er]
        clear er
        have e34 : ∀ i, 0 ≤ i → i < gI σ 577 z + 1 → en σ34 z i = insq (en υ z) (c + 1) (en σ34 z (c + 1)) i := by
          intro i i0 i1
          rw [insq_eq]
          by_cases q : i < c + 1
          · rw [if_pos q, g1, if_neg (fun w => by omega), p2 i i0 q]
          · rw [if_neg q]
            by_cases q2 : i = c + 1
            · rw [if_pos q2, q2]
            · rw [if_neg q2, g1, if_neg (fun w => q2 w.2), p3 i (by omega) (by omega)]
        have C3 : CH υ σ34 o [z] [z] := CH.updL v4.2.2.1.1 (fun x hx => by rw [List.mem_singleton.mp hx]; exact zFυ) v4.2.2.2.2.2.1.1 (fun x hx => by rw [List.mem_singleton.mp hx]; exact fzυ) f34
        have Kυ : CH σ υ o (kl σ (l + 1) z) (z :: (X ++ ((kl υ l y ++ kl υ l r') ++ Y))) := by
          refine K42.tr (v4.ctx (z :: X) Y (fun x hx => ?_) (fun x hx => ?_))
          · rcases List.mem_cons.mp hx with w | w
            · rw [w]; exact ⟨topy, zFP⟩
            · exact ⟨(memX x w).2, K42.2.2.1.2 x (List.mem_cons_of_mem _ (List.mem_append.mpr (Or.inl w)))⟩
          · exact ⟨(memY x hx).2, K42.2.2.1.2 x (List.mem_cons_of_mem _ (List.mem_append.mpr (Or.inr (List.mem_append.mpr (Or.inr hx)))))⟩
        have K34 : CH σ σ34 o (kl σ (l + 1) z) (z :: (X ++ ((kl υ l y ++ kl υ l r') ++ Y))) := by
          refine Kυ.tr (C3.ctx [] (X ++ ((kl υ l y ++ kl υ l r') ++ Y)) (fun x hx => (by cases hx)) (fun x hx => ⟨fun w => ?_, Kυ.2.2.1.2 x (List.mem_cons_of_mem _ hx)⟩))
          have ex := List.mem_singleton.mp w
          rcases List.mem_append.mp hx with u | u
          · exact (memX x u).1 ex
          · rcases List.mem_append.mp u with u | u
            · exact zKR (ex ▸ u)
            · exact (memY x u).1 ex
        have fy : ∀ x, x ∈ kl υ l y → KE υ σ34 x ∧ OE υ σ34 x := fun x hx => k34' x (fun e => zKR (List.mem_append.mpr (Or.inl (e ▸ hx))))
        have fr' : ∀ x, x ∈ kl υ l r' → KE υ σ34 x ∧ OE υ σ34 x := fun x hx => k34' x (fun e => zKR (List.mem_append.mpr (Or.inr (e ▸ hx))))
        obtain ⟨ly, ky'⟩ := tr_fr (σ := υ) (τ := σ34) l y (fun x hx => (fy x hx).1)
        obtain ⟨lr, kr'⟩ := tr_fr (σ := υ) (τ := σ34) l r' (fun x hx => (fr' x hx).1)
        have ko4 : ∀ i, 0 ≤ i → i < gI σ 577 z → i ≠ c → ∀ x, x ∈ itK σ (l + 1) (en σ z i) → KE σ σ34 x ∧ OE σ σ34 x := by
          intro i i0 i1 ne x hx
          have a := koυ i i0 i1 ne x hx
          exact ⟨a.2.1.tr (k34' x a.1).1, a.2.2.tr (k34' x a.1).2⟩
        have v1k := v1.key 0 (Int.le_refl _) (by have := v1.cnt; omega)
        have v1h := (v1.hi (i := 0) (Int.le_refl _) (by have := v1.cnt; omega)).2
        have x2h := (x2.hi (i := 0) (Int.le_refl _) (by have := x2.cnt; omega)).2
        have W : WQ σ34 (l + 1) (en σ34 z) (gI σ 577 z + 1) (min lo (kap h lw)) hi := by
          refine (w4.par2 (s1 := en υ z) (e := en σ34 z (c + 1)) hc en1 (by rw [enc]; exact hkc) (by rw [enc]; exact hlo) (fun i a b ne x hx => (ko4 i a b ne x hx).1) ⟨?_, ?_⟩ ⟨?_, ?_⟩ ⟨?_, ?_⟩).ext e34
          · rw [enc, ek, ← uk]; exact v1h
          · rw [ek]; exact x2h
          · rw [bec, (fy y (kl_self _ _ _)).1.k, enc]; exact uk
          · rw [bec, enc, ek, ← mnk]; exact v1.fr (fun x hx => (fy x hx).1)
          · rw [eb, ek, (fr' r' (kl_self _ _ _)).1.k]
          · rw [eb, ek]; exact x2.fr (fun x hx => (fr' x hx).1)
        have nk3 : ∀ f x, (f < 577 ∨ 583 < f) → ¬ mKu [z] f x := fun f x a q => by unfold mKu at q; omega
        refine sp_b124 (σ := σ) (e := e) (lo := lo) (κ := kap h lw) (mn := mn) (hi := hi) (A := A) (B := B) ho (WT_it.mpr ⟨w1, by rw [f34.i _ _ (nk3 _ _ (by decide))]; exact lvz, by rw [c34]; split <;> omega, by rw [c34]; exact W⟩) (NC.of (by rw [f34.i _ _ (nk3 _ _ (by decide))]; exact fzυ) (fun k k0 k1 => ?_)) ?_ ?_ (by rw [f34.i _ _ (nk3 _ _ (by decide))]; exact fzυ) (by rw [f34.i _ _ (nk3 _ _ (by decide))]; rw [fr42] at u2; omega) h320 (fun _ => ?_) (fun r2 τ ip2 => hQ r2 τ e he ip2)
        · rw [c34] at k1
          rw [e34 k k0 k1, insq_eq]
          by_cases q1 : k < c + 1
          · rw [if_pos q1]
            by_cases e1 : k = c
            · rw [e1]; show NC σ34 l (en υ z c).2.2.2.2.2
              rw [bec]; exact v2.fr fy
            · rw [en1 k k0 (by omega) e1]
              exact (hN.it k k0 (by omega)).fr (ko4 k k0 (by omega) e1)
          · rw [if_neg q1]
            by_cases q2 : k = c + 1
            · rw [if_pos q2]; show NC σ34 l (en σ34 z (c + 1)).2.2.2.2.2
              rw [eb]; exact x3.fr fr'
            · rw [if_neg q2, en1 (k - 1) (by omega) (by omega) (by omega)]
              exact (hN.it (k - 1) (by omega) (by omega)).fr (ko4 (k - 1) (by omega) (by omega) (by omega))
        · rw [ls_it, c34, show (gI σ 577 z + 1).toNat = (gI σ 577 z).toNat + 1 by omega, cat_ext (g := fun i => itL σ34 (l + 1) (insq (en υ z) (c + 1) (en σ34 z (c + 1)) i)) _ (fun i a b => by rw [← e34 i a (by omega)]), cat_rep2 (f := itL σ (l + 1)) (s := en σ z) hc.1 (by omega) (fun i a b ne => by rw [en1 i a (by omega) ne]; exact (it_fr (fun x hx => (ko4 i a (by omega) ne x hx).1)).1)]
          have e1 : itL σ34 (l + 1) (en υ z c) = ls υ l y := by
            show ls σ34 l (en υ z c).2.2.2.2.2 = _
            rw [bec]; exact ly
          have e2 : itL σ34 (l + 1) (en σ34 z (c + 1)) = ls υ l r' := by
            show ls σ34 l (en σ34 z (c + 1)).2.2.2.2.2 = _
            rw [eb]; exact lr
          rw [e1, e2, v3, b2, b3]
          simp only [List.append_assoc, List.cons_append]; rfl
        · have e0 : kl σ34 (l + 1) z = z :: (X ++ ((kl υ l y ++ kl υ l r') ++ Y)) := by
            rw [kl_it, c34, show (gI σ 577 z + 1).toNat = (gI σ 577 z).toNat + 1 by omega, cat_ext (g := fun i => itK σ34 (l + 1) (insq (en υ z) (c + 1) (en σ34 z (c + 1)) i)) _ (fun i a b => by rw [← e34 i a (by omega)]), cat_rep2 (f := itK σ (l + 1)) (s := en σ z) hc.1 (by omega) (fun i a b ne => by rw [en1 i a (by omega) ne]; exact (it_fr (fun x hx => (ko4 i a (by omega) ne x hx).1)).2.1), hX, hY]
            have e1 : itK σ34 (l + 1) (en υ z c) = kl υ l y := by
              show kl σ34 l (en υ z c).2.2.2.2.2 = _
              rw [bec]; exact ky'
            have e2 : itK σ34 (l + 1) (en σ34 z (c + 1)) = kl υ l r' := by
              show kl σ34 l (en σ34 z (c + 1)).2.2.2.2.2 = _
              rw [eb]; exact kr'
            rw [e1, e2]
          rw [e0]; exact K34
        · have e0 : en σ34 z 0 = en υ z 0 := by rw [e34 0 (by omega) (by omega), insq_eq, if_pos (by omega)]
          refine hk0 _ (fun ne => ?_) (fun e1 => ?_)
          · show kyE (en σ34 z 0) = kyE (en σ z 0)
            rw [e0, en1 0 (by omega) (by omega) (fun e => ne e.symm)]
          · show kyE (en σ34 z 0) = _
            rw [e0, ← enc, e1]
    refine ⟨fun q => ?_, fun q => ⟨by omega, ?_⟩⟩
    · exact main σ36 k36 (fun i _ _ _ => ke.2.2 i) (ke.b c) (fun z => by omega) (fun _ => ke.k c) (Fr.rf _ _) ke.2.1
    · have a := hr0 (by omega)
      refine sp_kset (by omega) (fun σ42 g1 g2 k42 => ?_)
      refine main σ42 k42 (fun i i0 i1 ne => ?_) ?_ (fun _ => ?_) (fun z => absurd z q) (g2.mono (fun f o' q => ?_)) ?_
      · rw [g1, if_neg (fun w => ne (w.2.trans a.1.symm)), ke.2.2]
      · show (en σ42 z c).2.2.2.2.2 = _
        rw [a.1, g1, if_pos ⟨rfl, rfl⟩]
        exact ke.b 0
      · rw [a.1, g1, if_pos ⟨rfl, rfl⟩]; rfl
      · unfold mKa at q; exact ⟨by omega, List.mem_singleton.mpr q.2⟩
      · rw [g2.i _ _ (fun q => by unfold mKa at q; omega)]; exact ke.2.1
