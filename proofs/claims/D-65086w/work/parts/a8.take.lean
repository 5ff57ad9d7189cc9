/-! a key goes -/
theorem spl_mid2 {κ : Int} {Y : List (Int × Int × Int × Int × Int × Int)} {e : Int × Int × Int × Int × Int × Int} (he : kyE e = κ) : ∀ {X L A B : List (Int × Int × Int × Int × Int × Int)}, A ++ e :: B = X ++ (L ++ Y) → (∀ a, a ∈ A → kyE a < κ) → (∀ x, x ∈ X → kyE x < κ) → (∀ y, y ∈ Y → κ < kyE y) → ∃ A' B', L = A' ++ e :: B' ∧ A = X ++ A' ∧ B = B' ++ Y
  | [], L, A, B, h, hA, _, hY => by
    revert L
    induction A with
    | nil =>
      intro L h
      cases L with
      | nil =>
        have h' : e :: B = Y := h
        have := hY e (h' ▸ List.mem_cons_self)
        omega
      | cons b L =>
        have h' : e :: B = b :: (L ++ Y) := h
        obtain ⟨e1, e2⟩ := List.cons.inj h'
        exact ⟨[], L, by rw [← e1]; rfl, rfl, e2⟩
    | cons a A ih =>
      intro L h
      cases L with
      | nil =>
        have h' : a :: (A ++ e :: B) = Y := h
        have := hY a (h' ▸ List.mem_cons_self)
        have := hA a List.mem_cons_self
        omega
      | cons b L =>
        have h' : a :: (A ++ e :: B) = b :: (L ++ Y) := h
        obtain ⟨e1, e2⟩ := List.cons.inj h'
        obtain ⟨A', B', g1, g2, g3⟩ := ih (fun x hx => hA x (List.mem_cons_of_mem _ hx)) (L := L) e2
        exact ⟨a :: A', B', by rw [← e1, g1]; rfl, by rw [g2]; rfl, g3⟩
  | x :: X, L, A, B, h, hA, hX, hY => by
    cases A with
    | nil =>
      have h' : e :: B = x :: (X ++ (L ++ Y)) := h
      obtain ⟨e1, e2⟩ := List.cons.inj h'
      have := hX x List.mem_cons_self
      rw [← e1] at this
      omega
    | cons a A =>
      have h' : a :: (A ++ e :: B) = x :: (X ++ (L ++ Y)) := h
      obtain ⟨e1, e2⟩ := List.cons.inj h'
      obtain ⟨A', B', g1, g2, g3⟩ := spl_mid2 he (X := X) (L := L) (A := A) (B := B) e2 (fun y hy => hA y (List.mem_cons_of_mem _ hy)) (fun y hy => hX y (List.mem_cons_of_mem _ hy)) hY
      exact ⟨A', B', g1, by rw [e1, g2]; rfl, g3⟩
theorem WT.self {σ : St} {l : Nat} {mn mn' mx z lo hi : Int} (h : WT σ l mn mx z lo hi) (h1 : mn' ≤ gI σ 577 z) : WT σ l mn' mx z (ky σ z 0) hi := by
  obtain ⟨w1, w2, w3, w4⟩ := WT_it.mp h
  refine WT_it.mpr ⟨w1, w2, ⟨h1, w3.2⟩, fun k k0 k1 => ?_⟩
  have a := w4 k k0 k1
  refine ⟨⟨?_, a.1.2⟩, a.2⟩
  by_cases e : k = 0
  · rw [e]; exact Int.le_refl _
  · exact Int.le_of_lt (w4.ord (i := 0) (j := k) (Int.le_refl _) (by omega) k1).2
/-- one entry less -/
theorem WQ.del {σ : St} {l : Nat} {s : Int → Int × Int × Int × Int × Int × Int} {n lo hi p : Int} (h : WQ σ l s n lo hi) (hp : 0 ≤ p ∧ p < n) : WQ σ l (catq s p (fun i => s (p + 1 + i))) (p + (n - (p + 1))) lo hi := by
  have h2 := h.snd (m := p + 1) (by omega)
  have h2' : WQ σ l (fun i => s (p + 1 + i)) (n - (p + 1)) lo hi := by
    by_cases q : p + 1 < n
    · exact h2.lo (h (p + 1) (by omega) q).1.1 (Int.le_refl _)
    · intro k k0 k1; omega
  refine WQ.join (h.fst hp.2) h2' hp.1 (fun q => ?_) (fun q => Int.le_of_lt (h.lt hp.1 hp.2).1) (by omega)
  rw [show p + 1 + 0 = p + 1 by omega]
  exact Int.le_of_lt (h.ord (i := p) (j := p + 1) hp.1 (by omega) (by omega)).2
def TPo (σ τ : St) (o : Int) (l : Nat) (mn z lo hi : Int) (A B : List (Int × Int × Int × Int × Int × Int)) : Prop := WT τ l (mn - 1) 8 z lo hi ∧ NC τ l z ∧ ls τ l z = A ++ B ∧ CH σ τ o (kl σ l z) (kl τ l z) ∧ gI τ 584 z ≠ 0 ∧ (1 ≤ gI τ 577 z → ky σ z 0 ≤ ky τ z 0)
theorem sp_take {tv : Nat → Int} {cf : Cf} {o h lw : Int} (hlw : rJ lw) : ∀ (l d : Nat) (σ : St) (z mn lo hi : Int) (A B : List (Int × Int × Int × Int × Int × Int)) (e : Int × Int × Int × Int × Int × Int) (Q : St → Prop), l < d → RK σ → WT σ l mn 8 z lo hi → (0 < l → 2 ≤ mn) → ls σ l z = A ++ e :: B → kyE e = kap h lw → (∀ a, a ∈ A → kyE a < kap h lw) → NC σ l z → PO σ o → (∀ x, x ∈ kl σ l z → ¬ FP σ o x ∧ 320 * o ≤ x ∧ x < 320 * o + 320) → 0 ≤ gI σ 390 o → gI σ 390 o + nfr σ (kl σ l z) ≤ 640 → ((kl σ l z).length : Int) ≤ gI σ 386 o →
    (∀ τ, TPo σ τ o l mn z lo hi A B → Q τ) → wp_Index_take cf tv d o z h lw Q σ := by
  intro l
  induction l with
  | zero =>
    intro d σ z mn lo hi A B e Q hd hrk hT hmn hL he hA hN hp hK ho0 hol hfree hQ
    obtain ⟨d', rfl⟩ : ∃ d', d = d' + 1 := ⟨d - 1, by omega⟩
    obtain ⟨c1, c2, c3, c4, c5⟩ := hT.cnt
    have hzp := (hK z (kl_self σ 0 z)).1
    have eK : kl σ 0 z = [z] := rfl
    have hnz : gI σ 584 z = 0 → gI σ 390 o < 640 := by
      intro q
      rw [eK, nfr_cons, if_pos q] at hol
      have : nfr σ [] = 0 := rfl
      omega
    show wp_Index_take_R cf tv o z h lw (wp_Index_take cf tv d') Q σ
    unfold wp_Index_take_R
    refine sp_touch c1.1 (fun q => ⟨ho0, hnz q⟩) (fun σ24 t1 t2 t3 t4 t5 t6 t7 k24 => ⟨c1.1, ?_⟩)
    have C1 : CH σ σ24 o [z] [z] := CH.touch hp hzp ho0 t1 t4 t5 t6 t7
    have ke := KE.tc t7 z
    refine sp_slot k24 hlw (by rw [ke.2.1]; omega) (fun r s1 s2 s3 _ _ y6 e6 => ⟨fun q => absurd (ke.1.trans c2) q, fun _ => ?_⟩)
    rw [ke.2.1] at s1 s2
    have kk : ∀ k, ky σ24 z k = ky σ z k := ke.k
    obtain ⟨w1, w2, w3, w4⟩ := WT_it.mp hT
    -- where it is
    obtain ⟨p, hp1, hp2⟩ : ∃ p, (0 ≤ p ∧ p < gI σ 577 z) ∧ en σ z p = e := by
      have m : e ∈ ls σ 0 z := by rw [hL]; exact List.mem_append.mpr (Or.inr List.mem_cons_self)
      obtain ⟨i, hi', hx⟩ := cat_mem m
      exact ⟨i, by omega, (List.mem_singleton.mp hx).symm⟩
    have kp : ky σ z p = kap h lw := by show kyE (en σ z p) = _; rw [hp2]; exact he
    have rp : r = p := by
      apply Classical.byContradiction
      intro ne
      by_cases q : r < p
      · have := s2 p q hp1.2
        rw [kk] at this; omega
      · have a := s3 (by omega)
        rw [kk] at a
        have := (hT.ord (i := p) (j := r) hp1.1 (by omega) (by omega)).2
        omega
    have e6' : y6 = p := by omega
    rw [e6']
    refine sp_leave c1.1 (c := gI σ 577 z) ke.2.1 hp1 (by omega) (fun τ l1 l2 l3 l4 _ => ?_)
    have eτ : ∀ i, 0 ≤ i → i < gI σ 577 z - 1 → en τ z i = catq (en σ z) p (fun i => en σ z (p + 1 + i)) i := by
      intro i i0 i1
      rw [catq_at]
      by_cases q : i < p
      · rw [if_pos q, l2 i i0 q, ke.2.2]
      · rw [if_neg q, l3 i (by omega) i1, ke.2.2, show p + 1 + (i - p) = i + 1 by omega]
    have f24 : Fr (mKu [z]) σ24 τ := l4.mono (fun f o' q => by
      unfold mKa at q; exact ⟨by omega, List.mem_singleton.mpr (by omega)⟩)
    have nk : ∀ f x, (f < 577 ∨ 583 < f) → ¬ mKu [z] f x := fun f x a q => by unfold mKu at q; omega
    have C2 : CH σ24 τ o [z] [z] := CH.updL C1.2.2.1.1 C1.2.2.1.2 C1.2.2.2.2.2.1.1 (fun x hx => by rw [List.mem_singleton.mp hx]; exact t1) f24
    have W : WQ τ 0 (en τ z) (gI σ 577 z - 1) lo hi := by
      have a := w4.del hp1
      rw [show p + (gI σ 577 z - (p + 1)) = gI σ 577 z - 1 by omega] at a
      exact (a.fr (τ := τ) (fun k _ _ x hx => (by cases hx))).ext eτ
    refine hQ τ ⟨WT_it.mpr ⟨w1, by rw [f24.i _ _ (nk _ _ (by decide)), ke.1]; exact c2, by rw [l1]; split <;> omega, by rw [l1]; exact W⟩, trivial, ?_, C1.tr C2, by rw [f24.i _ _ (nk _ _ (by decide))]; exact t1, fun c => ?_⟩
    · have lτ : ls τ 0 z = cat (fun i => [en σ z i]) p.toNat ++ cat (fun i => [en σ z (p + 1 + i)]) ((gI σ 577 z).toNat - p.toNat - 1) := by
        show cat _ _ = _
        obtain ⟨m, hm⟩ : ∃ m : Nat, p = m := ⟨p.toNat, by omega⟩
        rw [l1, show (gI σ 577 z - 1).toNat = m + ((gI σ 577 z).toNat - p.toNat - 1) by omega]
        have a := cat_q (fun e => [e]) (en σ z) (fun i => en σ z (p + 1 + i)) m ((gI σ 577 z).toNat - p.toNat - 1)
        rw [show p.toNat = m by omega] at a ⊢
        rw [← a]
        refine cat_ext _ (fun i a b => ?_)
        rw [eτ i a (by omega), hm]
      have l0 := ls0_at (σ := σ) hp1.1 hp1.2
      have hX : ∀ x, x ∈ cat (fun i => [en σ z i]) p.toNat → kyE x < kap h lw := by
        intro x hx
        obtain ⟨i, i1, i2, i3⟩ := hT.left0 (k := p) (by omega) hx
        have := (hT.ord (i := i) (j := p) i1.1 (by omega) hp1.2).2
        rw [i3]; show ky σ z i < _; omega
      have hY : ∀ y, y ∈ cat (fun i => [en σ z (p + 1 + i)]) ((gI σ 577 z).toNat - p.toNat - 1) → kap h lw < kyE y := by
        intro y hy
        obtain ⟨i, i1, hx⟩ := cat_mem hy
        rw [List.mem_singleton.mp hx]
        have := (hT.ord (i := p) (j := p + 1 + i) hp1.1 (by omega) (by omega)).2
        show _ < ky σ z (p + 1 + i); omega
      obtain ⟨A', B', m1, m2, m3⟩ := spl_mid2 he (L := [en σ z p]) (hL.symm.trans l0) hA hX hY
      have : A' = [] ∧ B' = [] := by
        cases A' with
        | nil =>
          have e1 := (List.cons.inj m1).2
          exact ⟨rfl, e1.symm⟩
        | cons a A' =>
          have e1 := (List.cons.inj m1).2
          cases A' with
          | nil => cases e1
          | cons _ _ => cases e1
      rw [this.1, List.append_nil] at m2
      rw [this.2, List.nil_append] at m3
      rw [lτ, m2, m3]
    · rw [l1] at c
      show kyE (en σ z 0) ≤ kyE (en τ z 0)
      rw [eτ 0 (by omega) (by omega), catq_at]
      by_cases q : 0 < p
      · rw [if_pos q]; exact Int.le_refl _
      · rw [if_neg q, show p + 1 + (0 - p) = 1 by omega]
        exact Int.le_of_lt (w4.ord (i := 0) (j := 1) (by omega) (by omega) (by omega)).2
  | succ l ih =>
    intro d σ z mn lo hi A B e Q hd hrk hT hmn hL he hA hN hp hK ho0 hol hfree hQ
    obtain ⟨d', rfl⟩ : ∃ d', d = d' + 1 := ⟨d - 1, by omega⟩
    obtain ⟨c1, c2, c3, c4, c5⟩ := hT.cnt
    have c6 : 2 ≤ gI σ 577 z := by have := hmn (by omega); omega
    have hzp := (hK z (kl_self σ (l + 1) z)).1
    obtain ⟨w1, w2, w3, w4⟩ := WT_it.mp hT
    have hnz : gI σ 584 z = 0 → gI σ 390 o < 640 := by
      intro q
      rw [kl_it, nfr_cons, if_pos q] at hol
      omega
    show wp_Index_take_R cf tv o z h lw (wp_Index_take cf tv d') Q σ
    unfold wp_Index_take_R
    refine sp_touch c1.1 (fun q => ⟨ho0, hnz q⟩) (fun σ24 t1 t2 t3 t4 t5 t6 t7 k24 => ⟨c1.1, ?_⟩)
    have C1 : CH σ σ24 o [z] [z] := CH.touch hp hzp ho0 t1 t4 t5 t6 t7
    have ke := KE.tc t7 z
    have kk := ke.k
    refine sp_slot k24 hlw (by rw [ke.2.1]; omega) (fun r s1 s2 s3 _ _ c ec => ⟨fun _ => ?_, fun q => by rw [ke.1, c2] at q; omega⟩)
    rw [ke.2.1] at s1 s2
    -- the key is below place r
    have r0 : 0 ≤ r := by
      apply Classical.byContradiction
      intro q
      have m : e ∈ ls σ (l + 1) z := by rw [hL]; exact List.mem_append.mpr (Or.inr List.mem_cons_self)
      obtain ⟨i, hi', hx⟩ := cat_mem m
      have a := ((hT.2.2.2 i hi'.1 (by omega)).2.2.rng e hx).1
      have b := s2 i (by omega) (by omega)
      rw [kk] at b
      omega
    have ecr : c = r := by omega
    have hc : 0 ≤ c ∧ c < gI σ 577 z := by omega
    have hκ1 : ky σ z c ≤ kap h lw := by
      have a := s3 r0
      rw [kk] at a
      rw [ecr]; exact a
    have hκ2 : c + 1 < gI σ 577 z → kap h lw < ky σ z (c + 1) := by
      intro q
      have a := s2 (c + 1) (by omega) q
      rw [kk] at a; exact a
    have g := hT.2.2.2 c hc.1 hc.2
    have topc : ∀ i, 0 ≤ i → i < gI σ 577 z → z ∉ kl σ l (be σ z i) := fun i a b => hT.top a b
    have ko : ∀ x, x ≠ z → KE σ σ24 x ∧ OE σ σ24 x := fun x hx => ⟨KE.tc t7 x, OE.tc t7 hx⟩
    have fr24 : gI σ24 386 o = gI σ 386 o := t7.i _ _ (fun q => by unfold mTc at q; omega)
    have lv24 : gI σ24 576 z = ((l + 1 : Nat) : Int) := by rw [ke.1]; exact c2
    generalize hX : cat (fun k => itK σ (l + 1) (en σ z k)) c.toNat = X
    generalize hY : cat (fun i => itK σ (l + 1) (en σ z (c + 1 + i))) ((gI σ 577 z).toNat - c.toNat - 1) = Y
    generalize hy : be σ z c = y at *
    have eK : kl σ (l + 1) z = z :: (X ++ (kl σ l y ++ Y)) := by
      rw [kl_it, cat_at _ hc.1 (by omega : c < ((gI σ 577 z).toNat : Int)), hX, hY, ← hy]; rfl
    have memX : ∀ x, x ∈ X → x ≠ z ∧ x ∉ kl σ l y := by
      intro x hx
      rw [← hX] at hx
      obtain ⟨i, hi', hx'⟩ := cat_mem hx
      refine ⟨fun e => topc i hi'.1 (by omega) (e ▸ hx'), ?_⟩
      rw [← hy]
      exact hT.dis hi'.1 (by omega) hc.1 hc.2 (by omega) hx'
    have memY : ∀ x, x ∈ Y → x ≠ z ∧ x ∉ kl σ l y := by
      intro x hx
      rw [← hY] at hx
      obtain ⟨i, hi', hx'⟩ := cat_mem hx
      refine ⟨fun e => topc (c + 1 + i) (by omega) (by omega) (e ▸ hx'), ?_⟩
      rw [← hy]
      exact hT.dis (i := c + 1 + i) (by omega) (by omega) hc.1 hc.2 (by omega) hx'
    have topy : z ∉ kl σ l y := by rw [← hy]; exact topc c hc.1 hc.2
    have nez : ∀ x, x ∈ X ++ (kl σ l y ++ Y) → x ≠ z := by
      intro x hx
      rcases List.mem_append.mp hx with w | w
      · exact (memX x w).1
      · rcases List.mem_append.mp w with w | w
        · exact fun e => topy (e ▸ w)
        · exact (memY x w).1
    have K24 : CH σ σ24 o (kl σ (l + 1) z) (z :: (X ++ (kl σ l y ++ Y))) := by
      have := C1.ctx [] (X ++ (kl σ l y ++ Y)) (fun x hx => (by cases hx)) (fun x hx => ⟨fun w => nez x hx (List.mem_singleton.mp w), (hK x (by rw [eK]; exact List.mem_cons_of_mem _ hx)).1⟩)
      rw [eK]; exact this
    have T24 : WT σ24 l 4 8 y (ky σ z c) (nx σ z c hi) := g.2.2.fr (fun x hx => KE.tc t7 x)
    obtain ⟨l24, k24'⟩ := tr_fr (σ := σ) (τ := σ24) l y (fun x _ => KE.tc t7 x)
    have N24 : NC σ24 l y := by
      have a := (hN c hc.1 hc.2).2
      rw [hy] at a
      exact a.fr (fun x hx => ko x (fun e => topy (e ▸ hx)))
    have hLs : ls σ (l + 1) z = cat (fun k => ls σ l (be σ z k)) c.toNat ++ (ls σ l y ++ cat (fun i => ls σ l (be σ z (c + 1 + i))) ((gI σ 577 z).toNat - c.toNat - 1)) := by rw [lsS_at hc.1 hc.2, hy]
    have hXl : ∀ e, e ∈ cat (fun k => ls σ l (be σ z k)) c.toNat → kyE e < kap h lw := by
      intro e he
      have a := hT.left hc.1 hc.2 he
      omega
    have hYl : ∀ e, e ∈ cat (fun i => ls σ l (be σ z (c + 1 + i))) ((gI σ 577 z).toNat - c.toNat - 1) → kap h lw < kyE e := by
      intro e he
      have a := hT.right hc.1 he
      obtain ⟨i, hi', -⟩ := cat_mem he
      rw [nx_in (by omega)] at a
      have := hκ2 (by omega)
      omega
    obtain ⟨Ac, Bc, b1, b2, b3⟩ := spl_mid2 he (hL.symm.trans hLs) hA hXl hYl
    refine ⟨by omega, fun y7 e7 => ?_⟩
    have e7' : y7 = y := by rw [e7, ← hy]; exact ke.b c
    rw [e7']
    have rngK : ∀ x, x ∈ kl σ l y → x ∈ kl σ (l + 1) z := fun x hx => by
      rw [eK]; exact List.mem_cons_of_mem _ (List.mem_append.mpr (Or.inr (List.mem_append.mpr (Or.inl hx))))
    refine ih d' σ24 y 4 (ky σ z c) (nx σ z c hi) Ac Bc e _ (by omega) k24 T24 (fun _ => by omega) (l24.trans b1) he (fun a ha => hA a (by rw [b2]; exact List.mem_append.mpr (Or.inr ha))) N24 C1.2.2.1.1 (fun x hx => ?_) C1.2.2.2.2.2.1.1 ?_ ?_ (fun υ ip kυ => ?_)
    · rw [k24'] at hx
      exact ⟨K24.2.2.1.2 x (List.mem_cons_of_mem _ (List.mem_append.mpr (Or.inr (List.mem_append.mpr (Or.inl hx))))), (hK x (rngK x hx)).2⟩
    · have a := K24.2.2.2.2.2.1.2
      rw [k24']
      have b := nfr_le (σ := σ24) (z :: X) (kl σ l y) Y
      have e1 : z :: X ++ (kl σ l y ++ Y) = z :: (X ++ (kl σ l y ++ Y)) := rfl
      rw [e1] at b
      omega
    · rw [k24', fr24]
      rw [eK] at hfree
      simp only [List.length_cons, List.length_append] at hfree
      omega
    obtain ⟨v1, v2, v3, v4, v5, v6⟩ := ip
    rw [k24'] at v4
    have zFP : ¬ FP σ24 o z := K24.2.2.1.2 z List.mem_cons_self
    have zz := v4.ke topy zFP
    have vc := v1.cnt
    have yk0 : ky σ24 y 0 = ky σ z c := by
      rw [(KE.tc t7 y).k]; exact g.2.1
    have v6' : ky σ z c ≤ ky υ y 0 := by rw [← yk0]; exact v6 (by omega)
    have vhi := (v1.hi (i := 0) (Int.le_refl _) (by omega)).2
    have cz : gI υ 577 z = gI σ 577 z := zz.1.2.1.trans ke.2.1
    refine ⟨vc.1.1, fun q => by omega, fun _ => ⟨by omega, by omega, ?_⟩⟩
    refine sp_kset (by omega) (fun σ34 g1 g2 k34 => ?_)
    -- what is so then
    have yz : y ≠ z := fun e => topy (e ▸ kl_self σ l y)
    have f34 : Fr (mKu [z]) υ σ34 := g2.mono (fun f o' q => by unfold mKa at q; exact ⟨by omega, List.mem_singleton.mpr q.2⟩)
    have nk3 : ∀ f x, (f < 577 ∨ 583 < f) → ¬ mKu [z] f x := fun f x a q => by unfold mKu at q; omega
    have k34' : ∀ x, x ≠ z → KE υ σ34 x ∧ OE υ σ34 x := fun x hx => ⟨KE.ku f34 (fun w => hx (List.mem_singleton.mp w)), OE.ku f34 x⟩
    have zKR : z ∉ kl υ l y := fun w => (v4.1 z w).elim topy zFP
    have zFυ : ¬ FP υ o z := fun w => (v4.2.1 z w).elim zFP topy
    have fzυ : gI υ 584 z ≠ 0 := by rw [zz.2.1]; exact t1
    have fz34 : gI σ34 584 z ≠ 0 := by rw [f34.i _ _ (nk3 _ _ (by decide))]; exact fzυ
    have cz34 : gI σ34 577 z = gI σ 577 z := by rw [g2.i _ _ (fun q => by unfold mKa at q; omega)]; exact cz
    have lz34 : gI σ34 576 z = ((l + 1 : Nat) : Int) := by rw [f34.i _ _ (nk3 _ _ (by decide)), zz.1.1]; exact lv24
    have koy : ∀ i, 0 ≤ i → i < gI σ 577 z → i ≠ c → ∀ x, x ∈ itK σ (l + 1) (en σ z i) → x ≠ z ∧ x ∉ kl υ l y ∧ KE σ σ34 x ∧ OE σ σ34 x := by
      intro i i0 i1 ne x hx
      have nz : x ≠ z := fun e => topc i i0 i1 (e ▸ hx)
      have ny : x ∉ kl σ l y := by rw [← hy]; exact hT.dis i0 i1 hc.1 hc.2 ne hx
      have nf : ¬ FP σ24 o x := K24.2.2.1.2 x (by rw [← eK]; exact kl_below i0 i1 hx)
      have a := v4.ke ny nf
      exact ⟨nz, fun w => (v4.1 x w).elim ny nf, ((ko x nz).1.tr a.1).tr (k34' x nz).1, ((ko x nz).2.tr a.2).tr (k34' x nz).2⟩
    have en1 : ∀ i, 0 ≤ i → i < gI σ 577 z → i ≠ c → en σ34 z i = en σ z i := fun i a b ne => by
      rw [g1, if_neg (fun w => ne w.2), zz.1.2.2, ke.2.2]
    have enk : kyE (en σ34 z c) = ky υ y 0 := by rw [g1, if_pos ⟨rfl, rfl⟩]; rfl
    have enb : (en σ34 z c).2.2.2.2.2 = y := by rw [g1, if_pos ⟨rfl, rfl⟩]
    have fy : ∀ x, x ∈ kl υ l y → KE υ σ34 x ∧ OE υ σ34 x := fun x hx => k34' x (fun e => zKR (e ▸ hx))
    obtain ⟨ly, ky'⟩ := tr_fr (σ := υ) (τ := σ34) l y (fun x hx => (fy x hx).1)
    have Ty34 : WT σ34 l 3 8 y (ky σ z c) (nx σ z c hi) := v1.fr (fun x hx => (fy x hx).1)
    have Ny34 : NC σ34 l y := v2.fr fy
    have yk34 : ky σ34 y 0 = ky υ y 0 := (fy y (kl_self _ _ _)).1.k 0
    have yc34 : gI σ34 577 y = gI υ 577 y := (fy y (kl_self _ _ _)).1.2.1
    have e0 : kl σ34 (l + 1) z = z :: (X ++ (kl υ l y ++ Y)) := by
      rw [kl_it, cz34, cat_rep1 (f := itK σ (l + 1)) (s := en σ z) hc.1 (by omega) (fun i a b ne => by rw [en1 i a (by omega) ne]; exact (it_fr (fun x hx => (koy i a (by omega) ne x hx).2.2.1)).2.1), hX, hY]
      have e1 : itK σ34 (l + 1) (en σ34 z c) = kl υ l y := by
        show kl σ34 l (en σ34 z c).2.2.2.2.2 = _
        rw [enb]; exact ky'
      rw [e1]
    have e0l : ls σ34 (l + 1) z = A ++ B := by
      rw [ls_it, cz34, cat_rep1 (f := itL σ (l + 1)) (s := en σ z) hc.1 (by omega) (fun i a b ne => by rw [en1 i a (by omega) ne]; exact (it_fr (fun x hx => (koy i a (by omega) ne x hx).2.2.1)).1)]
      have e1 : itL σ34 (l + 1) (en σ34 z c) = Ac ++ Bc := by
        show ls σ34 l (en σ34 z c).2.2.2.2.2 = _
        rw [enb, ly]; exact v3
      rw [e1, b2, b3]
      simp only [List.append_assoc]; rfl
    have K34 : CH σ σ34 o (kl σ (l + 1) z) (kl σ34 (l + 1) z) := by
      have Kυ : CH σ υ o (kl σ (l + 1) z) (z :: (X ++ (kl υ l y ++ Y))) := by
        refine K24.tr (v4.ctx (z :: X) Y (fun x hx => ?_) (fun x hx => ?_))
        · rcases List.mem_cons.mp hx with w | w
          · rw [w]; exact ⟨topy, zFP⟩
          · exact ⟨(memX x w).2, K24.2.2.1.2 x (List.mem_cons_of_mem _ (List.mem_append.mpr (Or.inl w)))⟩
        · exact ⟨(memY x hx).2, K24.2.2.1.2 x (List.mem_cons_of_mem _ (List.mem_append.mpr (Or.inr (List.mem_append.mpr (Or.inr hx)))))⟩
      have C3 : CH υ σ34 o [z] [z] := CH.updL v4.2.2.1.1 (fun x hx => by rw [List.mem_singleton.mp hx]; exact zFυ) v4.2.2.2.2.2.1.1 (fun x hx => by rw [List.mem_singleton.mp hx]; exact fzυ) f34
      rw [e0]
      refine Kυ.tr (C3.ctx [] (X ++ (kl υ l y ++ Y)) (fun x hx => (by cases hx)) (fun x hx => ⟨fun w => ?_, Kυ.2.2.1.2 x (List.mem_cons_of_mem _ hx)⟩))
      have ex := List.mem_singleton.mp w
      rcases List.mem_append.mp hx with u | u
      · exact (memX x u).1 ex
      · rcases List.mem_append.mp u with u | u
        · exact zKR (ex ▸ u)
        · exact (memY x u).1 ex
    have nxe : ∀ k, 0 ≤ k → nx σ z k hi = nxq (en σ z) (gI σ 577 z) k hi := fun k _ => rfl
    have lo34 : lo ≤ ky υ y 0 := by have := g.1.1; omega
    have first : ∀ v : Int, (c ≠ 0 → v = ky σ z 0) → (c = 0 → v = ky υ y 0) → ky σ z 0 ≤ v := by
      intro v a b
      by_cases q : c = 0
      · rw [b q]
        have : ky σ z c = ky σ z 0 := by rw [q]
        omega
      · rw [a q]; exact Int.le_refl _
    unfold wp_Index_take_b80
    refine ⟨vc.1.1, fun q4 => ?_, fun q4 => ⟨c1.1, fun q => by omega, fun _ => ?_⟩⟩
    · -- it still has enough
      have W : WQ σ34 (l + 1) (en σ34 z) (gI σ 577 z) lo hi := by
        have a := w4.reb (τ := σ34) (a := c) (b := c + 1) (m := 1) (t := fun _ => en σ34 z c) (by omega) (by omega) (fun i i0 i1 ne x hx => (koy i i0 i1 (by omega) x hx).2.2.1) ?_ ?_
        · rw [show c + 1 + (gI σ 577 z - (c + 1)) = gI σ 577 z by omega] at a
          refine a.ext (fun i i0 i1 => ?_)
          rw [repq_eq]
          by_cases q1 : i < c
          · rw [if_pos q1]; exact en1 i i0 i1 (by omega)
          · rw [if_neg q1]
            by_cases q2 : i < c + 1
            · rw [if_pos q2, show i = c by omega]
            · rw [if_neg q2, show i - c - 1 + (c + 1) = i by omega]; exact en1 i i0 i1 (by omega)
        · intro k k0 k1
          have x : nxq (fun _ => en σ34 z c) 1 k (if c + 1 < gI σ 577 z then kyE (en σ z (c + 1)) else hi) = nx σ z c hi := by
            unfold nxq nx ky; rw [if_neg (by omega)]
          rw [x, enk]
          refine ⟨⟨lo34, vhi⟩, ?_, ?_⟩
          · rw [enb, enk]; exact yk34
          · rw [enb, enk, ← yk34]
            exact Ty34.self (by omega)
        · rw [enk]; exact v6'
      refine hQ σ34 ⟨(WT_it.mpr ⟨w1, lz34, ⟨by rw [cz34]; omega, by rw [cz34]; split <;> omega, by rw [cz34]; omega⟩, by rw [cz34]; exact W⟩), NC.of fz34 (fun k k0 k1 => ?_), e0l, K34, fz34, fun _ => first _ (fun ne => ?_) (fun e1 => ?_)⟩
      · rw [cz34] at k1
        by_cases e1 : k = c
        · rw [e1]; show NC σ34 l (en σ34 z c).2.2.2.2.2
          rw [enb]; exact Ny34
        · rw [en1 k k0 k1 e1]
          exact (hN.it k k0 k1).fr (fun x hx => ⟨(koy k k0 k1 e1 x hx).2.2.1, (koy k k0 k1 e1 x hx).2.2.2⟩)
      · show kyE (en σ34 z 0) = kyE (en σ z 0)
        rw [en1 0 (by omega) (by omega) (fun e => ne e.symm)]
      · show kyE (en σ34 z 0) = _
        rw [← enk, e1]
    · -- two of them are mended
      have mend : ∀ k, 0 ≤ k → k + 1 < gI σ 577 z → (k = c ∨ k + 1 = c) → wp_Index_take_b112 cf tv o z h lw (wp_Index_take cf tv d') Q k z σ34 := by
        intro k k0 k1 kc
        have bb : ∀ i, 0 ≤ i → i < gI σ 577 z → be σ34 z i = be σ z i := by
          intro i i0 i1
          by_cases e1 : i = c
          · rw [e1, hy]; exact enb
          · unfold be; rw [en1 i i0 i1 e1]
        have Ti : ∀ i, 0 ≤ i → i < gI σ 577 z → i ≠ c → WT σ34 l 4 8 (be σ z i) (ky σ z i) (nx σ z i hi) ∧ NC σ34 l (be σ z i) ∧ ky σ34 (be σ z i) 0 = ky σ z i := by
          intro i i0 i1 ne
          have a := hT.2.2.2 i i0 i1
          refine ⟨a.2.2.fr (fun x hx => (koy i i0 i1 ne x hx).2.2.1), ((hN i i0 i1).2).fr (fun x hx => ⟨(koy i i0 i1 ne x hx).2.2.1, (koy i i0 i1 ne x hx).2.2.2⟩), ?_⟩
          have b := (koy i i0 i1 ne (be σ z i) (kl_self σ l _)).2.2.1.k 0
          rw [b]; exact a.2.1
        generalize hx' : be σ z k = x' at *
        generalize hy' : be σ z (k + 1) = y' at *
        have kin : ky σ z k < ky σ z (k + 1) := (hT.ord (i := k) (j := k + 1) k0 (by omega) k1).2
        have nxk : nx σ z k hi = ky σ z (k + 1) := nx_in k1
        have TXY : WT σ34 l 3 8 x' (ky σ z k) (ky σ34 y' 0) ∧ WT σ34 l 3 8 y' (ky σ34 y' 0) (nx σ z (k + 1) hi) ∧ NC σ34 l x' ∧ NC σ34 l y' := by
          rcases kc with e1 | e1
          · have a := Ti (k + 1) (by omega) k1 (by omega)
            rw [hy'] at a
            have ex : x' = y := by rw [← hx', e1]; exact hy
            rw [ex, a.2.2]
            refine ⟨?_, a.1.mono (by omega) (Int.le_refl _) (Int.le_refl _) (Int.le_refl _), Ny34, a.2.1⟩
            have b := Ty34
            rw [← e1, nxk] at b; exact b
          · have a := Ti k k0 (by omega) (by omega)
            rw [hx'] at a
            have ey : y' = y := by rw [← hy', e1]; exact hy
            rw [ey]
            refine ⟨a.1.mono (by omega) (Int.le_refl _) (Int.le_refl _) ?_, ?_, a.2.1, Ny34⟩
            · rw [nxk, e1, yk34]; exact v6'
            · rw [e1]; exact Ty34.self (by omega)
        obtain ⟨TX, TY, NX, NY⟩ := TXY
        generalize hP : cat (fun i => itK σ34 (l + 1) (en σ34 z i)) k.toNat = P
        generalize hR : cat (fun i => itK σ34 (l + 1) (en σ34 z (k + 2 + i))) (gI σ 577 z - (k + 2)).toNat = R
        have two : ∀ {α : Type} (f : Int → List α), cat f (gI σ 577 z).toNat = cat f k.toNat ++ ((f k ++ f (k + 1)) ++ cat (fun i => f (k + 2 + i)) (gI σ 577 z - (k + 2)).toNat) := by
          intro α f
          rw [show (gI σ 577 z).toNat = k.toNat + (2 + (gI σ 577 z - (k + 2)).toNat) by omega, cat_add, cat_add, show ((k.toNat : Nat) : Int) = k by omega]
          congr 1
          have e2 : cat (fun i => f (k + i)) 2 = f k ++ f (k + 1) := by
            show cat (fun i => f (k + i)) 1 ++ f (k + ((1 : Nat) : Int)) = _
            rw [cat_one, show k + 0 = k by omega]; rfl
          rw [e2]
          congr 1
          refine cat_ext _ (fun i _ _ => ?_)
          rw [show k + (((2 : Nat) : Int) + i) = k + 2 + i by omega]
        have itx : itK σ34 (l + 1) (en σ34 z k) = kl σ34 l x' := by
          show kl σ34 l (be σ34 z k) = _
          rw [bb k k0 (by omega), hx']
        have ity : itK σ34 (l + 1) (en σ34 z (k + 1)) = kl σ34 l y' := by
          show kl σ34 l (be σ34 z (k + 1)) = _
          rw [bb (k + 1) (by omega) k1, hy']
        have eM : kl σ34 (l + 1) z = z :: (P ++ ((kl σ34 l x' ++ kl σ34 l y') ++ R)) := by
          rw [kl_it, cz34, two, hP, hR, itx, ity]
        have inM : ∀ x, x ∈ kl σ34 l x' ++ kl σ34 l y' → x ∈ kl σ34 (l + 1) z := fun x hx => by
          rw [eM]; exact List.mem_cons_of_mem _ (List.mem_append.mpr (Or.inr (List.mem_append.mpr (Or.inl hx))))
        have inP : ∀ x, x ∈ P ∨ x ∈ R → x ∈ kl σ34 (l + 1) z := fun x hx => by
          rw [eM]
          refine List.mem_cons_of_mem _ (List.mem_append.mpr ?_)
          exact hx.imp (fun w => w) (fun w => List.mem_append.mpr (Or.inr w))
        -- other knots
        have oth : ∀ i, 0 ≤ i → i < gI σ 577 z → i ≠ k → i ≠ k + 1 → ∀ x, x ∈ itK σ (l + 1) (en σ z i) → x ∉ z :: (kl σ34 l x' ++ kl σ34 l y') ∧ ¬ FP σ34 o x := by
          intro i i0 i1 n1 n2 x hx
          have ic : i ≠ c := by omega
          have a := koy i i0 i1 ic x hx
          have nj : ∀ j, 0 ≤ j → j < gI σ 577 z → i ≠ j → x ∉ kl σ34 l (be σ z j) := by
            intro j j0 j1 ne
            by_cases jc : j = c
            · rw [jc, hy, ky']; exact a.2.1
            · have e1 := (tr_fr (σ := σ) (τ := σ34) l (be σ z j) (fun x hx => (koy j j0 j1 jc x hx).2.2.1)).2
              rw [e1]; exact hT.dis i0 i1 j0 j1 ne hx
          have n1' := nj k k0 (by omega) n1
          have n2' := nj (k + 1) (by omega) k1 n2
          rw [hx'] at n1'
          rw [hy'] at n2'
          refine ⟨fun w => ?_, K34.2.2.1.2 x ?_⟩
          · rcases List.mem_cons.mp w with w | w
            · exact a.1 w
            · exact (List.mem_append.mp w).elim n1' n2'
          · rw [kl_it, cz34]
            refine List.mem_cons_of_mem _ (mem_cat (f := fun k => itK σ34 (l + 1) (en σ34 z k)) i0 (by omega) ?_)
            rw [en1 i i0 i1 ic, (it_fr (fun x hx => (koy i i0 i1 ic x hx).2.2.1)).2.1]; exact hx
        have fin : ∀ τ m KT, (1 ≤ m ∧ m ≤ 2) → gI τ 577 z = k + m + (gI σ 577 z - (k + 2)) → (∀ i, 0 ≤ i → i < k → en τ z i = en σ34 z i) → (∀ i, k + 2 ≤ i → i < gI σ 577 z → en τ z (i - 2 + m) = en σ34 z i) → WQ τ (l + 1) (fun i => en τ z (k + i)) m lo (nx σ z (k + 1) hi) → (∀ i, 0 ≤ i → i < m → itN τ (l + 1) (en τ z (k + i))) → cat (fun i => itL τ (l + 1) (en τ z (k + i))) m.toNat = ls σ34 l x' ++ ls σ34 l y' → cat (fun i => itK τ (l + 1) (en τ z (k + i))) m.toNat = KT → ky σ z k ≤ kyE (en τ z k) → CH σ34 τ o (z :: (kl σ34 l x' ++ kl σ34 l y')) (z :: KT) → gI τ 576 z = l + 1 → gI τ 584 z ≠ 0 → Q τ := by
          intro τ m KT hm d1 d2 d3 d4 d5 d6 d7 d8 d9 d10 d11
          have koτ : ∀ i, 0 ≤ i → i < gI σ 577 z → i ≠ k → i ≠ k + 1 → ∀ x, x ∈ itK σ (l + 1) (en σ z i) → KE σ τ x ∧ OE σ τ x := by
            intro i i0 i1 n1 n2 x hx
            have a := koy i i0 i1 (by omega) x hx
            have b := oth i i0 i1 n1 n2 x hx
            have e1 := d9.ke b.1 b.2
            exact ⟨a.2.2.1.tr e1.1, a.2.2.2.tr e1.2⟩
          have eτ : ∀ i, 0 ≤ i → i < k + m + (gI σ 577 z - (k + 2)) → en τ z i = repq (en σ z) k (k + 2) (fun i => en τ z (k + i)) m i := by
            intro i i0 i1
            rw [repq_eq]
            by_cases q1 : i < k
            · rw [if_pos q1, d2 i i0 q1]; exact en1 i i0 (by omega) (by omega)
            · rw [if_neg q1]
              by_cases q2 : i < k + m
              · rw [if_pos q2, show k + (i - k) = i by omega]
              · rw [if_neg q2]
                have a := d3 (i - k - m + (k + 2)) (by omega) (by omega)
                rw [show i - k - m + (k + 2) - 2 + m = i by omega] at a
                rw [a]; exact en1 _ (by omega) (by omega) (by omega)
          have hu : (if k + 2 < gI σ 577 z then kyE (en σ z (k + 2)) else hi) = nx σ z (k + 1) hi := by
            unfold nx ky; rw [show k + 1 + 1 = k + 2 by omega]
          have W : WQ τ (l + 1) (en τ z) (k + m + (gI σ 577 z - (k + 2))) lo hi := by
            refine (w4.reb (τ := τ) (a := k) (b := k + 2) (m := m) (t := fun i => en τ z (k + i)) (by omega) hm.1 (fun i i0 i1 ne x hx => (koτ i i0 i1 (by omega) (by omega) x hx).1) ?_ ?_).ext eτ
            · rw [hu]; exact d4
            · rw [show k + 0 = k by omega]; exact d8
          have lstE : ∀ {α : Type} (f : Int × Int × Int × Int × Int × Int → List α), cat (fun i => f (en τ z i)) (gI τ 577 z).toNat = cat (fun i => f (en σ z i)) k.toNat ++ (cat (fun i => f (en τ z (k + i))) m.toNat ++ cat (fun i => f (en σ z (k + 2 + i))) (gI σ 577 z - (k + 2)).toNat) := by
            intro α f
            rw [d1, ← cat_repq f (en σ z) (fun i => en τ z (k + i)) (a := k) (b := k + 2) (m := m) (n := gI σ 577 z) k0 (by omega) (by omega)]
            exact cat_ext _ (fun i a b => by rw [← eτ i a (by omega)])
          have iL : ∀ i, 0 ≤ i → i < gI σ 577 z → i ≠ k → i ≠ k + 1 → itL τ (l + 1) (en σ z i) = itL σ34 (l + 1) (en σ34 z i) ∧ itK τ (l + 1) (en σ z i) = itK σ34 (l + 1) (en σ34 z i) := by
            intro i i0 i1 n1 n2
            have a := it_fr (fun x hx => (koτ i i0 i1 n1 n2 x hx).1)
            have b := it_fr (fun x hx => (koy i i0 i1 (by omega) x hx).2.2.1)
            rw [en1 i i0 i1 (by omega)]
            exact ⟨a.1.trans b.1.symm, a.2.1.trans b.2.1.symm⟩
          have eKτ : kl τ (l + 1) z = z :: (P ++ (KT ++ R)) := by
            rw [kl_it, lstE (itK τ (l + 1)), d7, ← hP, ← hR]
            congr 2
            · exact cat_ext _ (fun i a b => (iL i a (by omega) (by omega) (by omega)).2)
            · congr 1
              exact cat_ext _ (fun i a b => (iL (k + 2 + i) (by omega) (by omega) (by omega) (by omega)).2)
          have eLτ : ls τ (l + 1) z = A ++ B := by
            rw [← e0l, ls_it τ, ls_it σ34, cz34, lstE (itL τ (l + 1)), d6, two]
            have itx' : itL σ34 (l + 1) (en σ34 z k) = ls σ34 l x' := by
              show ls σ34 l (be σ34 z k) = _
              rw [bb k k0 (by omega), hx']
            have ity' : itL σ34 (l + 1) (en σ34 z (k + 1)) = ls σ34 l y' := by
              show ls σ34 l (be σ34 z (k + 1)) = _
              rw [bb (k + 1) (by omega) k1, hy']
            rw [itx', ity']
            congr 1
            · exact cat_ext _ (fun i a b => (iL i a (by omega) (by omega) (by omega)).1)
            · congr 1
              exact cat_ext _ (fun i a b => (iL (k + 2 + i) (by omega) (by omega) (by omega) (by omega)).1)
          have Kτ : CH σ τ o (kl σ (l + 1) z) (kl τ (l + 1) z) := by
            have hPR : ∀ x, x ∈ P ++ R → x ∉ z :: (kl σ34 l x' ++ kl σ34 l y') ∧ ¬ FP σ34 o x := by
              intro x hx
              rcases List.mem_append.mp hx with w | w
              · rw [← hP] at w
                obtain ⟨i, hi', hw⟩ := cat_mem w
                rw [en1 i hi'.1 (by omega) (by omega), (it_fr (fun x hx => (koy i hi'.1 (by omega) (by omega) x hx).2.2.1)).2.1] at hw
                exact oth i hi'.1 (by omega) (by omega) (by omega) x hw
              · rw [← hR] at w
                obtain ⟨i, hi', hw⟩ := cat_mem w
                rw [en1 (k + 2 + i) (by omega) (by omega) (by omega), (it_fr (fun x hx => (koy (k + 2 + i) (by omega) (by omega) (by omega) x hx).2.2.1)).2.1] at hw
                exact oth (k + 2 + i) (by omega) (by omega) (by omega) (by omega) x hw
            have pm : ∀ N : List Int, ((z :: N) ++ (P ++ R)).Perm (z :: (P ++ (N ++ R))) := by
              intro N
              show (z :: (N ++ (P ++ R))).Perm _
              refine List.Perm.cons z ?_
              rw [← List.append_assoc, ← List.append_assoc]
              exact List.Perm.append_right R List.perm_append_comm
            have c1' := (d9.ctx [] (P ++ R) (fun x hx => (by cases hx)) hPR).perm0 (pm _)
            have c2' := c1'.perm (pm KT)
            rw [← eM, ← eKτ] at c2'
            exact K34.tr c2'
          refine hQ τ ⟨WT_it.mpr ⟨w1, by rw [d10]; omega, ⟨by rw [d1]; omega, by rw [d1]; split <;> omega, by rw [d1]; omega⟩, by rw [d1]; exact W⟩, NC.of d11 (fun i i0 i1 => ?_), eLτ, Kτ, d11, fun _ => ?_⟩
          · rw [d1] at i1
            by_cases q1 : i < k
            · rw [d2 i i0 q1, en1 i i0 (by omega) (by omega)]
              exact (hN.it i i0 (by omega)).fr (koτ i i0 (by omega) (by omega) (by omega))
            · by_cases q2 : i < k + m
              · have a := d5 (i - k) (by omega) (by omega)
                rw [show k + (i - k) = i by omega] at a; exact a
              · have a := d3 (i + 2 - m) (by omega) (by omega)
                rw [show i + 2 - m - 2 + m = i by omega] at a
                rw [a, en1 (i + 2 - m) (by omega) (by omega) (by omega)]
                exact (hN.it (i + 2 - m) (by omega) (by omega)).fr (koτ (i + 2 - m) (by omega) (by omega) (by omega) (by omega))
          · by_cases q1 : k = 0
            · rw [q1] at d8; exact d8
            · show kyE (en σ z 0) ≤ kyE (en τ z 0)
              rw [d2 0 (by omega) (by omega), en1 0 (by omega) (by omega) (by omega)]; exact Int.le_refl _
        unfold wp_Index_take_b112
        have yin : y' ∈ kl σ34 (l + 1) z := inM y' (List.mem_append.mpr (Or.inr (kl_self _ _ _)))
        have yrg : 320 * o ≤ y' ∧ y' < 320 * o + 320 := by
          rcases K34.1 y' yin with w | w
          · exact (hK y' w).2
          · obtain ⟨i, hi', e1⟩ := w
            rw [← e1]; exact (hp.2 i hi'.1 hi'.2).1
        have lokx : lo ≤ ky σ z k := (hT.key k k0 (by omega)).1
        refine sp_mend (l := l) (lox := ky σ z k) (u := nx σ z (k + 1) hi) (n := gI σ 577 z) c1.1 ⟨k0, k1, c5⟩ cz34 (by rw [bb k k0 (by omega), hx']) (by rw [bb (k + 1) (by omega) k1, hy']) TX TY (by rw [lz34]; omega) fz34 NX NY K34.2.2.1.1 (fun w hw => K34.2.2.1.2 w ?_) yrg K34.2.2.2.2.2.1.1 ?_ ?_ (fun τ m1 m2 m3 m4 m5 m6 m7 m8 m9 m10 m11 m12 _ => ?_) (fun τ m1 m2 m3 m4 m5 m6 m7 m8 m9 m10 m11 m12 m13 m14 m15 _ => ?_)
        · rcases List.mem_cons.mp hw with v | v
          · rw [v]; exact kl_self _ _ _
          · exact inM w v
        · have a := K34.2.2.2.2.2.1.2
          have b := nfr_le (σ := σ34) (z :: P) (kl σ34 l x' ++ kl σ34 l y') R
          have e1 : z :: P ++ ((kl σ34 l x' ++ kl σ34 l y') ++ R) = kl σ34 (l + 1) z := by rw [eM]; rfl
          rw [e1] at b
          omega
        · have a := K34.2.2.2.1
          have b := K34.2.2.1.1.1
          rw [eM] at a
          simp only [List.length_cons, List.length_append] at a
          omega
        · have tc := m6.cnt
          have th := (m6.hi (i := 0) (Int.le_refl _) (by omega)).2
          have tk := (m6.key 0 (Int.le_refl _) (by omega)).1
          refine fin τ 1 (kl τ l x') (by omega) (by rw [m1]; omega) m4 (fun i i0 i1 => ?_) (fun i i0 i1 => ?_) (fun i i0 i1 => ?_) ?_ ?_ (by rw [m2]; exact tk) m10 m11 m12
          · rw [m5 (i - 2 + 1) (by omega) (by omega), show i - 2 + 1 + 1 = i by omega]
          · have e1 : i = 0 := by omega
            rw [e1]
            show (lo ≤ kyE (en τ z (k + 0)) ∧ kyE (en τ z (k + 0)) < nxq (fun i => en τ z (k + i)) 1 0 (nx σ z (k + 1) hi)) ∧ itW τ (l + 1) (en τ z (k + 0)) (nxq (fun i => en τ z (k + i)) 1 0 (nx σ z (k + 1) hi))
            have x : nxq (fun i => en τ z (k + i)) 1 0 (nx σ z (k + 1) hi) = nx σ z (k + 1) hi := by unfold nxq; rw [if_neg (by omega)]
            rw [x, show k + 0 = k by omega, m2]
            refine ⟨⟨by omega, th⟩, ?_, ?_⟩
            · show ky τ (be τ z k) 0 = _
              rw [m3, m2]
            · show WT τ l 4 8 (be τ z k) (kyE (en τ z k)) _
              rw [m3, m2]; exact m6.self (by omega)
          · have e1 : i = 0 := by omega
            rw [e1, show k + 0 = k by omega]
            show NC τ l (be τ z k)
            rw [m3]; exact m7
          · show [] ++ itL τ (l + 1) (en τ z (k + ((0 : Nat) : Int))) = _
            rw [List.nil_append, show k + ((0 : Nat) : Int) = k by omega]
            show ls τ l (be τ z k) = _
            rw [m3]; exact m8
          · show [] ++ itK τ (l + 1) (en τ z (k + ((0 : Nat) : Int))) = _
            rw [List.nil_append, show k + ((0 : Nat) : Int) = k by omega]
            show kl τ l (be τ z k) = _
            rw [m3]
        · have tc := m7.cnt
          have th := (m7.hi (i := 0) (Int.le_refl _) (by omega)).2
          have tk := (m7.key 0 (Int.le_refl _) (by omega)).1
          have tc2 := m8.cnt
          have th2 := (m8.hi (i := 0) (Int.le_refl _) (by omega)).2
          refine fin τ 2 (kl τ l x' ++ kl τ l y') (by omega) (by rw [m1]; omega) (fun i i0 i1 => m6 i i0 (by omega) (by omega) (by omega)) (fun i i0 i1 => ?_) (fun i i0 i1 => ?_) (fun i i0 i1 => ?_) ?_ ?_ (by rw [m2]; exact tk) m13 m14 m15
          · rw [show i - 2 + 2 = i by omega]; exact m6 i (by omega) i1 (by omega) (by omega)
          · by_cases e1 : i = 0
            · rw [e1]
              show (lo ≤ kyE (en τ z (k + 0)) ∧ kyE (en τ z (k + 0)) < nxq (fun i => en τ z (k + i)) 2 0 (nx σ z (k + 1) hi)) ∧ itW τ (l + 1) (en τ z (k + 0)) (nxq (fun i => en τ z (k + i)) 2 0 (nx σ z (k + 1) hi))
              have x : nxq (fun i => en τ z (k + i)) 2 0 (nx σ z (k + 1) hi) = ky τ y' 0 := by unfold nxq; rw [if_pos (by omega)]; show kyE (en τ z (k + (0 + 1))) = _; rw [show k + (0 + 1) = k + 1 by omega]; exact m4
              rw [x, show k + 0 = k by omega, m2]
              refine ⟨⟨by omega, th⟩, ?_, ?_⟩
              · show ky τ (be τ z k) 0 = _
                rw [m3, m2]
              · show WT τ l 4 8 (be τ z k) (kyE (en τ z k)) _
                rw [m3, m2]; exact m7.self (by omega)
            · have e2 : i = 1 := by omega
              rw [e2]
              show (lo ≤ kyE (en τ z (k + 1)) ∧ kyE (en τ z (k + 1)) < nxq (fun i => en τ z (k + i)) 2 1 (nx σ z (k + 1) hi)) ∧ itW τ (l + 1) (en τ z (k + 1)) (nxq (fun i => en τ z (k + i)) 2 1 (nx σ z (k + 1) hi))
              have x : nxq (fun i => en τ z (k + i)) 2 1 (nx σ z (k + 1) hi) = nx σ z (k + 1) hi := by unfold nxq; rw [if_neg (by omega)]
              rw [x, m4]
              refine ⟨⟨by omega, th2⟩, ?_, ?_⟩
              · show ky τ (be τ z (k + 1)) 0 = _
                rw [m5, m4]
              · show WT τ l 4 8 (be τ z (k + 1)) (kyE (en τ z (k + 1))) _
                rw [m5, m4]; exact m8.self (by omega)
          · by_cases e1 : i = 0
            · rw [e1, show k + 0 = k by omega]
              show NC τ l (be τ z k)
              rw [m3]; exact m9
            · rw [show i = 1 by omega]
              show NC τ l (be τ z (k + 1))
              rw [m5]; exact m10
          · show ([] ++ itL τ (l + 1) (en τ z (k + ((0 : Nat) : Int)))) ++ itL τ (l + 1) (en τ z (k + ((1 : Nat) : Int))) = _
            rw [List.nil_append, show k + ((0 : Nat) : Int) = k by omega, show k + ((1 : Nat) : Int) = k + 1 by omega]
            show ls τ l (be τ z k) ++ ls τ l (be τ z (k + 1)) = _
            rw [m3, m5]; exact m11
          · show ([] ++ itK τ (l + 1) (en τ z (k + ((0 : Nat) : Int)))) ++ itK τ (l + 1) (en τ z (k + ((1 : Nat) : Int))) = _
            rw [List.nil_append, show k + ((0 : Nat) : Int) = k by omega, show k + ((1 : Nat) : Int) = k + 1 by omega]
            show kl τ l (be τ z k) ++ kl τ l (be τ z (k + 1)) = _
            rw [m3, m5]
      exact ⟨fun q => by rw [w32_id (by unfold rI; omega)]; exact mend (c - 1) (by omega) (by omega) (Or.inr (by omega)), fun q => mend 0 (by omega) (by omega) (Or.inl q.symm)⟩
