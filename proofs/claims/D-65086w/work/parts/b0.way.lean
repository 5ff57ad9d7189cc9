/-! the way to a key; an entry leads elsewhere -/
theorem WT.ent {σ : St} : ∀ {l : Nat} {mn mx z lo hi : Int}, WT σ l mn mx z lo hi → ∀ {x k : Int}, x ∈ kl σ l z → gI σ 576 x = 0 → 0 ≤ k → k < gI σ 577 x → en σ x k ∈ ls σ l z
  | 0, mn, mx, z, lo, hi, h, x, k, hx, _, k0, k1 => by
    have e : x = z := List.mem_singleton.mp hx
    rw [e] at k1 ⊢
    exact mem_cat (f := fun k => [en σ z k]) k0 (by omega) (List.mem_singleton.mpr rfl)
  | l + 1, mn, mx, z, lo, hi, h, x, k, hx, h0, k0, k1 => by
    rcases List.mem_cons.mp hx with e | hx
    · have := h.2.1
      rw [e] at h0; omega
    · obtain ⟨i, hi', hx'⟩ := cat_mem hx
      have c := h.cnt
      exact mem_cat (f := fun k => ls σ l (be σ z k)) hi'.1 hi'.2 ((h.2.2.2 i hi'.1 (by omega)).2.2.ent hx' h0 k0 k1)
def TWo (σ τ : St) (o : Int) (l : Nat) (z κ : Int) : Prop := (∀ x, KE σ τ x) ∧ CH σ τ o (kl σ l z) (kl σ l z) ∧ NC τ l z ∧ ∀ x, x ∈ kl σ l z → gI σ 576 x = 0 → (∃ k, (0 ≤ k ∧ k < gI σ 577 x) ∧ ky σ x k = κ) → gI τ 584 x ≠ 0
theorem sp_touchWay {tv : Nat → Int} {cf : Cf} {σ : St} {o h lw : Int} {L : List (Int × Int × Int × Int × Int × Int)} {Q : St → Prop} (hrk : RK σ) (hlw : rJ lw) (hI : IX σ o L)
    (hQ : ∀ τ l z, gI σ 387 o = z → WT σ l (if l = 0 then 0 else 2) 8 z (-BIG) BIG → TWo σ τ o l z (kap h lw) → Q τ) : wp_Index_touchWay cf tv o h lw Q σ := by
  obtain ⟨l, z, i1, i2, i3, i4, i5, i6, i7, i8, i9⟩ := hI
  have c := i2.cnt
  unfold wp_Index_touchWay
  intro y ey
  rw [ey, i1]
  -- the row of knots, that at hand first
  have spl : ∀ (υ : St) (l : Nat) (z : Int), kl υ l z = [] ++ ([z] ++ cat (fun k => itK υ l (en υ z k)) (gI υ 577 z).toNat) := fun υ l z => by rw [kl_it]; rfl
  refine sp_touch c.1.1 (fun q => ⟨i8, by have := nfr_pos (kl_self σ l z) q; omega⟩) (fun σ1 t1 t2 t3 t4 t5 t6 t7 k1 => ?_)
  have zF := (i6 z (kl_self σ l z)).1
  have C1 : CH σ σ1 o [z] [z] := CH.touch i5 zF i8 t1 t4 t5 t6 t7
  obtain ⟨w1, w2, w3, w4⟩ := WT_it.mp i2
  have K1 : CH σ σ1 o (kl σ l z) (kl σ l z) := by
    rw [spl σ l z]
    refine C1.ctx [] _ (fun x hx => (by cases hx)) (fun x hx => ?_)
    obtain ⟨i, hi', hx'⟩ := cat_mem hx
    refine ⟨fun q => ?_, (i6 x ?_).1⟩
    · have := itK_lev w4 hi'.1 (by omega) hx'
      rw [List.mem_singleton.mp q, w2] at this; omega
    · rw [spl σ l z]; exact List.mem_cons_of_mem _ hx
  have ke1 : ∀ x, KE σ σ1 x := fun x => KE.tc t7 x
  obtain ⟨e1, e2⟩ := tr_fr (σ := σ) (τ := σ1) l z (fun x _ => ke1 x)
  have N1 : NC σ1 l z := NC.of t1 (fun k k0 k1 => by
    rw [(ke1 z).2.1] at k1
    rw [(ke1 z).2.2]
    refine (i3.it k k0 k1).fr (fun x hx => ⟨ke1 x, OE.tc t7 (fun q => ?_)⟩)
    have := itK_lev w4 k0 k1 hx
    rw [q, w2] at this; omega)
  refine lQ1_rule (fun y τ => ∃ (l : Nat) (mn lo hi : Int), WT τ l mn 8 y lo hi ∧ NC τ l y ∧ gI τ 584 y ≠ 0 ∧ RK τ ∧ PO τ o ∧ (∀ x, x ∈ kl τ l y → ¬ FP τ o x) ∧ 0 ≤ gI τ 390 o ∧ gI τ 390 o + nfr τ (kl τ l y) ≤ 640 ∧ ∀ τ', TWo τ τ' o l y (kap h lw) → Q τ') (fun y τ => (gI τ 576 y).toNat) ?_ z σ1 ⟨l, _, _, _, i2.fr (fun x _ => ke1 x), N1, t1, k1, K1.2.2.1.1, fun x hx => K1.2.2.1.2 x (by rw [← e2]; exact hx), K1.2.2.2.2.2.1.1, by rw [e2]; have := K1.2.2.2.2.2.1.2; omega, fun τ' w => hQ τ' l z i1 i2 ?_⟩
  · intro K y τ hJ hK
    obtain ⟨l, mn, lo, hi, jT, jN, jf, jk, jp, jF, j0, j64, jQ⟩ := hJ
    obtain ⟨c1, c2, c3, c4, c5⟩ := jT.cnt
    unfold wp_Index_touchWay_L12
    refine ⟨c1.1, fun q => ?_, fun q => ?_⟩
    · have e0 : l = 0 := by omega
      subst e0
      refine jQ τ ⟨fun x => KE.rf τ x, CH.rf jp jF j0, trivial, fun x hx _ _ => ?_⟩
      rw [List.mem_singleton.mp hx]; exact jf
    · obtain ⟨m, rfl⟩ : ∃ m, l = m + 1 := ⟨l - 1, by omega⟩
      have c6 := jT.2.2.1.2.1
      refine sp_slot jk hlw (by omega) (fun r s1 s2 s3 _ _ => ⟨by omega, fun y' ey' => ?_⟩)
      generalize hc' : max 0 r = c at *
      have hc : 0 ≤ c ∧ c < gI τ 577 y := by omega
      have ey2 : y' = be τ y c := ey'
      have g := jT.2.2.2 c hc.1 hc.2
      have gN := (jN c hc.1 hc.2).2
      rw [← ey2] at g gN
      have gc := g.2.2.cnt
      have top : ∀ i, 0 ≤ i → i < gI τ 577 y → y ∉ kl τ m (be τ y i) := fun i a b => jT.top a b
      have inK : ∀ i, 0 ≤ i → i < gI τ 577 y → ∀ x, x ∈ kl τ m (be τ y i) → x ∈ kl τ (m + 1) y := fun i a b x hx => kl_below a b hx
      generalize hX : cat (fun k => kl τ m (be τ y k)) c.toNat = X
      generalize hY : cat (fun i => kl τ m (be τ y (c + 1 + i))) ((gI τ 577 y).toNat - c.toNat - 1) = Y
      have eK : kl τ (m + 1) y = (y :: X) ++ (kl τ m y' ++ Y) := by
        show y :: cat _ _ = _
        rw [cat_at _ hc.1 (by omega : c < ((gI τ 577 y).toNat : Int)), hX, hY, ← ey2]; rfl
      have eK2 : kl τ (m + 1) y = (y :: X) ++ ([y'] ++ (cat (fun k => itK τ m (en τ y' k)) (gI τ 577 y').toNat ++ Y)) := by
        rw [eK, spl τ m y']; rfl
      have memX : ∀ x, x ∈ y :: X → x ∉ kl τ m y' := by
        intro x hx
        rw [ey2]
        rcases List.mem_cons.mp hx with w | w
        · rw [w]; exact top c hc.1 hc.2
        · rw [← hX] at w
          obtain ⟨i, hi', hx'⟩ := cat_mem w
          exact jT.dis hi'.1 (by omega) hc.1 hc.2 (by omega) hx'
      have memY : ∀ x, x ∈ Y → x ∉ kl τ m y' := by
        intro x hx
        rw [ey2]
        rw [← hY] at hx
        obtain ⟨i, hi', hx'⟩ := cat_mem hx
        exact jT.dis (i := c + 1 + i) (by omega) (by omega) hc.1 hc.2 (by omega) hx'
      obtain ⟨v1, v2, v3, v4⟩ := WT_it.mp g.2.2
      have yin : y' ∈ kl τ (m + 1) y := by rw [eK]; exact List.mem_append.mpr (Or.inr (List.mem_append.mpr (Or.inl (kl_self _ _ _))))
      have hol : gI τ 584 y' = 0 → gI τ 390 o < 640 := by
        intro w
        have n1 : nfr τ [y'] = 1 := by rw [nfr_cons, if_pos w]; rfl
        rw [eK2, nfr_app, nfr_app, n1] at j64
        omega
      refine sp_touch gc.1.1 (fun w => ⟨j0, hol w⟩) (fun τ1 a1 a2 a3 a4 a5 a6 a7 k2 => ?_)
      have D1 : CH τ τ1 o [y'] [y'] := CH.touch jp (jF y' yin) j0 a1 a4 a5 a6 a7
      have ke2 : ∀ x, KE τ τ1 x := fun x => KE.tc a7 x
      obtain ⟨f1, f2⟩ := tr_fr (σ := τ) (τ := τ1) m y' (fun x _ => ke2 x)
      have E1 : CH τ τ1 o (kl τ (m + 1) y) (kl τ (m + 1) y) := by
        rw [eK2]
        refine D1.ctx (y :: X) _ (fun x hx => ⟨fun w => memX x hx (by rw [List.mem_singleton.mp w]; exact kl_self _ _ _), jF x (by rw [eK]; exact List.mem_append.mpr (Or.inl hx))⟩) (fun x hx => ?_)
        rcases List.mem_append.mp hx with w | w
        · obtain ⟨i, hi', hx'⟩ := cat_mem w
          refine ⟨fun u => ?_, jF x ?_⟩
          · have := itK_lev v4 hi'.1 (by omega) hx'
            rw [List.mem_singleton.mp u, v2] at this; omega
          · rw [eK, spl τ m y']
            exact List.mem_append.mpr (Or.inr (List.mem_append.mpr (Or.inl (List.mem_cons_of_mem _ w))))
        · exact ⟨fun u => memY x w (by rw [List.mem_singleton.mp u]; exact kl_self _ _ _), jF x (by rw [eK]; exact List.mem_append.mpr (Or.inr (List.mem_append.mpr (Or.inr w))))⟩
      have N2 : NC τ1 m y' := NC.of a1 (fun k k0 k1 => by
        rw [(ke2 y').2.1] at k1
        rw [(ke2 y').2.2]
        refine (gN.it k k0 k1).fr (fun x hx => ⟨ke2 x, OE.tc a7 (fun q => ?_)⟩)
        have := itK_lev v4 k0 k1 hx
        rw [q, v2] at this; omega)
      refine hK y' τ1 ⟨m, 4, _, _, g.2.2.fr (fun x _ => ke2 x), N2, a1, k2, E1.2.2.1.1, fun x hx => E1.2.2.1.2 x ?_, E1.2.2.2.2.2.1.1, ?_, fun τ' w => jQ τ' ?_⟩ (by rw [(ke2 y').1, gc.2.1, c2]; omega)
      · rw [f2] at hx
        rw [eK]; exact List.mem_append.mpr (Or.inr (List.mem_append.mpr (Or.inl hx)))
      · rw [f2]
        have a := E1.2.2.2.2.2.1.2
        have b := nfr_le (σ := τ1) (y :: X) (kl τ m y') Y
        rw [← eK] at b
        omega
      · obtain ⟨u1, u2, u3, u4⟩ := w
        rw [f2] at u2 u4
        have E2 : CH τ1 τ' o (kl τ (m + 1) y) (kl τ (m + 1) y) := by
          rw [eK]
          refine u2.ctx (y :: X) Y (fun x hx => ⟨memX x hx, E1.2.2.1.2 x (by rw [eK]; exact List.mem_append.mpr (Or.inl hx))⟩) (fun x hx => ⟨memY x hx, E1.2.2.1.2 x (by rw [eK]; exact List.mem_append.mpr (Or.inr (List.mem_append.mpr (Or.inr hx)))) ⟩)
        have oth : ∀ x, x ∈ kl τ (m + 1) y → x ∉ kl τ m y' → OE τ τ' x := by
          intro x hx nx
          have ny : x ≠ y' := fun e => nx (e ▸ kl_self τ m y')
          exact (OE.tc a7 ny).tr (u2.ke nx (E1.2.2.1.2 x hx)).2
        refine ⟨fun x => (ke2 x).tr (u1 x), E1.tr E2, ?_, fun x hx lx ex => ?_⟩
        · refine NC.of ?_ (fun k k0 k1 => ?_)
          · rw [(oth y (kl_self _ _ _) (memX y List.mem_cons_self)).1]; exact jf
          · rw [((ke2 y).tr (u1 y)).2.1] at k1
            rw [((ke2 y).tr (u1 y)).2.2]
            by_cases e : k = c
            · show NC τ' m (be τ y k)
              rw [e, ← ey2]; exact u3
            · refine (jN.it k k0 k1).fr (fun x hx => ⟨(ke2 x).tr (u1 x), oth x (kl_below k0 k1 hx) ?_⟩)
              rw [ey2]; exact jT.dis k0 k1 hc.1 hc.2 e hx
        · obtain ⟨k, hk, ek⟩ := ex
          rcases List.mem_cons.mp hx with e | hx'
          · rw [e] at lx; omega
          · obtain ⟨i, hi', hx2⟩ := cat_mem hx'
            have gi := jT.2.2.2 i hi'.1 (by omega)
            have rg := gi.2.2.rng _ (gi.2.2.ent hx2 lx hk.1 hk.2)
            have rg' : ky τ y i ≤ kap h lw ∧ kap h lw < nx τ y i hi := by rw [← ek]; exact rg
            have ic : i = c := by
              apply Classical.byContradiction
              intro ne
              by_cases r0 : 0 ≤ r
              · have cr : c = r := by omega
                have b := s3 r0
                by_cases lt : i < c
                · have := (jT.ord (i := i) (j := c) hi'.1 lt hc.2).1
                  rw [cr] at this; omega
                · have := s2 i (by omega) (by omega)
                  omega
              · have := s2 i (by omega) (by omega)
                omega
            rw [ic, ← ey2] at hx2
            exact u4 x hx2 (by rw [(ke2 x).1]; exact lx) ⟨k, by rw [(ke2 x).2.1]; exact hk, by rw [(ke2 x).k]; exact ek⟩
  · obtain ⟨u1, u2, u3, u4⟩ := w
    rw [e2] at u2 u4
    exact ⟨fun x => (ke1 x).tr (u1 x), K1.tr u2, u3, fun x hx lx ex => u4 x hx (by rw [(ke1 x).1]; exact lx) (by
      obtain ⟨k, hk, ek⟩ := ex
      exact ⟨k, by rw [(ke1 x).2.1]; exact hk, by rw [(ke1 x).k]; exact ek⟩)⟩
theorem map_cat {α β : Type} {f : Int → List α} {g : α → β} : ∀ n : Nat, (cat f n).map g = cat (fun i => (f i).map g) n
  | 0 => rfl
  | n + 1 => by
    show (cat f n ++ f n).map g = cat _ n ++ _
    rw [List.map_append, map_cat n]
theorem map_no {κ : Int} {e' : Int × Int × Int × Int × Int × Int} {L : List (Int × Int × Int × Int × Int × Int)} (h : ∀ a, a ∈ L → kyE a ≠ κ) : L.map (fun a => if kyE a = κ then e' else a) = L := by
  have : L.map (fun a => if kyE a = κ then e' else a) = L.map (fun a => a) := List.map_congr_left (fun a ha => if_neg (h a ha))
  rw [this]; exact List.map_id' L
/-- an entry of a leaf becomes another one with the same key -/
theorem WT.setE {σ τ : St} {x k κ : Int} {e' : Int × Int × Int × Int × Int × Int} (hE : ∀ z' k', en τ z' k' = if z' = x ∧ k' = k then e' else en σ z' k') (hl : ∀ z, gI τ 576 z = gI σ 576 z) (hcn : ∀ z, gI τ 577 z = gI σ 577 z) (h1 : kyE e' = κ) (h2 : ky σ x k = κ) (h3 : e'.2.2.2.2.2 = -1) (lx : gI σ 576 x = 0) (hk : 0 ≤ k ∧ k < gI σ 577 x) : ∀ {l : Nat} {mn mx z lo hi : Int}, WT σ l mn mx z lo hi → x ∈ kl σ l z → WT τ l mn mx z lo hi ∧ kl τ l z = kl σ l z ∧ ls τ l z = (ls σ l z).map (fun a => if kyE a = κ then e' else a) := by
  have ke : ∀ w, w ≠ x → KE σ τ w := fun w hw => ⟨hl w, hcn w, fun i => by rw [hE, if_neg (fun q => hw q.1)]⟩
  have kk : ∀ w i, ky τ w i = ky σ w i := by
    intro w i
    show kyE (en τ w i) = kyE (en σ w i)
    rw [hE]
    by_cases q : w = x ∧ i = k
    · rw [if_pos q, h1, q.1, q.2]; exact h2.symm
    · rw [if_neg q]
  have nn : ∀ w i hi, nx τ w i hi = nx σ w i hi := fun w i hi => by unfold nx; rw [hcn, kk]
  intro l
  induction l with
  | zero =>
    intro mn mx z lo hi h hx
    have e : x = z := List.mem_singleton.mp hx
    subst e
    obtain ⟨g1, g2, g3, g4⟩ := id h
    refine ⟨⟨g1, by rw [hl]; exact g2, by rw [hcn]; exact g3, fun i i0 i1 => ?_⟩, rfl, ?_⟩
    · rw [hcn] at i1
      rw [kk, nn]
      refine ⟨(g4 i i0 i1).1, ?_⟩
      unfold be
      rw [hE]
      by_cases q : x = x ∧ i = k
      · rw [if_pos q]; exact h3
      · rw [if_neg q]; exact (g4 i i0 i1).2
    · show cat _ _ = _
      show _ = (cat (fun k => [en σ x k]) (gI σ 577 x).toNat).map _
      rw [map_cat, hcn]
      refine cat_ext _ (fun i a b => ?_)
      show [en τ x i] = [if kyE (en σ x i) = κ then e' else en σ x i]
      rw [hE]
      by_cases q : i = k
      · have h2' : kyE (en σ x k) = κ := h2
        rw [if_pos ⟨rfl, q⟩, q, if_pos h2']
      · have ne : kyE (en σ x i) ≠ κ := by
          intro w
          have w' : ky σ x i = ky σ x k := w.trans h2.symm
          rcases Int.lt_or_gt_of_ne q with u | u
          · have := (h.ord (i := i) (j := k) a u hk.2).2
            omega
          · have := (h.ord (i := k) (j := i) hk.1 u (by omega)).2
            omega
        rw [if_neg (fun w => q w.2), if_neg ne]
  | succ l ih =>
    intro mn mx z lo hi h hx
    obtain ⟨g1, g2, g3, g4⟩ := id h
    have xz : x ≠ z := fun e => by rw [e] at lx; omega
    have kz := ke z (fun e => xz e.symm)
    rcases List.mem_cons.mp hx with e | hx
    · exact absurd e xz
    obtain ⟨j, hj, hx⟩ := cat_mem hx
    have gj := g4 j hj.1 (by omega)
    have rj := gj.2.2.rng _ (gj.2.2.ent hx lx hk.1 hk.2)
    have rj' : ky σ z j ≤ κ ∧ κ < nx σ z j hi := by rw [← h2]; exact rj
    have oth : ∀ i, 0 ≤ i → i < gI σ 577 z → i ≠ j → x ∉ kl σ l (be σ z i) := fun i a b ne w => h.dis a b hj.1 (by omega) ne w hx
    have res : ∀ i, 0 ≤ i → i < gI σ 577 z → WT τ l 4 8 (be σ z i) (ky σ z i) (nx σ z i hi) ∧ kl τ l (be σ z i) = kl σ l (be σ z i) ∧ ls τ l (be σ z i) = (ls σ l (be σ z i)).map (fun a => if kyE a = κ then e' else a) := by
      intro i i0 i1
      have gi := g4 i i0 i1
      by_cases e : i = j
      · rw [e] at gi ⊢
        exact ih gi.2.2 hx
      · have o := oth i i0 i1 e
        have kw : ∀ w, w ∈ kl σ l (be σ z i) → KE σ τ w := fun w hw => ke w (fun q => o (q ▸ hw))
        obtain ⟨a, b⟩ := tr_fr (σ := σ) (τ := τ) l (be σ z i) kw
        refine ⟨gi.2.2.fr kw, b, ?_⟩
        rw [a, map_no]
        intro w hw q
        have r := gi.2.2.rng w hw
        rcases Int.lt_or_gt_of_ne e with u | u
        · have := (h.ord (i := i) (j := j) i0 u (by omega)).1
          omega
        · have := (h.ord (i := j) (j := i) hj.1 u i1).1
          omega
    refine ⟨⟨g1, by rw [hl]; exact g2, by rw [hcn]; exact g3, fun i i0 i1 => ?_⟩, ?_, ?_⟩
    · rw [hcn] at i1
      rw [kk, nn, kz.b, kk]
      exact ⟨(g4 i i0 i1).1, (g4 i i0 i1).2.1, (res i i0 i1).1⟩
    · show z :: cat _ _ = z :: cat _ _
      rw [hcn]
      congr 1
      exact cat_ext _ (fun i a b => by rw [kz.b]; exact (res i a (by omega)).2.1)
    · show cat _ _ = (cat (fun k => ls σ l (be σ z k)) (gI σ 577 z).toNat).map _
      rw [map_cat, hcn]
      exact cat_ext _ (fun i a b => by rw [kz.b]; exact (res i a (by omega)).2.2)
