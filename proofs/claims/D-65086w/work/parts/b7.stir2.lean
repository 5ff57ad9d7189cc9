/-! a knot of the index is to be written anew -/
def TSo (σ τ : St) (o : Int) (l : Nat) (z : Int) : Prop := (∀ x, KE σ τ x) ∧ CH σ τ o (kl σ l z) (kl σ l z) ∧ NC τ l z
theorem sp_stirWay {tv : Nat → Int} {cf : Cf} {σ : St} {o h lw lev x6 x7 : Int} {L : List (Int × Int × Int × Int × Int × Int)} {Q : St → Prop} (hlw : rJ lw) (hlev : 0 ≤ lev) (hI : IX σ o L)
    (hQ : ∀ τ l z, gI σ 387 o = z → WT σ l (if l = 0 then 0 else 2) 8 z (-BIG) BIG → TSo σ τ o l z → Q τ) : wp_Index_touch cf tv o (gI σ 387 o) (fun σ1 => RK σ1 → lQ1 (wp_Index_stir_L88 cf tv o lev h lw x6 x7 Q) (gI σ 387 o) σ1) σ := by
  obtain ⟨l, z, i1, i2, i3, i4, i5, i6, i7, i8, i9⟩ := hI
  have c := i2.cnt
  rw [i1]
  -- the row of knots, that at hand first
  have spl : ∀ (υ : St) (l : Nat) (z : Int), kl υ l z = [] ++ ([z] ++ cat (fun k => itK υ l (en υ z k)) (gI υ 577 z).toNat) := fun υ l z => by rw [kl_it]; rfl
  refine sp_touch c.1.1 (fun q => ⟨i8, by have := nfr_pos (kl_self σ l z) q; omega⟩) (fun σ1 t1 t2 t3 t4 t5 t6 t7 k1 => ?_)
  have zF := (i6 z (kl_self σ l z)).1
  have C1 : CH σ σ1 o [z] [z] := CH.touch i5 zF i8 t1 t4 t5 t6 t7
  obtain ⟨w1, w2, w3, w4⟩ := WT_it.mp i2
  have K1 : CH σ σ1 o (kl σ l z) (kl σ l z) := by
    rw [spl σ l z]
    refine C1.ctx [] _ (fun x hx => (by cases hx)) (fun x hx => ?_)
    obtain ⟨i, hi', hx'⟩ := cat_mem hx
    refine ⟨fun q => ?_, (i6 x ?_).1⟩
    · have := itK_lev w4 hi'.1 (by omega) hx'
      rw [List.mem_singleton.mp q, w2] at this; omega
    · rw [spl σ l z]; exact List.mem_cons_of_mem _ hx
  have ke1 : ∀ x, KE σ σ1 x := fun x => KE.tc t7 x
  obtain ⟨e1, e2⟩ := tr_fr (σ := σ) (τ := σ1) l z (fun x _ => ke1 x)
  have N1 : NC σ1 l z := NC.of t1 (fun k k0 k1 => by
    rw [(ke1 z).2.1] at k1
    rw [(ke1 z).2.2]
    refine (i3.it k k0 k1).fr (fun x hx => ⟨ke1 x, OE.tc t7 (fun q => ?_)⟩)
    have := itK_lev w4 k0 k1 hx
    rw [q, w2] at this; omega)
  refine lQ1_rule (fun y τ => ∃ (l : Nat) (mn lo hi : Int), WT τ l mn 8 y lo hi ∧ NC τ l y ∧ gI τ 584 y ≠ 0 ∧ RK τ ∧ PO τ o ∧ (∀ x, x ∈ kl τ l y → ¬ FP τ o x) ∧ 0 ≤ gI τ 390 o ∧ gI τ 390 o + nfr τ (kl τ l y) ≤ 640 ∧ ∀ τ', TSo τ τ' o l y → Q τ') (fun y τ => (gI τ 576 y).toNat) ?_ z σ1 ⟨l, _, _, _, i2.fr (fun x _ => ke1 x), N1, t1, k1, K1.2.2.1.1, fun x hx => K1.2.2.1.2 x (by rw [← e2]; exact hx), K1.2.2.2.2.2.1.1, by rw [e2]; have := K1.2.2.2.2.2.1.2; omega, fun τ' w => hQ τ' l z i1 i2 ?_⟩
  · intro K y τ hJ hK
    obtain ⟨l, mn, lo, hi, jT, jN, jf, jk, jp, jF, j0, j64, jQ⟩ := hJ
    obtain ⟨c1, c2, c3, c4, c5⟩ := jT.cnt
    unfold wp_Index_stir_L88
    refine ⟨c1.1, fun q => ?_, fun q => ?_⟩
    · exact jQ τ ⟨fun x => KE.rf τ x, CH.rf jp jF j0, jN⟩
    · obtain ⟨m, rfl⟩ : ∃ m, l = m + 1 := ⟨l - 1, by omega⟩
      have c6 := jT.2.2.1.2.1
      refine sp_slot jk hlw (by omega) (fun r s1 s2 s3 _ _ => ⟨by omega, fun y' ey' => ?_⟩)
      generalize hc' : max 0 r = c at *
      have hc : 0 ≤ c ∧ c < gI τ 577 y := by omega
      have ey2 : y' = be τ y c := ey'
      have g := jT.2.2.2 c hc.1 hc.2
      have gN := (jN c hc.1 hc.2).2
      rw [← ey2] at g gN
      have gc := g.2.2.cnt
      have top : ∀ i, 0 ≤ i → i < gI τ 577 y → y ∉ kl τ m (be τ y i) := fun i a b => jT.top a b
      have inK : ∀ i, 0 ≤ i → i < gI τ 577 y → ∀ x, x ∈ kl τ m (be τ y i) → x ∈ kl τ (m + 1) y := fun i a b x hx => kl_below a b hx
      generalize hX : cat (fun k => kl τ m (be τ y k)) c.toNat = X
      generalize hY : cat (fun i => kl τ m (be τ y (c + 1 + i))) ((gI τ 577 y).toNat - c.toNat - 1) = Y
      have eK : kl τ (m + 1) y = (y :: X) ++ (kl τ m y' ++ Y) := by
        show y :: cat _ _ = _
        rw [cat_at _ hc.1 (by omega : c < ((gI τ 577 y).toNat : Int)), hX, hY, ← ey2]; rfl
      have eK2 : kl τ (m + 1) y = (y :: X) ++ ([y'] ++ (cat (fun k => itK τ m (en τ y' k)) (gI τ 577 y').toNat ++ Y)) := by
        rw [eK, spl τ m y']; rfl
      have memX : ∀ x, x ∈ y :: X → x ∉ kl τ m y' := by
        intro x hx
        rw [ey2]
        rcases List.mem_cons.mp hx with w | w
        · rw [w]; exact top c hc.1 hc.2
        · rw [← hX] at w
          obtain ⟨i, hi', hx'⟩ := cat_mem w
          exact jT.dis hi'.1 (by omega) hc.1 hc.2 (by omega) hx'
      have memY : ∀ x, x ∈ Y → x ∉ kl τ m y' := by
        intro x hx
        rw [ey2]
        rw [← hY] at hx
        obtain ⟨i, hi', hx'⟩ := cat_mem hx
        exact jT.dis (i := c + 1 + i) (by omega) (by omega) hc.1 hc.2 (by omega) hx'
      obtain ⟨v1, v2, v3, v4⟩ := WT_it.mp g.2.2
      have yin : y' ∈ kl τ (m + 1) y := by rw [eK]; exact List.mem_append.mpr (Or.inr (List.mem_append.mpr (Or.inl (kl_self _ _ _))))
      have hol : gI τ 584 y' = 0 → gI τ 390 o < 640 := by
        intro w
        have n1 : nfr τ [y'] = 1 := by rw [nfr_cons, if_pos w]; rfl
        rw [eK2, nfr_app, nfr_app, n1] at j64
        omega
      refine sp_touch gc.1.1 (fun w => ⟨j0, hol w⟩) (fun τ1 a1 a2 a3 a4 a5 a6 a7 k2 => ?_)
      have D1 : CH τ τ1 o [y'] [y'] := CH.touch jp (jF y' yin) j0 a1 a4 a5 a6 a7
      have ke2 : ∀ x, KE τ τ1 x := fun x => KE.tc a7 x
      obtain ⟨f1, f2⟩ := tr_fr (σ := τ) (τ := τ1) m y' (fun x _ => ke2 x)
      have E1 : CH τ τ1 o (kl τ (m + 1) y) (kl τ (m + 1) y) := by
        rw [eK2]
        refine D1.ctx (y :: X) _ (fun x hx => ⟨fun w => memX x hx (by rw [List.mem_singleton.mp w]; exact kl_self _ _ _), jF x (by rw [eK]; exact List.mem_append.mpr (Or.inl hx))⟩) (fun x hx => ?_)
        rcases List.mem_append.mp hx with w | w
        · obtain ⟨i, hi', hx'⟩ := cat_mem w
          refine ⟨fun u => ?_, jF x ?_⟩
          · have := itK_lev v4 hi'.1 (by omega) hx'
            rw [List.mem_singleton.mp u, v2] at this; omega
          · rw [eK, spl τ m y']
            exact List.mem_append.mpr (Or.inr (List.mem_append.mpr (Or.inl (List.mem_cons_of_mem _ w))))
        · exact ⟨fun u => memY x w (by rw [List.mem_singleton.mp u]; exact kl_self _ _ _), jF x (by rw [eK]; exact List.mem_append.mpr (Or.inr (List.mem_append.mpr (Or.inr w))))⟩
      have N2 : NC τ1 m y' := NC.of a1 (fun k k0 k1 => by
        rw [(ke2 y').2.1] at k1
        rw [(ke2 y').2.2]
        refine (gN.it k k0 k1).fr (fun x hx => ⟨ke2 x, OE.tc a7 (fun q => ?_)⟩)
        have := itK_lev v4 k0 k1 hx
        rw [q, v2] at this; omega)
      refine hK y' τ1 ⟨m, 4, _, _, g.2.2.fr (fun x _ => ke2 x), N2, a1, k2, E1.2.2.1.1, fun x hx => E1.2.2.1.2 x ?_, E1.2.2.2.2.2.1.1, ?_, fun τ' w => jQ τ' ?_⟩ (by rw [(ke2 y').1, gc.2.1, c2]; omega)
      · rw [f2] at hx
        rw [eK]; exact List.mem_append.mpr (Or.inr (List.mem_append.mpr (Or.inl hx)))
      · rw [f2]
        have a := E1.2.2.2.2.2.1.2
        have b := nfr_le (σ := τ1) (y :: X) (kl τ m y') Y
        rw [← eK] at b
        omega
      · obtain ⟨u1, u2, u3⟩ := w
        rw [f2] at u2
        have E2 : CH τ1 τ' o (kl τ (m + 1) y) (kl τ (m + 1) y) := by
          rw [eK]
          refine u2.ctx (y :: X) Y (fun x hx => ⟨memX x hx, E1.2.2.1.2 x (by rw [eK]; exact List.mem_append.mpr (Or.inl hx))⟩) (fun x hx => ⟨memY x hx, E1.2.2.1.2 x (by rw [eK]; exact List.mem_append.mpr (Or.inr (List.mem_append.mpr (Or.inr hx)))) ⟩)
        have oth : ∀ x, x ∈ kl τ (m + 1) y → x ∉ kl τ m y' → OE τ τ' x := by
          intro x hx nx
          have ny : x ≠ y' := fun e => nx (e ▸ kl_self τ m y')
          exact (OE.tc a7 ny).tr (u2.ke nx (E1.2.2.1.2 x hx)).2
        refine ⟨fun x => (ke2 x).tr (u1 x), E1.tr E2, ?_⟩
        · refine NC.of ?_ (fun k k0 k1 => ?_)
          · rw [(oth y (kl_self _ _ _) (memX y List.mem_cons_self)).1]; exact jf
          · rw [((ke2 y).tr (u1 y)).2.1] at k1
            rw [((ke2 y).tr (u1 y)).2.2]
            by_cases e : k = c
            · show NC τ' m (be τ y k)
              rw [e, ← ey2]; exact u3
            · refine (jN.it k k0 k1).fr (fun x hx => ⟨(ke2 x).tr (u1 x), oth x (kl_below k0 k1 hx) ?_⟩)
              rw [ey2]; exact jT.dis k0 k1 hc.1 hc.2 e hx
  · obtain ⟨u1, u2, u3⟩ := w
    rw [e2] at u2
    exact ⟨fun x => (ke1 x).tr (u1 x), K1.tr u2, u3⟩
theorem sp_stir {tv : Nat → Int} {cf : Cf} {σ : St} {o h lw lev x6 x7 : Int} {L : List (Int × Int × Int × Int × Int × Int)} {Q : St → Prop} (hrk : RK σ) (hlw : rJ lw) (hlev : 0 ≤ lev) (hI : IX σ o L) (h0 : Q σ)
    (hQ : ∀ τ, IX τ o L → CK σ τ o → (∀ x, KE σ τ x) → krt τ o = krt σ o → gA τ 324 o = gA σ 324 o → Fr (mIx o) σ τ → Q τ) : wp_Index_stir cf tv o lev h lw x6 x7 Q σ := by
  obtain ⟨l, z, i1, i2, i3, i4, i5, i6, i7, i8, i9⟩ := id hI
  unfold wp_Index_stir
  intro y ey
  rw [ey, i1]
  refine lQ1_rule (fun y τ => τ = σ ∧ ∃ (lz : Nat) (mn lo hi : Int), WT σ lz mn 8 y lo hi) (fun y τ => (gI τ 576 y).toNat) ?_ z σ ⟨rfl, l, _, _, _, i2⟩
  intro K y τ hJ hK
  obtain ⟨rfl, lz, mn, lo, hi, hW⟩ := hJ
  obtain ⟨c1, c2, c3, c4, c5⟩ := hW.cnt
  unfold wp_Index_stir_L6
  refine ⟨c1.1, fun q => ⟨fun _ => h0, fun _ => ⟨fun _ => h0, fun _ => ⟨fun _ => h0, fun _ => ⟨fun _ y9 e9 => ?_, fun _ => h0⟩⟩⟩⟩, fun q => ?_⟩
  · rw [e9]
    refine sp_stirWay hlw hlev hI (fun φ l' z' g1 g2 g3 => ?_)
    have ez : z' = z := g1.symm.trans i1
    have el : l' = l := by
      have a := g2.cnt.2.1
      have b := i2.cnt.2.1
      rw [ez] at a; omega
    subst ez el
    obtain ⟨w1, w2, w3⟩ := g3
    obtain ⟨t1, t2⟩ := tr_fr (σ := τ) (τ := φ) l' z' (fun x _ => w1 x)
    have rt : gI φ 387 o = z' := by rw [w2.2.2.2.2.2.2.2.2.i _ _ (fun q => by unfold mCh at q; omega)]; exact i1
    obtain ⟨r1, r2, r3⟩ := IX.of (υ := φ) i1 i2.cnt.2.1 i7 i9 i6 i5 (Fr.rf _ _) rt (i2.fr (fun x _ => w1 x)) w3 (t1.trans i4) (by rw [t2]; exact w2)
    refine hQ φ r1 r2 w1 ?_ (w2.2.2.2.2.2.2.2.2.a _ _ (fun q => by unfold mCh at q; omega)) r3
    rw [krt_eq rt (by rw [(w1 z').1]; exact i2.cnt.2.1), t2, krt_eq i1 i2.cnt.2.1]
  · obtain ⟨m, rfl⟩ : ∃ m, lz = m + 1 := ⟨lz - 1, by omega⟩
    have c6 := hW.2.2.1.2.1
    refine sp_slot hrk hlw (by omega) (fun r s1 _ _ _ _ => ⟨by omega, fun y' ey' => ?_⟩)
    have ey2 : y' = be τ y (max 0 r) := ey'
    have g := hW.2.2.2 (max 0 r) (by omega) (by omega)
    rw [← ey2] at g
    refine hK y' τ ⟨rfl, m, 4, _, _, g.2.2⟩ ?_
    have := g.2.2.cnt.2.1
    omega
/-! keys one behind the other -/
theorem sp_iseek {tv : Nat → Int} {cf : Cf} {σ : St} {o h lw : Int} {L : List (Int × Int × Int × Int × Int × Int)} {Q : Int → St → Prop} (hrk : RK σ) (hh : rJ h) (hlw : rJ lw) (hI : IX σ o L) (h0 : (∀ e, e ∈ L → kyE e < kap h lw) → Q 0 σ)
    (h1 : ∀ τ A B e, L = A ++ e :: B → (∀ a, a ∈ A → kyE a < kap h lw) → kap h lw ≤ kyE e → gI τ 391 o = e.1 → gI τ 392 o = e.2.1 → gI τ 393 o = e.2.2.1 → gI τ 394 o = e.2.2.2.1 → gI τ 395 o = e.2.2.2.2.1 → Fr (mIs o) σ τ → Q 1 τ) : wp_Index_seek cf tv o h lw Q σ := by
  obtain ⟨l, z, i1, i2, i3, i4, i5, i6, i7, i8, i9⟩ := hI
  rw [← i4] at h0 h1
  exact sp_seek hrk hh hlw i1 i2 h0 (fun τ A B x k q1 q2 q3 q4 q5 q6 q7 q8 q9 q10 q11 q12 q13 q14 => h1 τ A B (en σ x k) q1 q2 q3 q9 q10 q11 q12 q13 q14)
theorem sp_inext {tv : Nat → Int} {cf : Cf} {σ : St} {o h lw : Int} {L : List (Int × Int × Int × Int × Int × Int)} {Q : Int → St → Prop} (hrk : RK σ) (hh : gI σ 391 o = h) (hl : gI σ 392 o = lw) (hb : h < 4611686018427387904) (hI : IX σ o L) (h0 : (∀ e, e ∈ L → kyE e ≤ kap h lw) → Q 0 σ)
    (h1 : ∀ τ A B e, L = A ++ e :: B → (∀ a, a ∈ A → kyE a ≤ kap h lw) → kap h lw < kyE e → gI τ 391 o = e.1 → gI τ 392 o = e.2.1 → gI τ 393 o = e.2.2.1 → gI τ 394 o = e.2.2.2.1 → gI τ 395 o = e.2.2.2.2.1 → Fr (mIs o) σ τ → Q 1 τ) : wp_Index_next cf tv o Q σ := by
  have jh : rJ h := by rw [← hh]; exact hrk.j _ _ (by decide)
  have jl : rJ lw := by rw [← hl]; exact hrk.j _ _ (by decide)
  unfold wp_Index_next
  rw [hh, hl]
  refine ⟨fun q => ?_, fun q => ?_⟩
  · have e : kap h (w64 (lw + 1)) = kap h lw + 1 := by unfold kap w64; unfold rJ at jl; omega
    refine sp_iseek hrk jh (by unfold rJ w64; omega) hI (fun w _ _ => h0 (fun a ha => by have := w a ha; omega)) (fun τ A B a q1 q2 q3 q4 q5 q6 q7 q8 q9 _ _ => h1 τ A B a q1 (fun b hb => by have := q2 b hb; omega) (by omega) q4 q5 q6 q7 q8 q9)
  · have e : kap (w64 (h + 1)) 0 = kap h lw + 1 := by rw [q]; unfold kap w64; unfold rJ at jh; omega
    refine sp_iseek hrk (by unfold rJ w64; omega) (by unfold rJ; omega) hI (fun w _ _ => h0 (fun a ha => by have := w a ha; omega)) (fun τ A B a q1 q2 q3 q4 q5 q6 q7 q8 q9 _ _ => h1 τ A B a q1 (fun b hb => by have := q2 b hb; omega) (by omega) q4 q5 q6 q7 q8 q9)
