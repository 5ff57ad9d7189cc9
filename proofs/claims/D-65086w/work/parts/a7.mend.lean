/-! two knots side by side share their keys, or become one -/
theorem catq_at {s t : Int → Int × Int × Int × Int × Int × Int} {m i : Int} : catq s m t i = if i < m then s i else t (i - m) := rfl
/-- moving entries from y to x, one by one, till y has none: the row x y is kept -/
theorem sp_mend {tv : Nat → Int} {cf : Cf} {σ : St} {o z k x y lox u n : Int} {l : Nat} {Q : St → Prop} (hz : 0 ≤ z) (hk : 0 ≤ k ∧ k + 1 < n ∧ n ≤ 8) (hn : gI σ 577 z = n) (bx : be σ z k = x) (by' : be σ z (k + 1) = y) (Tx : WT σ l 3 8 x lox (ky σ y 0)) (Ty : WT σ l 3 8 y (ky σ y 0) u) (lz : gI σ 576 z = l + 1) (hfz : gI σ 584 z ≠ 0) (Nx : NC σ l x) (Ny : NC σ l y) (hp : PO σ o) (hK : ∀ w, w ∈ z :: (kl σ l x ++ kl σ l y) → ¬ FP σ o w) (hyr : 320 * o ≤ y ∧ y < 320 * o + 320) (h0 : 0 ≤ gI σ 390 o) (hol : gI σ 390 o + nfr σ (kl σ l x ++ kl σ l y) ≤ 640) (hfree : 1 ≤ gI σ 386 o ∧ gI σ 386 o ≤ 320)
    (hQ1 : ∀ τ, gI τ 577 z = n - 1 → kyE (en τ z k) = ky τ x 0 → be τ z k = x → (∀ i, 0 ≤ i → i < k → en τ z i = en σ z i) → (∀ i, k < i → i < n - 1 → en τ z i = en σ z (i + 1)) → WT τ l 4 8 x lox u → NC τ l x → ls τ l x = ls σ l x ++ ls σ l y → ky τ x 0 = ky σ x 0 → CH σ τ o (z :: (kl σ l x ++ kl σ l y)) (z :: kl τ l x) → gI τ 576 z = l + 1 → gI τ 584 z ≠ 0 → Q τ)
    (hQ2 : ∀ τ, gI τ 577 z = n → kyE (en τ z k) = ky τ x 0 → be τ z k = x → kyE (en τ z (k + 1)) = ky τ y 0 → be τ z (k + 1) = y → (∀ i, 0 ≤ i → i < n → i ≠ k → i ≠ k + 1 → en τ z i = en σ z i) → WT τ l 4 8 x lox (ky τ y 0) → WT τ l 4 8 y (ky τ y 0) u → NC τ l x → NC τ l y → ls τ l x ++ ls τ l y = ls σ l x ++ ls σ l y → ky τ x 0 = ky σ x 0 → CH σ τ o (z :: (kl σ l x ++ kl σ l y)) (z :: (kl τ l x ++ kl τ l y)) → gI τ 576 z = l + 1 → gI τ 584 z ≠ 0 → Q τ) : wp_Index_mend cf tv o z k Q σ := by
  obtain ⟨x1, x2, x3, x4, x5⟩ := Tx.cnt
  obtain ⟨y1, y2, y3, y4, y5⟩ := Ty.cnt
  have xy : x ≠ y := fun e => by
    have := (Tx.hi (i := 0) (Int.le_refl _) (by omega)).2
    rw [e] at this; omega
  have xz : x ≠ z := fun e => by rw [e] at x2; omega
  have yz : y ≠ z := fun e => by rw [e] at y2; omega
  obtain ⟨-, -, -, qx⟩ := WT_it.mp Tx
  obtain ⟨-, -, -, qy⟩ := WT_it.mp Ty
  generalize hcx : gI σ 577 x = cx at *
  generalize hcy : gI σ 577 y = cy at *
  generalize hCx : cat (fun i => itK σ l (en σ x i)) cx.toNat = Cx
  generalize hCy : cat (fun i => itK σ l (en σ y i)) cy.toNat = Cy
  have ekx : kl σ l x = x :: Cx := by rw [kl_it, hcx, hCx]
  have eky : kl σ l y = y :: Cy := by rw [kl_it, hcy, hCy]
  have lox' : lox ≤ ky σ y 0 := by
    have a := (Tx.key 0 (Int.le_refl _) (by omega)).1
    have b := (Tx.hi (i := 0) (Int.le_refl _) (by omega)).2
    omega
  -- the row of both
  have hS : WQ σ l (catq (en σ x) cx (en σ y)) (cx + cy) lox u := WQ.join qx (qy.lo lox' (Int.le_refl _)) x4 (fun _ => Int.le_refl _) (fun q => by omega) y4
  have hSn : ∀ i, 0 ≤ i → i < cx + cy → itN σ l (catq (en σ x) cx (en σ y) i) := by
    intro i i0 i1
    rw [catq_at]
    by_cases q : i < cx
    · rw [if_pos q]; exact Nx.it i i0 (by omega)
    · rw [if_neg q]; exact Ny.it (i - cx) (by omega) (by omega)
  have hSL : cat (fun i => itL σ l (catq (en σ x) cx (en σ y) i)) (cx + cy).toNat = ls σ l x ++ ls σ l y := by
    rw [ls_it, ls_it, hcx, hcy, show (cx + cy).toNat = cx.toNat + cy.toNat by omega]
    obtain ⟨m, hm⟩ : ∃ m : Nat, cx = m := ⟨cx.toNat, by omega⟩
    rw [hm, show ((m : Int)).toNat = m by omega]
    exact cat_q (itL σ l) (en σ x) (en σ y) m cy.toNat
  have hSK : cat (fun i => itK σ l (catq (en σ x) cx (en σ y) i)) (cx + cy).toNat = Cx ++ Cy := by
    rw [← hCx, ← hCy, show (cx + cy).toNat = cx.toNat + cy.toNat by omega]
    obtain ⟨m, hm⟩ : ∃ m : Nat, cx = m := ⟨cx.toNat, by omega⟩
    rw [hm, show ((m : Int)).toNat = m by omega]
    exact cat_q (itK σ l) (en σ x) (en σ y) m cy.toNat
  have hS0 : kyE (catq (en σ x) cx (en σ y) 0) = ky σ x 0 := by rw [catq_at, if_pos (by omega)]; rfl
  -- knots below are others than these three
  have hC : ∀ w, w ∈ Cx ++ Cy → w ≠ z ∧ w ≠ x ∧ w ≠ y ∧ ¬ FP σ o w := by
    intro w hw
    have hw' := hw
    rw [← hSK] at hw'
    obtain ⟨i, hi, hx⟩ := cat_mem hw'
    have lv := itK_lev hS hi.1 (by omega) hx
    refine ⟨fun e => by rw [e] at lv; omega, fun e => by rw [e] at lv; omega, fun e => by rw [e] at lv; omega, hK w ?_⟩
    rw [ekx, eky]
    rcases List.mem_append.mp hw with v | v
    · exact List.mem_cons_of_mem _ (List.mem_append.mpr (Or.inl (List.mem_cons_of_mem _ v)))
    · exact List.mem_cons_of_mem _ (List.mem_append.mpr (Or.inr (List.mem_cons_of_mem _ v)))
  have zF : ¬ FP σ o z := hK z List.mem_cons_self
  have xF : ¬ FP σ o x := hK x (by rw [ekx]; exact List.mem_cons_of_mem _ (List.mem_append.mpr (Or.inl List.mem_cons_self)))
  have yF : ¬ FP σ o y := hK y (by rw [eky]; exact List.mem_cons_of_mem _ (List.mem_append.mpr (Or.inr List.mem_cons_self)))
  have p0 : (z :: (kl σ l x ++ kl σ l y)).Perm ([z, x, y] ++ (Cx ++ Cy)) := by
    rw [ekx, eky]
    refine List.Perm.cons z (List.Perm.cons x ?_)
    exact List.perm_middle
  rw [ekx, eky, nfr_app, nfr_cons, nfr_cons] at hol
  unfold wp_Index_mend
  rw [w32_id (by unfold rI; omega)]
  refine ⟨hz, by omega, fun a ea => ⟨by omega, fun b eb => ?_⟩⟩
  have ea' : a = x := ea.trans bx
  have eb' : b = y := eb.trans by'
  subst ea' eb'
  clear ea eb
  refine sp_touch x1.1 (fun q => ⟨h0, by rw [if_pos q] at hol; omega⟩) (fun σa s1 s2 s3 s4 s5 s6 s7 _ => ?_)
  have Ca : CH σ σa o [a] [a] := CH.touch hp xF h0 s1 s4 s5 s6 s7
  have fyb : gI σa 584 b = gI σ 584 b := (OE.tc s7 (fun e => xy e.symm)).1
  refine sp_touch y1.1 (fun q => ⟨Ca.2.2.2.2.2.1.1, ?_⟩) (fun σ' t1 t2 t3 t4 t5 t6 t7 k' => ?_)
  · rw [fyb] at q
    rw [if_pos q] at hol
    have := s5.2
    by_cases e : gI σ 584 a = 0
    · rw [if_pos e] at this hol; omega
    · rw [if_neg e] at this hol; omega
  have bFa : ¬ FP σa o b := fun q => (Ca.2.1 b q).elim yF (fun w => xy (List.mem_singleton.mp w).symm)
  have Cb : CH σa σ' o [b] [b] := CH.touch Ca.2.2.1.1 bFa Ca.2.2.2.2.2.1.1 t1 t4 t5 t6 t7
  have ke : ∀ w, KE σ σ' w := fun w => (KE.tc s7 w).tr (KE.tc t7 w)
  have oe : ∀ w, w ≠ a → w ≠ b → OE σ σ' w := fun w h1 h2 => (OE.tc s7 h1).tr (OE.tc t7 h2)
  have fa' : gI σ' 584 a ≠ 0 := by rw [(OE.tc t7 xy).1]; exact s1
  have fz' : gI σ' 584 z ≠ 0 := by rw [(oe z (fun e => xz e.symm) (fun e => yz e.symm)).1]; exact hfz
  have C0 : CH σ σ' o ([z, a, b] ++ (Cx ++ Cy)) ([z, a, b] ++ (Cx ++ Cy)) := by
    have h1 := Ca.ctx [z] ([b] ++ (Cx ++ Cy)) (fun w hw => by rw [List.mem_singleton.mp hw]; exact ⟨fun q => xz (List.mem_singleton.mp q).symm, zF⟩) (fun w hw => by
      rcases List.mem_append.mp hw with v | v
      · rw [List.mem_singleton.mp v]; exact ⟨fun q => xy (List.mem_singleton.mp q).symm, yF⟩
      · exact ⟨fun q => (hC w v).2.1 (List.mem_singleton.mp q), (hC w v).2.2.2⟩)
    have fpa : ∀ w, ¬ FP σ o w → w ≠ a → ¬ FP σa o w := fun w h1 h2 q => (Ca.2.1 w q).elim h1 (fun v => h2 (List.mem_singleton.mp v))
    have h2 := Cb.ctx [z, a] (Cx ++ Cy) (fun w hw => by
      rcases List.mem_cons.mp hw with v | v
      · rw [v]; exact ⟨fun q => yz (List.mem_singleton.mp q).symm, fpa z zF (fun e => xz e.symm)⟩
      · rw [List.mem_singleton.mp v]; exact ⟨fun q => xy (List.mem_singleton.mp q), Ca.2.2.1.2 a (List.mem_singleton.mpr rfl)⟩) (fun w hw => ⟨fun q => (hC w hw).2.2.1 (List.mem_singleton.mp q), fpa w (hC w hw).2.2.2 (hC w hw).2.1⟩)
    exact h1.tr h2
  have cx' : gI σ' 577 a = cx := (ke a).2.1.trans hcx
  have cy' : gI σ' 577 b = cy := (ke b).2.1.trans hcy
  have cz' : gI σ' 577 z = n := (ke z).2.1.trans hn
  have lx' : gI σ' 576 a = l := (ke a).1.trans x2
  have ly' : gI σ' 576 b = l := (ke b).1.trans y2
  have lz' : gI σ' 576 z = l + 1 := (ke z).1.trans lz
  have fpr : ∀ w, w ∈ [z, a, b] ++ (Cx ++ Cy) → ¬ FP σ' o w := C0.2.2.1.2
  have free' : gI σ' 386 o = gI σ 386 o := by
    rw [t7.i _ _ (fun q => by unfold mTc at q; omega), s7.i _ _ (fun q => by unfold mTc at q; omega)]
  have mz : z ∈ [z, a, b] := List.mem_cons_self
  have ma : a ∈ [z, a, b] := List.mem_cons_of_mem _ List.mem_cons_self
  have mb : b ∈ [z, a, b] := List.mem_cons_of_mem _ (List.mem_cons_of_mem _ List.mem_cons_self)
  have fresh3 : ∀ w, w ∈ [z, a, b] → gI σ' 584 w ≠ 0 := by
    intro w hw
    rcases List.mem_cons.mp hw with v | v
    · rw [v]; exact fz'
    · rcases List.mem_cons.mp v with v | v
      · rw [v]; exact fa'
      · rw [List.mem_singleton.mp v]; exact t1
  have nku : ∀ (K : List Int) f w, (f < 577 ∨ 583 < f) → ¬ mKu K f w := fun K f w h q => by unfold mKu at q; omega
  have ooe : ∀ τ, Fr (mKu [z, a, b]) σ' τ → ∀ w, w ∈ Cx ++ Cy → KE σ τ w ∧ OE σ τ w := by
    intro τ f w hw
    have g := hC w hw
    have ni : w ∉ [z, a, b] := fun q => by
      rcases List.mem_cons.mp q with v | v
      · exact g.1 v
      · rcases List.mem_cons.mp v with v | v
        · exact g.2.1 v
        · exact g.2.2.1 (List.mem_singleton.mp v)
    exact ⟨(ke w).tr (KE.ku f ni), (oe w g.2.1 g.2.2.1).tr (OE.ku f w)⟩
  have hkS : ∀ τ, (∀ w, w ∈ Cx ++ Cy → KE σ τ w ∧ OE σ τ w) → ∀ i, 0 ≤ i → i < cx + cy → ∀ w, w ∈ itK σ l (catq (en σ a) cx (en σ b) i) → KE σ τ w ∧ OE σ τ w := by
    intro τ h i i0 i1 w hw
    refine h w ?_
    rw [← hSK]
    exact mem_cat (f := fun i => itK σ l (catq (en σ a) cx (en σ b) i)) i0 (by omega) hw
  refine ⟨x1.1, y1.1, fun all eall => ?_⟩
  rw [cx', cy', w32_id (by unfold rI; omega)] at eall
  rw [eall]
  -- the end of sharing
  have share : ∀ τ m, (4 ≤ m ∧ m ≤ 8) → (4 ≤ cx + cy - m ∧ cx + cy - m ≤ 8) → 8 < cx + cy → gI τ 577 a = m → gI τ 577 b = cx + cy - m → (∀ i, 0 ≤ i → i < m → en τ a i = catq (en σ a) cx (en σ b) i) → (∀ i, 0 ≤ i → i < cx + cy - m → en τ b i = catq (en σ a) cx (en σ b) (m + i)) → Fr (mKu [z, a, b]) σ' τ → (∀ i, en τ z i = en σ' z i) → gI τ 577 z = n → wp_Index_mend_b195 cf tv o z k Q a b (cx + cy) τ := by
    intro τ m hm1 hm2 h8 d1 d2 d3 d4 d5 d6 d7
    unfold wp_Index_mend_b195
    refine ⟨x1.1, by omega, by omega, hz, ?_⟩
    refine sp_kset (by omega) (fun τ2 g1 g2 _ => ?_)
    have cz2 : gI τ2 577 z = n := by rw [g2.i _ _ (fun q => by unfold mKa at q; omega)]; exact d7
    have f2 : Fr (mKu [z, a, b]) σ' τ2 := d5.tr (g2.mono (fun f o' q => by unfold mKa at q; exact ⟨by omega, by rw [q.2]; exact mz⟩))
    have nz2 : ∀ w i, w ≠ z → en τ2 w i = en τ w i := fun w i h => by rw [g1, if_neg (fun q => h q.1)]
    have bk1 : gA τ2 583 z (k + 1) = b := by
      show be τ2 z (k + 1) = b
      unfold be
      rw [g1, if_neg (fun q => by omega), d6, (ke z).2.2]; exact by'
    rw [cz2, w32_id (by unfold rI; omega)]
    refine ⟨fun q => by omega, fun q => ⟨by omega, fun w => absurd bk1 w, fun _ => ⟨fun w => by omega, fun _ => ⟨y1.1, by omega, by omega, ?_⟩⟩⟩⟩
    refine sp_kset (by omega) (fun τ3 g3 g4 _ => ?_)
    have f3 : Fr (mKu [z, a, b]) σ' τ3 := f2.tr (g4.mono (fun f o' q => by unfold mKa at q; exact ⟨by omega, by rw [q.2]; exact mz⟩))
    have nz3 : ∀ w i, w ≠ z → en τ3 w i = en τ w i := fun w i h => by rw [g3, if_neg (fun q => h q.1)]; exact nz2 w i h
    have cw : ∀ w, gI τ3 577 w = gI τ 577 w := fun w => by
      rw [g4.i _ _ (fun q => by unfold mKa at q; omega), g2.i _ _ (fun q => by unfold mKa at q; omega)]
    have kx3 := ooe τ3 f3
    obtain ⟨r1, r2, r3, r4, r5, r6, r7, r8⟩ := split2 hS hm1 hm2 (x := a) (y := b) (τ := τ3) (by rw [cw]; exact d1) (by rw [cw]; exact d2) (fun i i0 i1 => by rw [nz3 a i xz]; exact d3 i i0 i1) (fun i i0 i1 => by rw [nz3 b i yz]; exact d4 i i0 i1) (by rw [f3.i _ _ (nku _ _ _ (by decide))]; exact lx') (by rw [f3.i _ _ (nku _ _ _ (by decide))]; exact ly') x1 y1 (hkS τ3 kx3) hSn (by rw [f3.i _ _ (nku _ _ _ (by decide))]; exact fa') (by rw [f3.i _ _ (nku _ _ _ (by decide))]; exact t1)
    have ek : en τ3 z k = en τ2 z k := by rw [g3, if_neg (fun q => by omega)]
    have C3 : CH σ τ3 o (z :: (kl σ l a ++ kl σ l b)) (z :: (kl τ3 l a ++ kl τ3 l b)) := by
      have h1 := (CH.updL C0.2.2.1.1 (fun w hw => fpr w (List.mem_append.mpr (Or.inl hw))) C0.2.2.2.2.2.1.1 fresh3 f3).ctx [] (Cx ++ Cy) (fun w hw => (by cases hw)) (fun w hw => ⟨fun q => ?_, fpr w (List.mem_append.mpr (Or.inr hw))⟩)
      · have h2 := (C0.tr h1).perm0 p0.symm
        refine h2.perm ?_
        have e1 : cat (fun k => itK σ l (catq (en σ a) cx (en σ b) k)) m.toNat ++ cat (fun i => itK σ l (catq (en σ a) cx (en σ b) (m + i))) (cx + cy - m).toNat = Cx ++ Cy := by
          rw [← hSK, show (cx + cy).toNat = m.toNat + (cx + cy - m).toNat by omega, cat_add, show ((m.toNat : Nat) : Int) = m by omega]
        rw [r6, r7, ← e1]
        generalize cat (fun k => itK σ l (catq (en σ a) cx (en σ b) k)) m.toNat = P
        generalize cat (fun i => itK σ l (catq (en σ a) cx (en σ b) (m + i))) (cx + cy - m).toNat = R
        show (z :: a :: b :: (P ++ R)).Perm (z :: (a :: P ++ b :: R))
        exact List.Perm.cons z (List.Perm.cons a List.perm_middle.symm)
      · have g := hC w hw
        rcases List.mem_cons.mp q with v | v
        · exact g.1 v
        · rcases List.mem_cons.mp v with v | v
          · exact g.2.1 v
          · exact g.2.2.1 (List.mem_singleton.mp v)
    refine hQ2 τ3 (by rw [cw]; exact d7) ?_ ?_ ?_ ?_ (fun i i0 i1 ne1 ne2 => ?_) r1 r2 r3 r4 (by rw [r5, hSL]) (by rw [r8, hS0]) C3 (by rw [f3.i _ _ (nku _ _ _ (by decide))]; exact lz') (by rw [f3.i _ _ (nku _ _ _ (by decide))]; exact fz')
    · rw [ek, g1, if_pos ⟨rfl, rfl⟩]
      show kyE (en τ a 0) = kyE (en τ3 a 0)
      rw [nz3 a 0 xz]
    · unfold be; rw [ek, g1, if_pos ⟨rfl, rfl⟩]
    · rw [g3, if_pos ⟨rfl, rfl⟩]
      show kyE (en τ2 b 0) = kyE (en τ3 b 0)
      rw [nz3 b 0 yz, nz2 b 0 yz]
    · unfold be; rw [g3, if_pos ⟨rfl, rfl⟩]
    · rw [g3, if_neg (fun q => ne2 q.2), g1, if_neg (fun q => ne1 q.2), d6, (ke z).2.2]
  refine ⟨fun h8 => ⟨fun hle => ?_, fun hle => ?_⟩, fun h8 => ?_⟩
  · -- from x to y
    have ha : jdv (cx + cy) 2 = (cx + cy) / 2 := jdv_nn (by omega) (by omega) (by omega)
    refine lQ3_rule (fun v3 v4 v5 τ => (v3 = a ∧ v4 = b ∧ v5 = cx + cy) ∧ ∃ m, ((cx + cy + 1) / 2 ≤ m ∧ m ≤ 8) ∧ gI τ 577 a = m ∧ gI τ 577 b = cx + cy - m ∧ (∀ i, 0 ≤ i → i < m → en τ a i = catq (en σ a) cx (en σ b) i) ∧ (∀ i, 0 ≤ i → i < cx + cy - m → en τ b i = catq (en σ a) cx (en σ b) (m + i)) ∧ Fr (mKu [z, a, b]) σ' τ ∧ (∀ i, en τ z i = en σ' z i) ∧ gI τ 577 z = n) (fun _ _ _ τ => (gI τ 577 a).toNat) ?_ a b (cx + cy) σ' ⟨⟨rfl, rfl, rfl⟩, cx, by omega, cx', by omega, fun i i0 i1 => ?_, fun i i0 i1 => ?_, Fr.rf _ _, fun _ => rfl, cz'⟩
    · intro K v3 v4 v5 τ hI hK
      obtain ⟨⟨rfl, rfl, rfl⟩, m, hm, d1, d2, d3, d4, d5, d6, d7⟩ := hI
      unfold wp_Index_mend_L151
      rw [ha, d2]
      refine ⟨y1.1, fun q => share τ m (by omega) (by omega) h8 d1 d2 d3 d4 d5 d6 d7, fun q => ?_⟩
      refine sp_part y1.1 d2 (by omega) (by omega) (fun τ1 p1 p2 p3 p4 p5 _ => ⟨x1.1, ?_⟩)
      have na : ∀ w, w ≠ v4 → KE τ τ1 w := fun w h => KE.fr p5 (fun f a b q => by
        rcases q with q | q
        · exact h q.2
        · exact h q.2)
      rw [(na v3 xy).2.1, d1, w32_id (by unfold rI; omega)]
      refine sp_ktake x1.1 (by omega) (by omega) (fun τ2 e2 f2 _ => ?_)
      have c2 : ∀ w, gI τ2 577 w = gI τ1 577 w := fun w => f2.i _ _ (fun q => by unfold mKa at q; omega)
      have c2a : gI τ2 577 v3 = m := by rw [c2, (na v3 xy).2.1]; exact d1
      rw [c2a, w32_id (by unfold rI; omega)]
      refine sp_leave x1.1 c2a (by omega) (by omega) (fun τ3 l1 l2 l3 l4 _ => ?_)
      have nb : ∀ w, w ≠ v3 → KE τ2 τ3 w := fun w h => KE.fr l4 (fun f a b q => by
        rcases q with q | q
        · exact h q.2
        · exact h q.2)
      have f3 : Fr (mKu [z, v3, v4]) σ' τ3 := by
        refine d5.tr ((p5.mono (fun f o' q => ?_)).tr ((f2.mono (fun f o' q => ?_)).tr (l4.mono (fun f o' q => ?_))))
        · unfold mKa at q
          rcases q with q | q
          · exact ⟨by omega, by rw [q.2]; exact mb⟩
          · exact ⟨by omega, by rw [q.2]; exact mb⟩
        · unfold mKa at q; exact ⟨by omega, by rw [q.2]; exact mb⟩
        · unfold mKa at q
          rcases q with q | q
          · exact ⟨by omega, by rw [q.2]; exact ma⟩
          · exact ⟨by omega, by rw [q.2]; exact ma⟩
      refine hK _ _ _ τ3 ⟨⟨rfl, rfl, rfl⟩, m - 1, by omega, by omega, ?_, fun i i0 i1 => ?_, fun i i0 i1 => ?_, f3, fun i => ?_, ?_⟩ (by rw [l1, d1]; omega)
      · rw [(nb v4 (fun e => xy e.symm)).2.1, c2, p1]; omega
      · rw [l2 i i0 i1, e2, if_neg (fun q => xy q.1), (na v3 xy).2.2]; exact d3 i i0 (by omega)
      · rw [(nb v4 (fun e => xy e.symm)).2.2, e2]
        by_cases q0 : i = 0
        · rw [if_pos ⟨rfl, q0⟩, (na v3 xy).2.2, d3 (m - 1) (by omega) (by omega), q0, show m - 1 + 0 = m - 1 by omega]
        · rw [if_neg (fun w => q0 w.2), p3 i (by omega) (by omega), d4 (i - 1) (by omega) (by omega), show m + (i - 1) = m - 1 + i by omega]
      · rw [(nb z (fun e => xz e.symm)).2.2, e2, if_neg (fun q => yz q.1.symm), (na z (fun e => yz e.symm)).2.2]; exact d6 i
      · rw [(nb z (fun e => xz e.symm)).2.1, c2, (na z (fun e => yz e.symm)).2.1]; exact d7
    · rw [(ke a).2.2, catq_at, if_pos i1]
    · rw [(ke b).2.2, catq_at, if_neg (by omega), show cx + i - cx = i by omega]
  · -- from y to x
    have ha : jdv (cx + cy) 2 = (cx + cy) / 2 := jdv_nn (by omega) (by omega) (by omega)
    refine lQ3_rule (fun v3 v4 v5 τ => (v3 = a ∧ v4 = b ∧ v5 = cx + cy) ∧ ∃ m, (m ≤ (cx + cy) / 2 ∧ cx ≤ m) ∧ gI τ 577 a = m ∧ gI τ 577 b = cx + cy - m ∧ (∀ i, 0 ≤ i → i < m → en τ a i = catq (en σ a) cx (en σ b) i) ∧ (∀ i, 0 ≤ i → i < cx + cy - m → en τ b i = catq (en σ a) cx (en σ b) (m + i)) ∧ Fr (mKu [z, a, b]) σ' τ ∧ (∀ i, en τ z i = en σ' z i) ∧ gI τ 577 z = n) (fun _ _ _ τ => (16 - gI τ 577 a).toNat) ?_ a b (cx + cy) σ' ⟨⟨rfl, rfl, rfl⟩, cx, by omega, cx', by omega, fun i i0 i1 => ?_, fun i i0 i1 => ?_, Fr.rf _ _, fun _ => rfl, cz'⟩
    · intro K v3 v4 v5 τ hI hK
      obtain ⟨⟨rfl, rfl, rfl⟩, m, hm, d1, d2, d3, d4, d5, d6, d7⟩ := hI
      unfold wp_Index_mend_L113
      rw [ha, d1]
      refine ⟨x1.1, fun q => share τ m (by omega) (by omega) h8 d1 d2 d3 d4 d5 d6 d7, fun q σ88 e88 => ?_⟩
      rw [w32_id (by unfold rI; omega)] at e88
      have e8 : ∀ w i, en σ88 w i = en τ w i := fun w i => by rw [e88]; rfl
      refine sp_ktake y1.1 (by omega) (by omega) (fun τ2 e2 f2 _ => ⟨y1.1, ?_⟩)
      have c2 : ∀ w, gI τ2 577 w = gI σ88 577 w := fun w => f2.i _ _ (fun q => by unfold mKa at q; omega)
      have c2b : gI τ2 577 v4 = cx + cy - m := by rw [c2, e88, gI_sI, if_neg (fun q => xy q.2.symm)]; exact d2
      refine sp_leave y1.1 c2b (by omega) (by omega) (fun τ3 l1 l2 l3 l4 _ => ?_)
      have nb : ∀ w, w ≠ v4 → KE τ2 τ3 w := fun w h => KE.fr l4 (fun f a b q => by
        rcases q with q | q
        · exact h q.2
        · exact h q.2)
      have f3 : Fr (mKu [z, v3, v4]) σ' τ3 := by
        have f8 : Fr (mKu [z, v3, v4]) σ' σ88 := by rw [e88]; exact d5.sI ⟨by omega, ma⟩
        refine f8.tr ((f2.mono (fun f o' q => ?_)).tr (l4.mono (fun f o' q => ?_)))
        · unfold mKa at q; exact ⟨by omega, by rw [q.2]; exact ma⟩
        · unfold mKa at q
          rcases q with q | q
          · exact ⟨by omega, by rw [q.2]; exact mb⟩
          · exact ⟨by omega, by rw [q.2]; exact mb⟩
      have ca : gI τ3 577 v3 = m + 1 := by rw [(nb v3 xy).2.1, c2, e88, gI_sI, if_pos ⟨rfl, rfl⟩]
      refine hK _ _ _ τ3 ⟨⟨rfl, rfl, rfl⟩, m + 1, by omega, ca, by omega, fun i i0 i1 => ?_, fun i i0 i1 => ?_, f3, fun i => ?_, ?_⟩ (by rw [ca, d1]; omega)
      · rw [(nb v3 xy).2.2, e2]
        by_cases q0 : i = m
        · rw [if_pos ⟨rfl, q0⟩, e8, d4 0 (by omega) (by omega), q0, show m + 0 = m by omega]
        · rw [if_neg (fun w => q0 w.2), e8]; exact d3 i i0 (by omega)
      · rw [l3 i i0 (by omega), e2, if_neg (fun q => xy q.1.symm), e8, d4 (i + 1) (by omega) (by omega), show m + (i + 1) = m + 1 + i by omega]
      · rw [(nb z (fun e => yz e.symm)).2.2, e2, if_neg (fun q => xz q.1.symm), e8]; exact d6 i
      · rw [(nb z (fun e => yz e.symm)).2.1, c2, e88, gI_sI, if_neg (fun q => xz q.2.symm)]; exact d7
    · rw [(ke a).2.2, catq_at, if_pos i1]
    · rw [(ke b).2.2, catq_at, if_neg (by omega), show cx + i - cx = i by omega]
  · -- one of both
    refine lQ4_rule (fun v3 v4 v5 v6 τ => (v3 = a ∧ v4 = b ∧ v5 = cx + cy) ∧ (0 ≤ v6 ∧ v6 ≤ cy) ∧ gI τ 577 a = cx + v6 ∧ gI τ 577 b = cy ∧ (∀ i, 0 ≤ i → i < cx + v6 → en τ a i = catq (en σ a) cx (en σ b) i) ∧ (∀ i, en τ b i = en σ b i) ∧ Fr (mKu [z, a, b]) σ' τ ∧ (∀ i, en τ z i = en σ' z i) ∧ gI τ 577 z = n) (fun _ _ _ v6 _ => (cy - v6).toNat) ?_ a b (cx + cy) 0 σ' ⟨⟨rfl, rfl, rfl⟩, by omega, by omega, cy', fun i i0 i1 => ?_, fun i => (ke b).2.2 i, Fr.rf _ _, fun _ => rfl, cz'⟩
    · intro K v3 v4 v5 v6 τ hI hK
      obtain ⟨⟨rfl, rfl, rfl⟩, h6, d1, d2, d3, d4, d5, d6, d7⟩ := hI
      unfold wp_Index_mend_L50
      rw [d2]
      refine ⟨y1.1, fun q => ?_, fun q => ⟨x1.1, fun σ101 e101 => ?_⟩⟩
      · have e6 : v6 = cy := by omega
        rw [e6] at d1 d3
        have fτ : ∀ w, gI τ 584 w = gI σ' 584 w := fun w => d5.i _ _ (nku _ _ _ (by decide))
        have frτ : gI τ 386 o = gI σ 386 o := by rw [d5.i _ _ (nku _ _ _ (by decide))]; exact free'
        have C1 : CH σ τ o ([z, v3, v4] ++ (Cx ++ Cy)) ([z, v3, v4] ++ (Cx ++ Cy)) := by
          refine C0.tr ((CH.updL C0.2.2.1.1 (fun w hw => fpr w (List.mem_append.mpr (Or.inl hw))) C0.2.2.2.2.2.1.1 fresh3 d5).ctx [] (Cx ++ Cy) (fun w hw => (by cases hw)) (fun w hw => ⟨fun q => ?_, fpr w (List.mem_append.mpr (Or.inr hw))⟩))
          have g := hC w hw
          rcases List.mem_cons.mp q with v | v
          · exact g.1 v
          · rcases List.mem_cons.mp v with v | v
            · exact g.2.1 v
            · exact g.2.2.1 (List.mem_singleton.mp v)
        refine sp_give y1.1 (by rw [fτ]; exact t1) (by omega) (by omega) (fun τ2 q1 q2 f2 _ => ⟨hz, ?_⟩)
        have C2 : CH τ τ2 o [v4] [] := CH.give C1.2.2.1.1 (C1.2.2.1.2 v4 (List.mem_append.mpr (Or.inl mb))) C1.2.2.2.2.2.1.1 (by rw [fτ]; exact t1) hyr (by omega) q1 q2 f2
        have ke2 : ∀ w, w ≠ v4 → KE τ τ2 w := fun w h => KE.fr f2 (fun f a b q => by
          unfold mGi at q
          rcases q with q | q
          · exact h q.2
          · omega)
        have oe2 : ∀ w, OE τ τ2 w := fun w => OE.fr f2 (fun f a b q => by unfold mGi at q; omega)
        have C12 : CH σ τ2 o ([z, v3, v4] ++ (Cx ++ Cy)) ([z, v3] ++ (Cx ++ Cy)) := by
          refine C1.tr (C2.ctx [z, v3] (Cx ++ Cy) (fun w hw => ?_) (fun w hw => ⟨fun q => (hC w hw).2.2.1 (List.mem_singleton.mp q), C1.2.2.1.2 w (List.mem_append.mpr (Or.inr hw))⟩))
          rcases List.mem_cons.mp hw with v | v
          · rw [v]; exact ⟨fun q => yz (List.mem_singleton.mp q).symm, C1.2.2.1.2 z (List.mem_append.mpr (Or.inl mz))⟩
          · rw [List.mem_singleton.mp v]; exact ⟨fun q => xy (List.mem_singleton.mp q), C1.2.2.1.2 v3 (List.mem_append.mpr (Or.inl ma))⟩
        rw [w32_id (by unfold rI; omega)]
        refine sp_leave hz (c := n) (by rw [(ke2 z (fun e => yz e.symm)).2.1]; exact d7) (by omega) (by omega) (fun τ3 l1 l2 l3 l4 _ => ?_)
        unfold wp_Index_mend_b195
        refine ⟨x1.1, by omega, by omega, hz, ?_⟩
        refine sp_kset (by omega) (fun τ4 g1 g2 _ => ?_)
        have cz4 : gI τ4 577 z = n - 1 := by rw [g2.i _ _ (fun q => by unfold mKa at q; omega)]; exact l1
        have f24 : Fr (mKu [z]) τ2 τ4 := by
          refine (l4.mono (fun f o' q => ?_)).tr (g2.mono (fun f o' q => ?_))
          · unfold mKa at q; exact ⟨by omega, List.mem_singleton.mpr (by omega)⟩
          · unfold mKa at q; exact ⟨by omega, List.mem_singleton.mpr q.2⟩
        have ke4 : ∀ w, w ≠ z → KE τ2 τ4 w := fun w h => KE.ku f24 (fun q => h (List.mem_singleton.mp q))
        have fin : Q τ4 := by
          have kC : ∀ w, w ∈ Cx ++ Cy → KE σ τ4 w ∧ OE σ τ4 w := fun w hw => by
            have g := hC w hw
            have a := ooe τ d5 w hw
            exact ⟨(a.1.tr (ke2 w g.2.2.1)).tr (ke4 w g.1), (a.2.tr (oe2 w)).tr (OE.ku f24 w)⟩
          have ka : KE τ τ4 v3 := (ke2 v3 xy).tr (ke4 v3 xz)
          have fr4 : ∀ w, gI τ4 584 w = gI σ' 584 w := fun w => by rw [(OE.ku f24 w).1, (oe2 w).1]; exact fτ w
          obtain ⟨r1, r2, r3, r4, r5⟩ := join1 hS (x := v3) (τ := τ4) (by omega) (by rw [ka.2.1]; exact d1) (fun i i0 i1 => by rw [ka.2.2]; exact d3 i i0 i1) (by rw [ka.1, d5.i _ _ (nku _ _ _ (by decide))]; exact lx') x1 (hkS τ4 kC) hSn (by rw [fr4]; exact fa')
          have C4 : CH σ τ4 o (z :: (kl σ l v3 ++ kl σ l v4)) (z :: kl τ4 l v3) := by
            have h1 := (CH.updL (K := [z]) C12.2.2.1.1 (fun w hw => C12.2.2.1.2 w (by rw [List.mem_singleton.mp hw]; exact List.mem_cons_self)) C12.2.2.2.2.2.1.1 (fun w hw => by rw [List.mem_singleton.mp hw, (oe2 z).1, fτ]; exact fz') f24).ctx [] (v3 :: (Cx ++ Cy)) (fun w hw => (by cases hw)) (fun w hw => ⟨fun q => ?_, C12.2.2.1.2 w (List.mem_cons_of_mem _ hw)⟩)
            · have h2 := (C12.tr h1).perm0 p0.symm
              rw [r4, hSK]; exact h2
            · have e := List.mem_singleton.mp q
              rcases List.mem_cons.mp hw with v | v
              · exact xz (v.symm.trans e)
              · exact (hC w v).1 e
          have lz4 : gI τ4 576 z = l + 1 := by
            rw [f24.i _ _ (nku _ _ _ (by decide)), (ke2 z (fun e => yz e.symm)).1, d5.i _ _ (nku _ _ _ (by decide))]; exact lz'
          refine hQ1 τ4 cz4 ?_ ?_ (fun i i0 i1 => ?_) (fun i i0 i1 => ?_) r1 r2 (by rw [r3, hSL]) (by rw [r5, hS0]) C4 lz4 (by rw [fr4]; exact fz')
          · rw [g1, if_pos ⟨rfl, rfl⟩]
            have e3 : ∀ i, en τ3 v3 i = en τ2 v3 i := en_fr l4 (fun f a b q => by
              rcases q with q | q
              · exact xz q.2
              · exact xz q.2)
            show kyE (en τ3 v3 0) = kyE (en τ4 v3 0)
            rw [e3, (ke4 v3 xz).2.2]
          · unfold be; rw [g1, if_pos ⟨rfl, rfl⟩]
          · rw [g1, if_neg (fun q => by omega), l2 i i0 (by omega), (ke2 z (fun e => yz e.symm)).2.2, d6, (ke z).2.2]
          · rw [g1, if_neg (fun q => by omega), l3 i (by omega) (by omega), (ke2 z (fun e => yz e.symm)).2.2, d6, (ke z).2.2]
        refine ⟨fun _ => fin, fun q => ⟨by rw [w32_id (by unfold rI; omega)]; omega, fun _ => fin, fun _ => ⟨fun _ => fin, fun w => absurd w (by omega)⟩⟩⟩
      · rw [d1, w32_id (by unfold rI; omega)] at e101
        have e8 : ∀ w i, en σ101 w i = en τ w i := fun w i => by rw [e101]; rfl
        rw [d1]
        refine sp_ktake y1.1 (by omega) (by omega) (fun τ2 e2 f2 _ v6' ev => ?_)
        rw [w32_id (by unfold rI; omega)] at ev
        rw [ev]
        have c2 : ∀ w, gI τ2 577 w = gI σ101 577 w := fun w => f2.i _ _ (fun q => by unfold mKa at q; omega)
        have f3 : Fr (mKu [z, v3, v4]) σ' τ2 := by
          have f8 : Fr (mKu [z, v3, v4]) σ' σ101 := by rw [e101]; exact d5.sI ⟨by omega, ma⟩
          exact f8.tr (f2.mono (fun f o' q => by unfold mKa at q; exact ⟨by omega, by rw [q.2]; exact ma⟩))
        refine hK _ _ _ _ τ2 ⟨⟨rfl, rfl, rfl⟩, by omega, ?_, ?_, fun i i0 i1 => ?_, fun i => ?_, f3, fun i => ?_, ?_⟩ (by omega)
        · rw [c2, e101, gI_sI, if_pos ⟨rfl, rfl⟩]; omega
        · rw [c2, e101, gI_sI, if_neg (fun q => xy q.2.symm)]; exact d2
        · rw [e2]
          by_cases q0 : i = cx + v6
          · rw [if_pos ⟨rfl, q0⟩, e8, d4, q0, catq_at, if_neg (by omega), show cx + v6 - cx = v6 by omega]
          · rw [if_neg (fun w => q0 w.2), e8]; exact d3 i i0 (by omega)
        · rw [e2, if_neg (fun q => xy q.1.symm), e8]; exact d4 i
        · rw [e2, if_neg (fun q => xz q.1.symm), e8]; exact d6 i
        · rw [c2, e101, gI_sI, if_neg (fun q => xz q.2.symm)]; exact d7
    · rw [(ke a).2.2, catq_at, if_pos (by omega)]
