/-! knots that are to be written anew -/
theorem NC.all {σ : St} : ∀ {l : Nat} {z : Int}, (∀ x, x ∈ kl σ l z → gI σ 584 x ≠ 0) → NC σ l z
  | 0, _, _ => trivial
  | l + 1, z, h => fun k k0 k1 => ⟨fun q => absurd q (h z (kl_self _ _ _)), NC.all (fun x hx => h x (kl_below k0 k1 hx))⟩
theorem sp_stirAll {tv : Nat → Int} {cf : Cf} {o : Int} : ∀ (l d : Nat) (σ : St) (z mn lo hi : Int) (Q : St → Prop), l < d → WT σ l mn 8 z lo hi → PO σ o → (∀ x, x ∈ kl σ l z → ¬ FP σ o x) → 0 ≤ gI σ 390 o → gI σ 390 o + nfr σ (kl σ l z) ≤ 640 →
    (∀ τ, (∀ x, KE σ τ x) → (∀ x, x ∈ kl σ l z → gI τ 584 x ≠ 0) → CH σ τ o (kl σ l z) (kl σ l z) → Q τ) → wp_Index_stirAll cf tv d o z Q σ := by
  intro l
  induction l with
  | zero =>
    intro d σ z mn lo hi Q hd hT hp hK h0 hol hQ
    obtain ⟨d', rfl⟩ : ∃ d', d = d' + 1 := ⟨d - 1, by omega⟩
    obtain ⟨c1, c2, c3, c4, c5⟩ := hT.cnt
    have hnz : gI σ 584 z = 0 → gI σ 390 o < 640 := by
      intro q
      have eK : kl σ 0 z = [z] := rfl
      rw [eK, nfr_cons, if_pos q] at hol
      have : nfr σ [] = 0 := rfl
      omega
    show wp_Index_stirAll_R cf tv o z (wp_Index_stirAll cf tv d') Q σ
    unfold wp_Index_stirAll_R
    refine sp_touch c1.1 (fun q => ⟨h0, hnz q⟩) (fun σ1 t1 t2 t3 t4 t5 t6 t7 _ => ?_)
    have C1 : CH σ σ1 o [z] [z] := CH.touch hp (hK z (kl_self _ _ _)) h0 t1 t4 t5 t6 t7
    have ke : ∀ x, KE σ σ1 x := fun x => KE.tc t7 x
    have fin : Q σ1 := hQ σ1 ke (fun x hx => by rw [List.mem_singleton.mp hx]; exact t1) C1
    refine lQ1_rule (fun _ τ => τ = σ1) (fun _ _ => 0) ?_ 0 σ1 rfl
    intro K y τ hI _
    subst hI
    unfold wp_Index_stirAll_L7
    exact ⟨c1.1, fun _ => fin, fun _ => ⟨fun _ => fin, fun q => by rw [(ke z).1, c2] at q; omega⟩⟩
  | succ l ih =>
    intro d σ z mn lo hi Q hd hT hp hK h0 hol hQ
    obtain ⟨d', rfl⟩ : ∃ d', d = d' + 1 := ⟨d - 1, by omega⟩
    obtain ⟨c1, c2, c3, c4, c5⟩ := hT.cnt
    have hnz : gI σ 584 z = 0 → gI σ 390 o < 640 := by
      intro q
      rw [kl_it, nfr_cons, if_pos q] at hol
      omega
    show wp_Index_stirAll_R cf tv o z (wp_Index_stirAll cf tv d') Q σ
    unfold wp_Index_stirAll_R
    refine sp_touch c1.1 (fun q => ⟨h0, hnz q⟩) (fun σ1 t1 t2 t3 t4 t5 t6 t7 _ => ?_)
    have C1 : CH σ σ1 o [z] [z] := CH.touch hp (hK z (kl_self _ _ _)) h0 t1 t4 t5 t6 t7
    have ke1 : ∀ x, KE σ σ1 x := fun x => KE.tc t7 x
    have eK : kl σ (l + 1) z = [] ++ ([z] ++ cat (fun k => kl σ l (be σ z k)) (gI σ 577 z).toNat) := rfl
    have K1 : CH σ σ1 o (kl σ (l + 1) z) (kl σ (l + 1) z) := by
      rw [eK]
      refine C1.ctx [] _ (fun x hx => (by cases hx)) (fun x hx => ⟨fun q => ?_, hK x (by rw [eK]; exact List.mem_cons_of_mem _ hx)⟩)
      obtain ⟨i, hi', hx'⟩ := cat_mem hx
      have ex := List.mem_singleton.mp q
      exact hT.top (i := i) hi'.1 (by omega) (ex ▸ hx')
    refine lQ1_rule (fun y τ => (0 ≤ y ∧ y ≤ gI σ 577 z) ∧ (∀ x, KE σ τ x) ∧ CH σ τ o (kl σ (l + 1) z) (kl σ (l + 1) z) ∧ gI τ 584 z ≠ 0 ∧ ∀ i, 0 ≤ i → i < y → ∀ x, x ∈ kl σ l (be σ z i) → gI τ 584 x ≠ 0) (fun y _ => (9 - y).toNat) ?_ 0 σ1 ⟨by omega, ke1, K1, t1, fun i i0 i1 => by omega⟩
    intro K y τ hI hK'
    obtain ⟨hy, ke, hC, hz, hx⟩ := hI
    unfold wp_Index_stirAll_L7
    rw [(ke z).2.1, (ke z).1, c2]
    refine ⟨c1.1, fun q => hQ τ ke (fun x hx' => ?_) hC, fun q => ⟨fun w => by omega, fun _ => ⟨by omega, ?_⟩⟩⟩
    · rcases List.mem_cons.mp hx' with e | e
      · rw [e]; exact hz
      · obtain ⟨i, hi', hx2⟩ := cat_mem e
        exact hx i hi'.1 (by omega) x hx2
    · have lt : y < gI σ 577 z := by omega
      have g := hT.2.2.2 y hy.1 lt
      have eb : gA τ 583 z y = be σ z y := (ke z).b y
      rw [eb]
      obtain ⟨e1, e2⟩ := tr_fr (σ := σ) (τ := τ) l (be σ z y) (fun x _ => ke x)
      have spl : kl σ (l + 1) z = (z :: cat (fun k => kl σ l (be σ z k)) y.toNat) ++ (kl σ l (be σ z y) ++ cat (fun i => kl σ l (be σ z (y + 1 + i))) ((gI σ 577 z).toNat - y.toNat - 1)) := by
        show z :: cat _ _ = _
        rw [cat_at _ hy.1 (by omega : y < ((gI σ 577 z).toNat : Int))]; rfl
      have memX : ∀ x, x ∈ z :: cat (fun k => kl σ l (be σ z k)) y.toNat → x ∉ kl σ l (be σ z y) := by
        intro x hx'
        rcases List.mem_cons.mp hx' with e | e
        · rw [e]; exact hT.top hy.1 lt
        · obtain ⟨i, hi', hx2⟩ := cat_mem e
          exact hT.dis hi'.1 (by omega) hy.1 lt (by omega) hx2
      have memY : ∀ x, x ∈ cat (fun i => kl σ l (be σ z (y + 1 + i))) ((gI σ 577 z).toNat - y.toNat - 1) → x ∉ kl σ l (be σ z y) := by
        intro x hx'
        obtain ⟨i, hi', hx2⟩ := cat_mem hx'
        exact hT.dis (i := y + 1 + i) (by omega) (by omega) hy.1 lt (by omega) hx2
      have fpr := hC.2.2.1.2
      refine ih d' τ (be σ z y) 4 _ _ _ (by omega) (g.2.2.fr (fun x _ => ke x)) hC.2.2.1.1 (fun x hx' => fpr x (by rw [e2] at hx'; exact kl_below hy.1 lt hx')) hC.2.2.2.2.2.1.1 ?_ (fun υ ke2 hx2 hC2 _ y' ey' => ?_)
      · rw [e2]
        have a := hC.2.2.2.2.2.1.2
        have b := nfr_le (σ := τ) (z :: cat (fun k => kl σ l (be σ z k)) y.toNat) (kl σ l (be σ z y)) (cat (fun i => kl σ l (be σ z (y + 1 + i))) ((gI σ 577 z).toNat - y.toNat - 1))
        rw [← spl] at b
        omega
      · rw [w32_id (by unfold rI; omega)] at ey'
        rw [ey']
        rw [e2] at hC2 hx2
        have C2 : CH τ υ o (kl σ (l + 1) z) (kl σ (l + 1) z) := by
          rw [spl]
          exact hC2.ctx _ _ (fun x hx' => ⟨memX x hx', fpr x (by rw [spl]; exact List.mem_append.mpr (Or.inl hx'))⟩) (fun x hx' => ⟨memY x hx', fpr x (by rw [spl]; exact List.mem_append.mpr (Or.inr (List.mem_append.mpr (Or.inr hx')))) ⟩)
        refine hK' _ _ ⟨by omega, fun x => (ke x).tr (ke2 x), hC.tr C2, ?_, fun i i0 i1 x hx' => ?_⟩ (by omega)
        · rw [(hC2.ke (memX z List.mem_cons_self) (fpr z (kl_self _ _ _))).2.1]; exact hz
        · by_cases e : i = y
          · rw [e] at hx'; exact hx2 x hx'
          · have nx : x ∉ kl σ l (be σ z y) := hT.dis i0 (by omega) hy.1 lt e hx'
            rw [(hC2.ke nx (fpr x (kl_below i0 (by omega) hx'))).2.1]
            exact hx i i0 (by omega) x hx'
/-- all of the index is to be written -/
theorem sp_stirRoot {tv : Nat → Int} {cf : Cf} {σ : St} {o : Int} {L : List (Int × Int × Int × Int × Int × Int)} {Q : St → Prop} (hI : IX σ o L) (hlen : L.length ≤ 890)
    (hQ : ∀ τ, IX τ o L → CK σ τ o → (∀ x, x ∈ krt τ o → gI τ 584 x ≠ 0) → (∀ x, KE σ τ x) → krt τ o = krt σ o → gA τ 324 o = gA σ 324 o → Fr (mIx o) σ τ → Q τ) : wp_Index_stirAll cf tv 12 o (gI σ 387 o) Q σ := by
  obtain ⟨l, z, i1, i2, i3, i4, i5, i6, i7, i8, i9⟩ := hI
  have few := i2.few (by rw [i4]; omega)
  rw [i1]
  refine sp_stirAll l 12 σ z _ _ _ _ (by omega) i2 i5 (fun x hx => (i6 x hx).1) i8 (by omega) (fun τ ke hf hC => ?_)
  obtain ⟨t1, t2⟩ := tr_fr (σ := σ) (τ := τ) l z (fun x _ => ke x)
  have rt : gI τ 387 o = z := by rw [hC.2.2.2.2.2.2.2.2.i _ _ (fun q => by unfold mCh at q; omega)]; exact i1
  have e1 : krt τ o = kl σ l z := by rw [krt_eq rt (by rw [(ke z).1]; exact i2.cnt.2.1), t2]
  obtain ⟨r1, r2, r3⟩ := IX.of (υ := τ) i1 i2.cnt.2.1 i7 i9 i6 i5 (Fr.rf _ _) rt (i2.fr (fun x _ => ke x)) (NC.all (by rw [t2]; exact hf)) (t1.trans i4) (by rw [t2]; exact hC)
  exact hQ τ r1 r2 (by rw [e1]; exact hf) ke (by rw [e1, krt_eq i1 i2.cnt.2.1]) (hC.2.2.2.2.2.2.2.2.a _ _ (fun q => by unfold mCh at q; omega)) r3
/-! how many bytes are to be written -/
def szK (c : Int) : Int := (32 + 28 * c + 7) / 8 * 8
def fS (σ : St) (K : List Int) : Int := (K.map (fun x => if gI σ 584 x = 0 then 0 else szK (gI σ 577 x))).sum
theorem fS_app (σ : St) (L M : List Int) : fS σ (L ++ M) = fS σ L + fS σ M := by unfold fS; rw [List.map_append, List.sum_append]
theorem fS_cons (σ : St) (x : Int) (M : List Int) : fS σ (x :: M) = (if gI σ 584 x = 0 then 0 else szK (gI σ 577 x)) + fS σ M := by unfold fS; rw [List.map_cons, List.sum_cons]
theorem fS_zero {σ : St} : ∀ {K : List Int}, (∀ x, x ∈ K → gI σ 584 x = 0) → fS σ K = 0
  | [], _ => rfl
  | x :: K, h => by rw [fS_cons, if_pos (h x List.mem_cons_self), fS_zero (fun y hy => h y (List.mem_cons_of_mem _ hy))]; rfl
theorem NC.dead {σ : St} : ∀ {l : Nat} {z : Int}, NC σ l z → gI σ 584 z = 0 → ∀ x, x ∈ kl σ l z → gI σ 584 x = 0
  | 0, z, _, h, x, hx => by rw [List.mem_singleton.mp hx]; exact h
  | l + 1, z, hn, h, x, hx => by
    rcases List.mem_cons.mp hx with e | e
    · rw [e]; exact h
    · obtain ⟨i, hi', hx2⟩ := cat_mem e
      have a := hn i hi'.1 (by omega)
      exact NC.dead a.2 (a.1 h) x hx2
theorem fS_rng {σ : St} : ∀ {K : List Int}, (∀ x, x ∈ K → 0 ≤ gI σ 577 x ∧ gI σ 577 x ≤ 8) → 0 ≤ fS σ K ∧ fS σ K ≤ 256 * K.length
  | [], _ => ⟨Int.le_refl _, Int.le_refl _⟩
  | x :: K, h => by
    have a := fS_rng (fun y hy => h y (List.mem_cons_of_mem _ hy))
    have b := h x List.mem_cons_self
    rw [fS_cons, List.length_cons]
    unfold szK
    split <;> omega
theorem WT.kcnt {σ : St} : ∀ {l : Nat} {mn z lo hi : Int}, WT σ l mn 8 z lo hi → ∀ x, x ∈ kl σ l z → 0 ≤ gI σ 577 x ∧ gI σ 577 x ≤ 8
  | 0, mn, z, lo, hi, h, x, hx => by
    have c := h.cnt
    rw [List.mem_singleton.mp hx]; omega
  | l + 1, mn, z, lo, hi, h, x, hx => by
    have c := h.cnt
    rcases List.mem_cons.mp hx with e | e
    · rw [e]; omega
    · obtain ⟨i, hi', hx2⟩ := cat_mem e
      exact (h.2.2.2 i hi'.1 (by omega)).2.2.kcnt x hx2
theorem sp_sizeOf {tv : Nat → Int} {cf : Cf} {σ : St} {z : Int} {Q : Int → St → Prop} (hz : 0 ≤ z) (hc : 0 ≤ gI σ 577 z ∧ gI σ 577 z ≤ 9) (hQ : Q (szK (gI σ 577 z)) σ) : wp_Index_sizeOf cf tv z Q σ := by
  unfold wp_Index_sizeOf wp_House_eights
  refine ⟨hz, fun _ _ => ?_⟩
  rw [w32_id (x := 28 * gI σ 577 z) (by unfold rI; omega), w32_id (x := 32 + 28 * gI σ 577 z) (by unfold rI; omega), iand_m8 (by omega) (by omega)]
  exact hQ
theorem sp_freshBytes {tv : Nat → Int} {cf : Cf} {o : Int} : ∀ (l d : Nat) (σ : St) (z mn lo hi : Int) (Q : Int → St → Prop), l < d → WT σ l mn 8 z lo hi → NC σ l z → (kl σ l z).length ≤ 1000 → (Q (fS σ (kl σ l z)) σ) → wp_Index_freshBytes cf tv d o z Q σ := by
  intro l
  induction l with
  | zero =>
    intro d σ z mn lo hi Q hd hT hN hlen hQ
    obtain ⟨d', rfl⟩ : ∃ d', d = d' + 1 := ⟨d - 1, by omega⟩
    obtain ⟨c1, c2, c3, c4, c5⟩ := hT.cnt
    have eS : fS σ (kl σ 0 z) = if gI σ 584 z = 0 then 0 else szK (gI σ 577 z) := by
      show fS σ [z] = _
      rw [fS_cons]; show _ + 0 = _; omega
    have fin : ∀ v, v = fS σ (kl σ 0 z) → wp_Index_freshBytes_b15 cf tv o z (wp_Index_freshBytes cf tv d') Q v σ := by
      intro v hv
      unfold wp_Index_freshBytes_b15
      refine lQ2_rule (fun y2 _ τ => τ = σ ∧ y2 = v) (fun _ _ _ => 0) ?_ v 0 σ ⟨rfl, rfl⟩
      intro K y2 y3 τ hI _
      obtain ⟨rfl, rfl⟩ := hI
      unfold wp_Index_freshBytes_L18
      rw [hv]
      exact ⟨c1.1, fun _ => hQ, fun _ => ⟨fun _ => hQ, fun _ => ⟨fun _ => hQ, fun q => by omega⟩⟩⟩
    show wp_Index_freshBytes_R cf tv o z (wp_Index_freshBytes cf tv d') Q σ
    unfold wp_Index_freshBytes_R
    exact ⟨c1.1, fun q => fin 0 (by rw [eS, if_pos q]), fun q => sp_sizeOf c1.1 (by omega) (fun _ _ => fin _ (by rw [eS, if_neg q]))⟩
  | succ l ih =>
    intro d σ z mn lo hi Q hd hT hN hlen hQ
    obtain ⟨d', rfl⟩ : ∃ d', d = d' + 1 := ⟨d - 1, by omega⟩
    obtain ⟨c1, c2, c3, c4, c5⟩ := hT.cnt
    have eK : kl σ (l + 1) z = z :: cat (fun k => kl σ l (be σ z k)) (gI σ 577 z).toNat := rfl
    show wp_Index_freshBytes_R cf tv o z (wp_Index_freshBytes cf tv d') Q σ
    unfold wp_Index_freshBytes_R
    refine ⟨c1.1, fun q => ?_, fun q => sp_sizeOf c1.1 (by omega) (fun _ _ => ?_)⟩
    · have z0 : fS σ (kl σ (l + 1) z) = 0 := fS_zero (hN.dead q)
      rw [z0] at hQ
      unfold wp_Index_freshBytes_b15
      refine lQ2_rule (fun y2 _ τ => τ = σ ∧ y2 = 0) (fun _ _ _ => 0) ?_ 0 0 σ ⟨rfl, rfl⟩
      intro K y2 y3 τ hI _
      obtain ⟨rfl, rfl⟩ := hI
      unfold wp_Index_freshBytes_L18
      exact ⟨c1.1, fun _ => hQ, fun w => absurd q w⟩
    · unfold wp_Index_freshBytes_b15
      have rng : ∀ y : Int, 0 ≤ y → y ≤ gI σ 577 z → 0 ≤ fS σ (cat (fun k => kl σ l (be σ z k)) y.toNat) ∧ fS σ (cat (fun k => kl σ l (be σ z k)) y.toNat) ≤ 256000 := by
        intro y y0 y1
        have a := fS_rng (σ := σ) (K := cat (fun k => kl σ l (be σ z k)) y.toNat) (fun x hx => by
          obtain ⟨i, hi', hx2⟩ := cat_mem hx
          exact hT.kcnt x (kl_below hi'.1 (by omega) hx2))
        have b : (cat (fun k => kl σ l (be σ z k)) y.toNat).length ≤ (kl σ (l + 1) z).length := by
          rw [eK, show (gI σ 577 z).toNat = y.toNat + ((gI σ 577 z).toNat - y.toNat) by omega, cat_add, List.length_cons, List.length_append]
          omega
        omega
      have szr : 0 ≤ szK (gI σ 577 z) ∧ szK (gI σ 577 z) ≤ 256 := by unfold szK; omega
      refine lQ2_rule (fun y2 y3 τ => τ = σ ∧ (0 ≤ y3 ∧ y3 ≤ gI σ 577 z) ∧ y2 = szK (gI σ 577 z) + fS σ (cat (fun k => kl σ l (be σ z k)) y3.toNat)) (fun _ y3 _ => (9 - y3).toNat) ?_ _ 0 σ ⟨rfl, by omega, by show _ = _ + 0; omega⟩
      intro K y2 y3 τ hI hK
      obtain ⟨rfl, hy, rfl⟩ := hI
      unfold wp_Index_freshBytes_L18
      refine ⟨c1.1, fun w => absurd w q, fun _ => ⟨fun w => ?_, fun w => ⟨fun u => by omega, fun _ => ⟨by omega, ?_⟩⟩⟩⟩
      · have e : y3 = gI τ 577 z := by omega
        rw [eK, fS_cons, if_neg q] at hQ
        rw [e]; exact hQ
      · have lt : y3 < gI τ 577 z := by omega
        have g := hT.2.2.2 y3 hy.1 lt
        have nx : (cat (fun k => kl τ l (be τ z k)) (y3 + 1).toNat) = cat (fun k => kl τ l (be τ z k)) y3.toNat ++ kl τ l (be τ z y3) := by
          rw [show (y3 + 1).toNat = y3.toNat + 1 by omega]
          show cat _ y3.toNat ++ kl τ l (be τ z ((y3.toNat : Nat) : Int)) = _
          rw [show ((y3.toNat : Nat) : Int) = y3 by omega]
        have sub : (kl τ l (be τ z y3)).length ≤ (kl τ (l + 1) z).length := by
          rw [eK, cat_at _ hy.1 (by omega : y3 < ((gI τ 577 z).toNat : Int)), List.length_cons, List.length_append, List.length_append]
          omega
        refine ih d' τ (be τ z y3) 4 _ _ _ (by omega) g.2.2 (hN y3 hy.1 lt).2 (by omega) (fun _ _ y2' e2 y3' e3 => ?_)
        have r1 := rng (y3 + 1) (by omega) (by omega)
        rw [nx, fS_app] at r1
        rw [w32_id (by unfold rI; omega)] at e2 e3
        rw [e2, e3]
        refine hK _ _ _ ⟨rfl, by omega, ?_⟩ (by omega)
        rw [nx, fS_app]; omega
/-! what was replaced counts no more -/
theorem sp_iwritten {tv : Nat → Int} {cf : Cf} {σ : St} {o : Int} {Q : St → Prop} (hol : 0 ≤ gI σ 390 o ∧ gI σ 390 o ≤ 640) (hrg : ∀ i, 0 ≤ i → i < gI σ 390 o → 0 ≤ gA σ 388 o i ∧ gA σ 388 o i < cf.1 - 6) (hlv : ∀ (k : Nat) m, (k : Int) ≤ gI σ 390 o → rI (gA σ 324 o m - oSm (gA σ 388 o) (gA σ 389 o) m k))
    (hQ : ∀ τ, (∀ m, gA τ 324 o m = gA σ 324 o m - oS σ o m) → gI τ 390 o = 0 → Fr (fun f o' => (f = 324 ∨ f = 390) ∧ o' = o) σ τ → Q τ) : wp_Index_written cf tv o Q σ := by
  unfold wp_Index_written
  refine lQ1_rule (fun y τ => ∃ k : Nat, y = k ∧ (k : Int) ≤ gI σ 390 o ∧ (∀ m, gA τ 324 o m = gA σ 324 o m - oSm (gA σ 388 o) (gA σ 389 o) m k) ∧ Fr (fun f o' => f = 324 ∧ o' = o) σ τ) (fun y _ => (640 - y).toNat) ?_ 0 σ ⟨0, rfl, by omega, fun m => by show _ = _ - 0; omega, Fr.rf _ _⟩
  intro K y τ hI hK
  obtain ⟨k, rfl, hk, hm, fr⟩ := hI
  have e1 : gI τ 390 o = gI σ 390 o := fr.i _ _ (fun q => absurd q.1 (by decide))
  have e2 : gA τ 388 o = gA σ 388 o := fr.a _ _ (fun q => absurd q.1 (by decide))
  have e3 : gA τ 389 o = gA σ 389 o := fr.a _ _ (fun q => absurd q.1 (by decide))
  unfold wp_Index_written_L2
  rw [e1, e2, e3]
  refine ⟨fun q σ1 ea => ?_, fun q => ⟨by omega, hrg k (by omega) (by omega), by omega, hrg k (by omega) (by omega), fun σ1 ea y' ey => ?_⟩⟩
  · rw [ea]
    refine hQ _ (fun m => ?_) (by rw [gI_sI, if_pos ⟨rfl, rfl⟩]) ((fr.mono (fun f o' q => ⟨Or.inl q.1, q.2⟩)).sI ⟨Or.inr rfl, rfl⟩)
    rw [gA_sI, hm m]
    unfold oS
    rw [show (gI σ 390 o).toNat = k by omega]
  · rw [w32_id (by unfold rI; omega)] at ey
    have ln := hlv (k + 1) (gA σ 388 o k) (by omega)
    have e4 : oSm (gA σ 388 o) (gA σ 389 o) (gA σ 388 o k) (k + 1) = oSm (gA σ 388 o) (gA σ 389 o) (gA σ 388 o k) k + gA σ 389 o k := by
      show _ + (if _ then _ else _) = _
      rw [if_pos rfl]
    rw [e4] at ln
    rw [hm, w32_id (by unfold rI at ln ⊢; omega)] at ea
    rw [ey, ea]
    refine hK _ _ ⟨k + 1, by omega, by omega, fun m => ?_, fr.sA ⟨rfl, rfl⟩⟩ (by omega)
    rw [sA_if]
    show _ = _ - (oSm _ _ m k + if gA σ 388 o k = m then gA σ 389 o k else 0)
    by_cases w : m = gA σ 388 o k
    · rw [if_pos w, if_pos w.symm, ← w]; omega
    · rw [if_neg w, if_neg (fun q => w q.symm), hm m]; omega
