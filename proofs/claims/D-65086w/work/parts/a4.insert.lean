/-! a key is put in -/
theorem sp_halve {tv : Nat → Int} {cf : Cf} {σ : St} {o z r : Int} {Q : Int → St → Prop} (hz : 0 ≤ z) (hc : gI σ 577 z = 9) (hp : PO σ o) (hzp : ¬ FP σ o z) (h0 : 0 ≤ gI σ 390 o) (hf : gI σ 386 o < 320) (hfz : gI σ 584 z ≠ 0) (hr : gA σ 385 o (gI σ 386 o) = r) (hr0 : 0 ≤ r)
    (hQ : ∀ τ, gI τ 577 z = 5 → gI τ 577 r = 4 → (∀ i, 0 ≤ i → i < 5 → en τ z i = en σ z i) → (∀ i, 0 ≤ i → i < 4 → en τ r i = en σ z (5 + i)) → gI τ 576 z = gI σ 576 z → gI τ 576 r = gI σ 576 z → gI τ 584 z ≠ 0 → gI τ 584 r ≠ 0 → CH σ τ o [z] [z, r] → Q r τ) : wp_Index_halve cf tv o z Q σ := by
  have hne : r ≠ z := fun e => hzp ⟨gI σ 386 o, ⟨Int.le_refl _, hf⟩, hr.trans e⟩
  unfold wp_Index_halve
  refine ⟨hz, ?_⟩
  refine sp_kfetch (lv := gI σ 576 z) ⟨hp.1.1, hf⟩ hr hr0 (fun σ1 a1 a2 a3 a4 a5 a6 f1 _ _ y3 e3 => ?_)
  have n1 : ∀ f, 576 ≤ f → ¬ mKf o r f z := fun f a q => by
    unfold mKf at q
    rcases q with q | q
    · omega
    · exact hne q.2.symm
  have c1 : gI σ1 577 z = 9 := by rw [f1.i _ _ (n1 _ (by decide))]; exact hc
  rw [c1, w32_id (by unfold rI; omega), jdv_nn (by omega) (by omega) (by omega)] at e3
  have e3' : y3 = 5 := by rw [e3]; rfl
  rw [e3']
  have eσ : ∀ i, en σ1 z i = en σ z i := en_fr f1 (fun f a _ => n1 f (Nat.le_trans (by decide) a))
  have C1 : CH σ σ1 o [] [r] := CH.fetch hp h0 hf hr a1 a2 a5 f1
  have hp1 : PO σ1 o := C1.2.2.1.1
  have fz1 : gI σ1 584 z = gI σ 584 z := f1.i _ _ (n1 _ (by decide))
  have zp1 : ¬ FP σ1 o z := fun q => (C1.2.1 z q).elim hzp (fun w => by cases w)
  have rp1 : ¬ FP σ1 o r := C1.2.2.1.2 r (List.mem_singleton.mpr rfl)
  have mz : z ∈ [z, r] := List.mem_cons_self
  have mr : r ∈ [z, r] := List.mem_cons_of_mem _ (List.mem_singleton.mpr rfl)
  refine lQ3_rule (fun y2 y3 y4 τ => (y2 = r ∧ y3 = 5 ∧ 5 ≤ y4 ∧ y4 ≤ 9) ∧ gI τ 577 z = 9 ∧ gI τ 577 r = y4 - 5 ∧ (∀ i, 0 ≤ i → i < 5 → en τ z i = en σ z i) ∧ (∀ i, y4 ≤ i → i < 9 → en τ z i = en σ z i) ∧ (∀ i, 0 ≤ i → i < y4 - 5 → en τ r i = en σ z (5 + i)) ∧ Fr (mKu [z, r]) σ1 τ) (fun _ _ y4 _ => (9 - y4).toNat) ?_ r 5 5 σ1 ⟨⟨rfl, rfl, by omega, by omega⟩, c1, by omega, fun i _ _ => eσ i, fun i _ _ => eσ i, fun i a b => by omega, Fr.rf _ _⟩
  intro K y2 y3 y4 τ hI hK
  obtain ⟨⟨rfl, rfl, h4, h5⟩, d1, d2, d3, d4, d5, d6⟩ := hI
  unfold wp_Index_halve_L21
  rw [d1]
  refine ⟨hz, fun q σ14 e14 => ?_, fun q => ⟨hr0, fun σ16 e16 => ?_⟩⟩
  · have e4 : y4 = 9 := by omega
    rw [e4] at d2 d5
    have nz : ∀ f, f ≠ 577 → gI σ14 f z = gI τ f z := fun f hf => by rw [e14, gI_sI, if_neg (fun w => hf w.1)]
    have f14 : Fr (mKu [z, y2]) σ1 σ14 := by rw [e14]; exact d6.sI ⟨by omega, mz⟩
    have nk : ∀ f x, (f < 577 ∨ 583 < f) → ¬ mKu [z, y2] f x := fun f x a q => by unfold mKu at q; omega
    have C2 : CH σ1 σ14 o [z, y2] [z, y2] := by
      refine CH.updL hp1 (fun x hx => ?_) C1.2.2.2.2.2.1.1 (fun x hx => ?_) f14
      · rcases List.mem_cons.mp hx with w | w
        · rw [w]; exact zp1
        · rw [List.mem_singleton.mp w]; exact rp1
      · rcases List.mem_cons.mp hx with w | w
        · rw [w, fz1]; exact hfz
        · rw [List.mem_singleton.mp w, a5]; omega
    have C3 : CH σ σ1 o [z] [z, y2] := by
      have := C1.ctx [z] [] (fun x hx => by rw [List.mem_singleton.mp hx]; exact ⟨fun w => (by cases w), hzp⟩) (fun x hx => by cases hx)
      exact this
    refine hQ σ14 (by rw [e14, gI_sI, if_pos ⟨rfl, rfl⟩]) ?_ (fun i a b => ?_) (fun i a b => ?_) ?_ ?_ ?_ ?_ (C3.tr C2)
    · rw [e14, gI_sI, if_neg (fun w => hne w.2), d2]; rfl
    · rw [e14]; exact d3 i a b
    · rw [e14]; exact d5 i a (by omega)
    · rw [f14.i _ _ (nk _ _ (by decide)), f1.i _ _ (n1 _ (by decide))]
    · rw [f14.i _ _ (nk _ _ (by decide))]; exact a3
    · rw [f14.i _ _ (nk _ _ (by decide)), fz1]; exact hfz
    · rw [f14.i _ _ (nk _ _ (by decide)), a5]; omega
  · rw [d2, w32_id (by unfold rI; omega)] at e16
    have ee16 : ∀ x i, en σ16 x i = en τ x i := fun x i => by rw [e16]; rfl
    rw [d2]
    refine sp_ktake hz (by omega) (by omega) (fun τ' e' f' _ => ⟨by omega, fun σ19 e19 y4' ey4 => ?_⟩)
    rw [w32_id (by unfold rI; omega)] at ey4
    rw [ey4]
    have f16 : Fr (mKu [z, y2]) σ1 σ16 := by rw [e16]; exact d6.sI ⟨by omega, mr⟩
    have f19 : Fr (mKu [z, y2]) σ1 σ19 := by
      rw [e19]
      exact (f16.tr (f'.mono (fun f o' w => ⟨by unfold mKa at w; omega, by unfold mKa at w; rw [w.2]; exact mr⟩))).sA ⟨by omega, mz⟩
    have ez : ∀ i, i ≠ y4 → en σ19 z i = en τ z i := by
      intro i ne
      have : en σ19 z i = en τ' z i := by
        rw [e19]; unfold en
        simp only [gA_sA]
        simp [ne]
      rw [this, e', if_neg (fun w => hne w.1.symm), ee16]
    have er : ∀ i, en σ19 y2 i = if i = y4 - 5 then en τ z y4 else en τ y2 i := by
      intro i
      have : en σ19 y2 i = en τ' y2 i := by
        rw [e19]; unfold en
        simp only [gA_sA]
        simp [hne]
      rw [this, e', ee16, ee16]
      by_cases w : i = y4 - 5
      · rw [if_pos ⟨rfl, w⟩, if_pos w]
      · rw [if_neg (fun v => w v.2), if_neg w]
    have cz : ∀ x, gI σ19 577 x = gI σ16 577 x := fun x => by
      rw [e19, gI_sA, f'.i _ _ (fun w => by unfold mKa at w; omega)]
    refine hK _ _ _ _ ⟨⟨rfl, rfl, by omega, by omega⟩, ?_, ?_, fun i a b => ?_, fun i a b => ?_, fun i a b => ?_, f19⟩ (by omega)
    · rw [cz, e16, gI_sI, if_neg (fun w => hne w.2.symm)]; exact d1
    · rw [cz, e16, gI_sI, if_pos ⟨rfl, rfl⟩]; omega
    · rw [ez i (by omega)]; exact d3 i a b
    · rw [ez i (by omega)]; exact d4 i (by omega) b
    · rw [er]
      by_cases w : i = y4 - 5
      · rw [if_pos w, d4 y4 (by omega) (by omega), w, show 5 + (y4 - 5) = y4 by omega]
      · rw [if_neg w]; exact d5 i a (by omega)
theorem cat_rep1 {α : Type} {f g : Int × Int × Int × Int × Int × Int → List α} {s s1 : Int → Int × Int × Int × Int × Int × Int} {n : Nat} {c : Int} (c0 : 0 ≤ c) (c1 : c < n) (h : ∀ i : Int, 0 ≤ i → i < n → i ≠ c → g (s1 i) = f (s i)) : cat (fun i => g (s1 i)) n = cat (fun i => f (s i)) c.toNat ++ (g (s1 c) ++ cat (fun i => f (s (c + 1 + i))) (n - c.toNat - 1)) := by
  rw [cat_at _ c0 c1]
  rw [cat_ext (f := fun i => g (s1 i)) (g := fun i => f (s i)) c.toNat (fun i a b => h i a (by omega) (by omega))]
  rw [cat_ext (f := fun i => g (s1 (c + 1 + i))) (g := fun i => f (s (c + 1 + i))) (n - c.toNat - 1) (fun i a b => h (c + 1 + i) (by omega) (by omega) (by omega))]
theorem cat_rep2 {α : Type} {f g : Int × Int × Int × Int × Int × Int → List α} {s s1 : Int → Int × Int × Int × Int × Int × Int} {n : Nat} {c : Int} {e : Int × Int × Int × Int × Int × Int} (c0 : 0 ≤ c) (c1 : c < n) (h : ∀ i : Int, 0 ≤ i → i < n → i ≠ c → g (s1 i) = f (s i)) : cat (fun i => g (insq s1 (c + 1) e i)) (n + 1) = cat (fun i => f (s i)) c.toNat ++ ((g (s1 c) ++ g e) ++ cat (fun i => f (s (c + 1 + i))) (n - c.toNat - 1)) := by
  have e1 : n + 1 = (c + 1).toNat + (1 + (n - c.toNat - 1)) := by omega
  rw [e1, cat_ins g s1 e _ (by omega)]
  rw [cat_ext (f := fun i => g (s1 (c + 1 + i))) (g := fun i => f (s (c + 1 + i))) (n - c.toNat - 1) (fun i a b => h (c + 1 + i) (by omega) (by omega) (by omega))]
  rw [show (c + 1).toNat = c.toNat + 1 by omega]
  have e2 : cat (fun i => g (s1 i)) (c.toNat + 1) = cat (fun i => f (s i)) c.toNat ++ g (s1 c) := by
    show cat (fun i => g (s1 i)) c.toNat ++ g (s1 (c.toNat : Int)) = _
    rw [cat_ext (f := fun i => g (s1 i)) (g := fun i => f (s i)) c.toNat (fun i a b => h i a (by omega) (by omega)), show ((c.toNat : Nat) : Int) = c by omega]
  rw [e2]
  simp only [List.append_assoc]
/-- what putting a key in below knot z leaves -/
def IPo (σ τ : St) (o : Int) (l : Nat) (mn z lo hi κ : Int) (A B : List (Int × Int × Int × Int × Int × Int)) (e : Int × Int × Int × Int × Int × Int) (r : Int) : Prop := gI τ 584 z ≠ 0 ∧ gI τ 386 o ≤ gI σ 386 o + l + 1 ∧ ((r = -1 ∧ WT τ l mn 8 z (min lo κ) hi ∧ NC τ l z ∧ ls τ l z = A ++ e :: B ∧ CH σ τ o (kl σ l z) (kl τ l z)) ∨ (0 ≤ r ∧ gI τ 584 r ≠ 0 ∧ WT τ l 4 8 z (min lo κ) (ky τ r 0) ∧ WT τ l 4 8 r (ky τ r 0) hi ∧ NC τ l z ∧ NC τ l r ∧ ls τ l z ++ ls τ l r = A ++ e :: B ∧ CH σ τ o (kl σ l z) (kl τ l z ++ kl τ l r))) ∧ (1 ≤ gI σ 577 z → ky τ z 0 = if κ < ky σ z 0 then κ else ky σ z 0)
theorem sp_b124 {tv : Nat → Int} {cf : Cf} {σ υ : St} {o z h lw mn lo hi κ : Int} {l : Nat} {F : Int → Int → Int → Int → (Int → St → Prop) → St → Prop} {Q : Int → St → Prop} {A B : List (Int × Int × Int × Int × Int × Int)} {e : Int × Int × Int × Int × Int × Int} (ho : o = 0 ∨ o = 1) (hT : WT υ l mn 9 z (min lo κ) hi) (hN : NC υ l z) (hL : ls υ l z = A ++ e :: B) (hC : CH σ υ o (kl σ l z) (kl υ l z)) (hf : gI υ 584 z ≠ 0) (hfr : gI υ 386 o ≤ gI σ 386 o + l) (h320 : gI σ 386 o + l + 1 ≤ 320) (hk : 1 ≤ gI σ 577 z → ky υ z 0 = if κ < ky σ z 0 then κ else ky σ z 0)
    (hQ : ∀ r τ, IPo σ τ o l mn z lo hi κ A B e r → Q r τ) : wp_Index_insert_b124 cf tv o z h lw F Q υ := by
  obtain ⟨c1, c2, c3, c4, c5⟩ := hT.cnt
  unfold wp_Index_insert_b124
  refine ⟨c1.1, fun q => ?_, fun q => ?_⟩
  · refine hQ (-1) υ ⟨hf, by omega, Or.inl ⟨rfl, ?_, hN, hL, hC⟩, hk⟩
    obtain ⟨w1, w2, w3, w4⟩ := WT_it.mp hT
    exact WT_it.mpr ⟨w1, w2, ⟨w3.1, w3.2.1, q⟩, w4⟩
  · have hp := hC.2.2.1.1
    have hc9 : gI υ 577 z = 9 := by omega
    have pr := (hp.2 (gI υ 386 o) (Int.le_refl _) (by omega)).1
    refine sp_halve c1.1 hc9 hp (hC.2.2.1.2 z (kl_self _ _ _)) hC.2.2.2.2.2.1.1 (by omega) hf rfl (by omega) (fun τ d1 d2 d3 d4 d5 d6 d7 d8 d9 _ _ => ?_)
    generalize hr : gA υ 385 o (gI υ 386 o) = r at *
    have rp : FP υ o r := ⟨gI υ 386 o, ⟨Int.le_refl _, by omega⟩, hr⟩
    obtain ⟨w1, w2, w3, w4⟩ := WT_it.mp hT
    rw [hc9] at w4
    have kx : ∀ k, 0 ≤ k → k < 9 → ∀ x, x ∈ itK υ l (en υ z k) → x ∉ [z] ∧ ¬ FP υ o x := by
      intro k k0 k1 x hx
      refine ⟨fun w => ?_, hC.2.2.1.2 x ?_⟩
      · have := itK_lev w4 k0 k1 hx
        rw [List.mem_singleton.mp w] at this
        omega
      · rw [kl_it]
        exact List.mem_cons_of_mem _ (mem_cat (f := fun k => itK υ l (en υ z k)) k0 (by omega) hx)
    obtain ⟨g1, g2, g3, g4, g5, g6⟩ := halved hT hc9 d1 d2 d3 d4 d5 d6 (by omega) (fun k k0 k1 x hx => d9.ke (kx k k0 k1 x hx).1 (kx k k0 k1 x hx).2) hN d7 d8
    have K1 : CH υ τ o (kl υ l z) (kl τ l z ++ kl τ l r) := by
      have := d9.ctx [] (cat (fun k => itK υ l (en υ z k)) 9) (fun x hx => by cases hx) (fun x hx => by
        obtain ⟨k, hk', hx'⟩ := cat_mem hx
        exact kx k hk'.1 hk'.2 x hx')
      have e1 : kl υ l z = [] ++ ([z] ++ cat (fun k => itK υ l (en υ z k)) 9) := by rw [kl_it, hc9]; rfl
      rw [← e1] at this
      refine this.perm ?_
      refine List.Perm.trans ?_ g6
      rw [e1]
      show (z :: r :: cat _ 9).Perm (z :: cat _ 9 ++ [r])
      refine List.Perm.cons z ?_
      exact List.Perm.symm (List.perm_append_comm (l₁ := cat _ 9) (l₂ := [r]))
    have fe : gI τ 386 o ≤ gI σ 386 o + l + 1 := by
      have a := d9.2.2.2.1
      simp only [List.length_cons, List.length_nil] at a
      omega
    refine hQ r τ ⟨d7, fe, Or.inr ⟨by omega, d8, g1, g2, g3, g4, by rw [g5]; exact hL, hC.tr K1⟩, fun w => ?_⟩
    rw [← hk w]
    show kyE (en τ z 0) = kyE (en υ z 0)
    rw [d3 0 (by omega) (by omega)]
