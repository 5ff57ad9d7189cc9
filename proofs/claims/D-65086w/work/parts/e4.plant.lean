/-! the index is planted; the table and the nameless are read -/
theorem NC.cln {σ : St} : ∀ {l : Nat} {z : Int}, (∀ x, x ∈ kl σ l z → gI σ 584 x = 0) → NC σ l z
  | 0, _, _ => trivial
  | l + 1, z, h => fun k k0 k1 => ⟨fun _ => h _ (kl_below k0 k1 (kl_self _ _ _)), NC.cln (fun x hx => h x (kl_below k0 k1 hx))⟩
theorem NC.ke {σ τ : St} (h : ∀ x, KE σ τ x ∧ OE σ τ x) {l : Nat} {z : Int} (n : NC σ l z) : NC τ l z := NC.eq (fun w => (h w).1.2.1) (fun w i => (h w).1.b i) (fun w => (h w).2.1) n
def mPl (o : Int) (f : Nat) (o' : Int) : Prop := (f = 385 ∨ f = 386 ∨ f = 387) ∧ o' = o
theorem sp_plant {tv : Nat → Int} {cf : Cf} {σ : St} {o z t lo hi : Int} {l : Nat} {Q : St → Prop} (hr : gI σ 387 o = t) (ht : WT σ 0 0 8 t lo hi) (hp : PO σ o) (ht2 : ¬ FP σ o t ∧ 320 * o ≤ t ∧ t < 320 * o + 320) (hz : WT σ l (if l = 0 then 0 else 2) 8 z (-BIG) BIG) (hk : ∀ y, y ∈ kl σ l z → gI σ 584 y = 0 ∧ ¬ FP σ o y ∧ (320 * o ≤ y ∧ y < 320 * o + 320) ∧ y ≠ t) (hf : gI σ 386 o = 1 + (kl σ l z).length) (hol : gI σ 390 o = 0)
    (hQ : ∀ τ, IX τ o (ls σ l z) → krt τ o = kl σ l z → gI τ 390 o = 0 → (∀ y, KE σ τ y ∧ OE σ τ y) → Fr (mPl o) σ τ → Q τ) : wp_Index_plant cf tv o z Q σ := by
  unfold wp_Index_plant
  rw [hr]
  refine sp_giveAll 0 12 σ t 0 lo hi _ (by omega) ht hp (fun x hx => by rw [List.mem_singleton.mp hx]; exact ht2) (by show ((1 : Nat) : Int) ≤ _; omega) (fun τ f1 q1 q2 q3 _ σ6 e6 => ?_)
  have q1' : gI τ 386 o = gI σ 386 o - 1 := by rw [q1]; rfl
  have f6 : Fr (fun f o' => f = 387 ∧ o' = o) τ σ6 := by rw [e6]; exact (Fr.rf _ _).sI ⟨rfl, rfl⟩
  have F : Fr (mPl o) σ σ6 := (f1.mono (fun f o' q => by unfold mPf at q; exact ⟨by omega, q.2⟩)).tr (f6.mono (fun f o' q => ⟨by omega, q.2⟩))
  have ke : ∀ y, KE σ σ6 y ∧ OE σ σ6 y := fun y => ⟨KE.fr F (fun f a b q => by unfold mPl at q; omega), OE.fr F (fun f a b q => by unfold mPl at q; omega)⟩
  obtain ⟨g1, g2⟩ := tr_fr (σ := σ) (τ := σ6) l z (fun x _ => (ke x).1)
  obtain ⟨p1, p2⟩ := FP_fr (o := o) f6 ⟨fun q => by omega, fun q => by omega⟩
  have r6 : gI σ6 387 o = z := by rw [e6, gI_sI1]
  have lz : gI σ6 576 z = l := by rw [(ke z).1.1]; exact hz.cnt.2.1
  have fr6 : gI σ6 386 o = (kl σ l z).length := by rw [f6.i _ _ (fun q => by omega), q1']; omega
  have ol6 : gI σ6 390 o = 0 := by rw [F.i _ _ (fun q => by unfold mPl at q; omega)]; exact hol
  have kr : krt σ6 o = kl σ l z := by rw [krt_eq r6 lz, g2]
  refine hQ σ6 ⟨l, z, r6, hz.fr (fun x _ => (ke x).1), NC.ke ke (NC.cln (fun x hx => (hk x hx).1)), g1, p2 q2, fun x hx => ?_, ?_, by omega, ?_⟩ kr ol6 ke F
  · rw [g2] at hx
    refine ⟨fun w => ?_, (hk x hx).2.2.1⟩
    rcases q3 x ((p1 x).mp w) with w | w
    · exact (hk x hx).2.1 w
    · exact (hk x hx).2.2.2 (List.mem_singleton.mp w)
  · rw [g2, fr6]
  · rw [ol6, g2]
    have := List.length_filter_le (fun x => decide (gI σ6 584 x = 0)) (kl σ l z)
    have nl : nfr σ6 (kl σ l z) ≤ (kl σ l z).length := this
    have := q2.1
    omega
theorem lS_out {L : List (Int × Int × Int × Int × Int × Int)} {m : Int} (h : ∀ e, e ∈ L → e.2.2.1 ≠ m) : lS L m = 0 := by
  induction L with
  | nil => rfl
  | cons x L ih => rw [lS_cons, if_neg (h x List.mem_cons_self), ih (fun e he => h e (List.mem_cons_of_mem _ he))]; rfl
theorem sp_table {tv : Nat → Int} {cf : Cf} {σ : St} {o : Int} {g : Int → Int} {Q : St → Prop} (hc : CfOK cf) (ho : o = 0 ∨ o = 1) (hrk : RK σ) (hat : gI σ 513 o = 0) (hg : gA σ 512 o = g)
    (hQ : ∀ τ, (∀ n, 4 + cf.2.2 ≤ n → n < cf.1 - 6 → gA τ 324 o n = rI4 g (24 + 4 * (n - (4 + cf.2.2)))) → (∀ n, n < 4 + cf.2.2 → gA τ 324 o n = gA σ 324 o n) → Fr (fun f o' => f = 324 ∧ o' = o) σ τ → RK τ → ∀ K, wp_Store_find_L323 cf tv o Q K (cf.1 - 6) τ) : lQ1 (wp_Store_find_L323 cf tv o Q) (4 + cf.2.2) σ := by
  have hB : 24 ≤ cf.1 ∧ cf.1 ≤ 64 := hc.1
  have hR : 0 ≤ cf.2.2 ∧ cf.2.2 ≤ 4 := hc.2.2
  have ro : rowL o = 320 := by unfold rowL; rw [if_pos (by omega)]
  refine lQ1_rule (fun y τ => (4 + cf.2.2 ≤ y ∧ y ≤ cf.1 - 6) ∧ RK τ ∧ (∀ n, 4 + cf.2.2 ≤ n → n < y → gA τ 324 o n = rI4 g (24 + 4 * (n - (4 + cf.2.2)))) ∧ (∀ n, n < 4 + cf.2.2 → gA τ 324 o n = gA σ 324 o n) ∧ Fr (fun f o' => f = 324 ∧ o' = o) σ τ) (fun y _ => (cf.1 - 6 - y).toNat) ?_ _ σ ⟨by omega, hrk, fun n a b => by omega, fun n _ => rfl, Fr.rf _ _⟩
  intro K y τ hI hK
  obtain ⟨h1, rk, h2, h3, fr⟩ := hI
  by_cases e : y = cf.1 - 6
  · rw [e] at h2 ⊢
    exact hQ τ h2 h3 fr rk K
  have at0 : gI τ 513 o = 0 := by rw [fr.i _ _ (fun q => by omega)]; exact hat
  have g0 : gA τ 512 o = g := by rw [fr.a _ _ (fun q => by omega)]; exact hg
  unfold wp_Store_find_L323
  refine ⟨fun q => absurd q (by omega), fun _ => ?_⟩
  rw [w32_id (x := y - (4 + cf.2.2)) (by unfold rI; omega), w32_id (x := 4 * (y - (4 + cf.2.2))) (by unfold rI; omega)]
  refine sp_rget at0 (by omega) (by omega) (by omega) (fun _ ri _ => ⟨by omega, fun σ1 e1 y1 ey => ?_⟩)
  rw [w32_id (by unfold rI; omega)] at ey
  rw [g0] at ri e1
  have l1 : ∀ n, gA σ1 324 o n = if n = y then rI4 g (0 + 24 + 4 * (y - (4 + cf.2.2))) else gA τ 324 o n := fun n => by rw [e1, sA_if]
  rw [ey]
  refine hK _ _ ⟨by omega, by rw [e1]; exact rk.sA (by show rI _; exact ri), fun n n0 n1 => ?_, fun n n0 => ?_, ?_⟩ (by omega)
  · rw [l1]
    by_cases w : n = y
    · rw [if_pos w, w, show (0 : Int) + 24 + 4 * (y - (4 + cf.2.2)) = 24 + 4 * (y - (4 + cf.2.2)) by omega]
    · rw [if_neg w]; exact h2 n n0 (by omega)
  · rw [l1, if_neg (by omega)]; exact h3 n n0
  · rw [e1]; exact fr.sA ⟨rfl, rfl⟩
def mRo (o : Int) (f : Nat) (o' : Int) : Prop := ((f = 135 ∧ o' = 0) ∨ mRow (o + 4) f o') ∨ mOr o f o'
theorem sp_orphans {tv : Nat → Int} {cf : Cf} {σ : St} {o : Int} {dk : Int → Int} {db : Int → Int → Int} {Sp : Int → Int → (Int → Int → Int) → Prop} {B : Int} (hc : CfOK cf) (ho : o = 0 ∨ o = 1) {lg oc : Int} {Q : St → Prop} (hD : DJ tv cf σ o dk db Sp B) (hl : gI σ 208 o = lg) (hlg : 0 ≤ lg ∧ lg < cf.1 - 6) (hd : 1 ≤ dk lg) (hoc : rI4 (db lg) 28 = oc) (ho2 : 0 ≤ oc ∧ oc ≤ 15)
    (hQ : ∀ τ, orL τ o = cat1 (fun k => rI4 (db lg) (32 + 4 * k)) oc.toNat → gI τ 218 o = oc → Fr (mRo o) σ τ → RK τ → Q τ) : wp_Store_readOrphans cf tv o Q σ := by
  have r4 : rowL (o + 4) = 128 := by unfold rowL; rw [if_neg (by omega), if_pos (by omega)]
  unfold wp_Store_readOrphans
  rw [hl]
  refine sp_sheet hc ho hD hlg ⟨by omega, by omega⟩ (fun τ b1 b2 f1 k1 => ?_)
  generalize hg : gA τ 512 (o + 4) = g at b1
  have R4 : ∀ j, 0 ≤ j → j + 4 ≤ 128 → rI4 g j = rI4 (db lg) j := fun j j0 j1 => rI4_sh (fun i i0 i1 => by rw [b1 _ (by omega) (by omega)]; congr 1; omega)
  refine sp_rget b2 (by omega) (by omega) (by omega) (fun _ ri _ σ1 e1 => ?_)
  rw [hg, show (0 : Int) + 24 + 4 = 28 by omega, R4 28 (by omega) (by omega), hoc] at e1 ri
  have F1 : Fr (mRo o) σ σ1 := by
    refine (f1.mono (fun f o' q => Or.inl q)).tr ?_
    rw [e1]; exact (Fr.rf _ _).sI (Or.inr ⟨Or.inr rfl, rfl⟩)
  have k1' : RK σ1 := by rw [e1]; exact k1.sI (by show rI oc; exact ri)
  have c1 : gI σ1 218 o = oc := by rw [e1, gI_sI1]
  have a1 : gI σ1 513 (o + 4) = 0 := by rw [e1, gI_sI, if_neg (fun q => absurd q.1 (by decide))]; exact b2
  have g1 : gA σ1 512 (o + 4) = g := by rw [e1]; exact hg
  refine lQ1_rule (fun y υ => (0 ≤ y ∧ y ≤ oc) ∧ RK υ ∧ (∀ k, 0 ≤ k → k < y → gA υ 217 o k = rI4 (db lg) (32 + 4 * k)) ∧ Fr (fun f o' => f = 217 ∧ o' = o) σ1 υ) (fun y _ => (oc - y).toNat) ?_ 0 σ1 ⟨by omega, k1', fun k a b => by omega, Fr.rf _ _⟩
  intro K y υ hI hK
  obtain ⟨h1, rk, h2, fr⟩ := hI
  have cu : gI υ 218 o = oc := by rw [fr.i _ _ (fun q => by omega)]; exact c1
  unfold wp_Store_readOrphans_L41
  rw [cu]
  refine ⟨fun q => ?_, fun q => ?_⟩
  · refine hQ υ ?_ cu (F1.tr (fr.mono (fun f o' q => Or.inr ⟨by omega, q.2⟩))) rk
    unfold orL
    rw [cu]
    exact cat1_ext _ (fun i i0 i1 => h2 i i0 (by omega))
  · rw [w32_id (x := 4 * y) (by unfold rI; omega), w32_id (x := 8 + 4 * y) (by unfold rI; omega)]
    have au : gI υ 513 (o + 4) = 0 := by rw [fr.i _ _ (fun q => by omega)]; exact a1
    refine sp_rget au (by omega) (by omega) (by omega) (fun _ ri2 _ => ⟨by omega, fun σ2 e2 y1 ey => ?_⟩)
    rw [w32_id (by unfold rI; omega)] at ey
    have gu : gA υ 512 (o + 4) = g := by rw [fr.a _ _ (fun q => by omega)]; exact g1
    rw [gu, show (0 : Int) + 24 + (8 + 4 * y) = 32 + 4 * y by omega, R4 _ (by omega) (by omega)] at e2 ri2
    rw [ey]
    refine hK _ _ ⟨by omega, by rw [e2]; exact rk.sA (by show rI _; exact ri2), fun k k0 k1 => ?_, by rw [e2]; exact fr.sA ⟨rfl, rfl⟩⟩ (by omega)
    rw [e2, sA_if]
    by_cases w : k = y
    · rw [if_pos w, w]
    · rw [if_neg w]; exact h2 k k0 (by omega)
