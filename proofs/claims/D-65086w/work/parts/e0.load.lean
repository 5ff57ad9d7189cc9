/-! the index as it is on the flash -/
/-- place k of knot x, as it is written: number, place, size -/
def oN (σ : St) (x k : Int) : Int := if be σ x k < 0 then gA σ 580 x k else gI σ 585 (be σ x k)
def oP (σ : St) (x k : Int) : Int := if be σ x k < 0 then gA σ 581 x k else gI σ 586 (be σ x k)
def oZ (σ : St) (x k : Int) : Int := if be σ x k < 0 then gA σ 582 x k else gI σ 587 (be σ x k)
/-- a node at p of g tells knot x -/
def knG (tv : Nat → Int) (σ : St) (x : Int) (g : Int → Int) (p : Int) : Prop := whN tv g p (szK (gI σ 577 x)) ∧ g (p + 16) = 5 ∧ rI4 g (p + 24) = gI σ 576 x ∧ rI4 g (p + 28) = gI σ 577 x ∧ ∀ k, 0 ≤ k → k < gI σ 577 x → rL8 g (p + 32 + 28 * k) = gA σ 578 x k ∧ rL8 g (p + 40 + 28 * k) = gA σ 579 x k ∧ rI4 g (p + 48 + 28 * k) = oN σ x k ∧ rI4 g (p + 52 + 28 * k) = oP σ x k ∧ rI4 g (p + 56 + 28 * k) = oZ σ x k
def knE (tv : Nat → Int) (cf : Cf) (db : Int → Int → Int) (lim : Int → Int) (σ : St) (x : Int) : Prop := gI σ 584 x = 0 ∧ gI σ 587 x = szK (gI σ 577 x) ∧ (4 + cf.2.2 ≤ gI σ 585 x ∧ gI σ 585 x < cf.1 - 6) ∧ 0 ≤ gI σ 586 x ∧ gI σ 586 x + gI σ 587 x ≤ lim (gI σ 585 x) ∧ knG tv σ x (db (gI σ 585 x)) (gI σ 586 x)
def mLd (σ : St) (o : Int) (f : Nat) (o' : Int) : Prop := mRd2 o o f o' ∨ ((f = 202 ∨ f = 325 ∨ f = 385 ∨ f = 386) ∧ o' = o) ∨ ((576 ≤ f ∧ f ≤ 587) ∧ FP σ o o')
theorem sp_ld72 {tv : Nat → Int} {cf : Cf} {σ : St} {o z c x1 x2 x3 : Int} {g : Int → Int} {F : Int → Int → Int → Int → (Int → St → Prop) → St → Prop} {Q : Int → St → Prop} (ho : o = 0 ∨ o = 1) (hrk : RK σ) (hz : 0 ≤ z) (hcz : gI σ 577 z = c) (hc : 0 ≤ c ∧ c ≤ 8) (hat : gI σ 513 o = 0) (hg : gA σ 512 o = g) (hx : rI x1 ∧ rI x2 ∧ rI x3)
    (hQ : ∀ τ, (∀ k, 0 ≤ k → k < c → en τ z k = (rL8 g (32 + 28 * k), rL8 g (40 + 28 * k), rI4 g (48 + 28 * k), rI4 g (52 + 28 * k), rI4 g (56 + 28 * k), -1)) → gI τ 584 z = 0 → gI τ 585 z = x1 → gI τ 586 z = x2 → gI τ 587 z = x3 → Fr (fun f o' => (578 ≤ f ∧ f ≤ 587) ∧ o' = z) σ τ → RK τ → lQ2 (wp_Store_load_L222 cf tv o x1 x2 x3 F Q) z 0 τ) : lQ2 (wp_Store_load_L72 cf tv o x1 x2 x3 F Q) z 0 σ := by
  have ro : rowL o = 320 := by unfold rowL; rw [if_pos (by omega)]
  refine lQ2_rule (fun y4 y5 τ => y4 = z ∧ (0 ≤ y5 ∧ y5 ≤ c) ∧ (∀ k, 0 ≤ k → k < y5 → en τ z k = (rL8 g (32 + 28 * k), rL8 g (40 + 28 * k), rI4 g (48 + 28 * k), rI4 g (52 + 28 * k), rI4 g (56 + 28 * k), -1)) ∧ Fr (fun f o' => (578 ≤ f ∧ f ≤ 587) ∧ o' = z) σ τ ∧ RK τ) (fun _ y5 _ => (c - y5).toNat) ?_ z 0 σ ⟨rfl, by omega, fun k a b => by omega, Fr.rf _ _, hrk⟩
  intro K y4 y5 τ hI hK
  obtain ⟨e4, h1, h2, fr, rk⟩ := hI
  rw [e4]
  have cz : gI τ 577 z = c := by rw [fr.i _ _ (fun q => by omega)]; exact hcz
  have at0 : gI τ 513 o = 0 := by rw [fr.i _ _ (fun q => by omega)]; exact hat
  have g0 : gA τ 512 o = g := by rw [fr.a _ _ (fun q => by omega)]; exact hg
  unfold wp_Store_load_L72
  rw [cz]
  refine ⟨hz, fun q σ87 e87 σ88 e88 σ89 e89 σ90 e90 => ?_, fun q => ?_⟩
  · have ey : y5 = c := by omega
    have nf : ∀ {a b : Nat} {x y : Int}, a ≠ b → ¬ (a = b ∧ x = y) := fun h q => h q.1
    have f90 : Fr (fun f o' => (584 ≤ f ∧ f ≤ 587) ∧ o' = z) τ σ90 := by
      rw [e90, e89, e88, e87]
      exact ((((Fr.rf _ _).sI ⟨by omega, rfl⟩).sI ⟨by omega, rfl⟩).sI ⟨by omega, rfl⟩).sI ⟨by omega, rfl⟩
    refine hQ σ90 (fun k k0 k1 => ?_) ?_ ?_ ?_ ?_ (fr.tr (f90.mono (fun f o' q => ⟨by omega, q.2⟩))) ?_
    · rw [en_fr f90 (fun f a b q => by omega) k]; exact h2 k k0 (by omega)
    · rw [e90, gI_sI, if_neg (nf (by decide)), e89, gI_sI, if_neg (nf (by decide)), e88, gI_sI, if_neg (nf (by decide)), e87, gI_sI1]
    · rw [e90, gI_sI, if_neg (nf (by decide)), e89, gI_sI, if_neg (nf (by decide)), e88, gI_sI1]
    · rw [e90, gI_sI, if_neg (nf (by decide)), e89, gI_sI1]
    · rw [e90, gI_sI1]
    · rw [e90, e89, e88, e87]
      exact (((rk.sI (by show rZ 0; unfold rZ; omega)).sI (by show rI x1; exact hx.1)).sI (by show rI x2; exact hx.2.1)).sI (by show rI x3; exact hx.2.2)
  · rw [w32_id (x := 28 * y5) (by unfold rI; omega), w32_id (x := 8 + 28 * y5) (by unfold rI; omega), w32_id (x := 16 + 28 * y5) (by unfold rI; omega), w32_id (x := 24 + 28 * y5) (by unfold rI; omega), w32_id (x := 28 + 28 * y5) (by unfold rI; omega), w32_id (x := 32 + 28 * y5) (by unfold rI; omega)]
    refine sp_rgetL at0 (by omega) (by omega) (by omega) (fun _ j1 _ => sp_rgetL at0 (by omega) (by omega) (by omega) (fun _ j2 _ => ?_))
    rw [g0] at j1 j2 ⊢
    refine sp_kset ⟨by omega, by omega⟩ (fun σ96 n1 f96 k96 => ?_)
    have at1 : gI σ96 513 o = 0 := by rw [f96.i _ _ (fun q => by unfold mKa at q; omega)]; exact at0
    have g1 : gA σ96 512 o = g := by rw [f96.a _ _ (fun q => by unfold mKa at q; omega)]; exact g0
    refine sp_rget at1 (by omega) (by omega) (by omega) (fun _ i1 _ => ⟨by omega, fun σ99 e99 => ?_⟩)
    have at2 : gI σ99 513 o = 0 := by rw [e99]; exact at1
    have g2 : gA σ99 512 o = g := by rw [e99]; funext i; rw [sA_of (by decide)]; rw [g1]
    refine sp_rget at2 (by omega) (by omega) (by omega) (fun _ i2 _ => ⟨by omega, fun σ102 e102 => ?_⟩)
    have at3 : gI σ102 513 o = 0 := by rw [e102]; exact at2
    have g3 : gA σ102 512 o = g := by rw [e102]; funext i; rw [sA_of (by decide)]; rw [g2]
    refine sp_rget at3 (by omega) (by omega) (by omega) (fun _ i3 _ => ⟨by omega, fun σ105 e105 y ey => ?_⟩)
    rw [w32_id (by unfold rI; omega)] at ey
    rw [g1] at e99 i1
    rw [g2] at e102 i2
    rw [g3] at e105 i3
    have f105 : Fr (fun f o' => (578 ≤ f ∧ f ≤ 587) ∧ o' = z) τ σ105 := by
      refine (f96.mono (fun f o' q => by unfold mKa at q; exact ⟨by omega, q.2⟩)).tr ?_
      rw [e105, e102, e99]
      exact (((Fr.rf _ _).sA ⟨by omega, rfl⟩).sA ⟨by omega, rfl⟩).sA ⟨by omega, rfl⟩
    rw [ey]
    refine hK _ _ _ ⟨rfl, by omega, fun k k0 k1 => ?_, fr.tr f105, ?_⟩ (by omega)
    · have nk := n1 z k
      have c1 : gA σ105 578 z k = (en σ96 z k).1 := by rw [e105, sA_of (by decide), e102, sA_of (by decide), e99, sA_of (by decide)]; rfl
      have c2 : gA σ105 579 z k = (en σ96 z k).2.1 := by rw [e105, sA_of (by decide), e102, sA_of (by decide), e99, sA_of (by decide)]; rfl
      have c6 : gA σ105 583 z k = (en σ96 z k).2.2.2.2.2 := by rw [e105, sA_of (by decide), e102, sA_of (by decide), e99, sA_of (by decide)]; rfl
      have c3 : gA σ105 580 z k = if k = y5 then rI4 g (0 + 24 + (24 + 28 * y5)) else (en σ96 z k).2.2.1 := by rw [e105, sA_of (by decide), e102, sA_of (by decide), e99, sA_if]; rfl
      have c4 : gA σ105 581 z k = if k = y5 then rI4 g (0 + 24 + (28 + 28 * y5)) else (en σ96 z k).2.2.2.1 := by
        rw [e105, sA_of (by decide), e102, sA_if]
        by_cases w : k = y5
        · rw [if_pos w, if_pos w]
        · rw [if_neg w, if_neg w, e99, sA_of (by decide)]; rfl
      have c5 : gA σ105 582 z k = if k = y5 then rI4 g (0 + 24 + (32 + 28 * y5)) else (en σ96 z k).2.2.2.2.1 := by
        rw [e105, sA_if]
        by_cases w : k = y5
        · rw [if_pos w, if_pos w]
        · rw [if_neg w, if_neg w, e102, sA_of (by decide), e99, sA_of (by decide)]; rfl
      show (gA σ105 578 z k, gA σ105 579 z k, gA σ105 580 z k, gA σ105 581 z k, gA σ105 582 z k, gA σ105 583 z k) = _
      rw [c1, c2, c3, c4, c5, c6, nk]
      by_cases w : k = y5
      · rw [if_pos ⟨rfl, w⟩, if_pos w, if_pos w, if_pos w, w, show (0 : Int) + 24 + (8 + 28 * y5) = 32 + 28 * y5 by omega, show (0 : Int) + 24 + (16 + 28 * y5) = 40 + 28 * y5 by omega, show (0 : Int) + 24 + (24 + 28 * y5) = 48 + 28 * y5 by omega, show (0 : Int) + 24 + (28 + 28 * y5) = 52 + 28 * y5 by omega, show (0 : Int) + 24 + (32 + 28 * y5) = 56 + 28 * y5 by omega]
      · rw [if_neg (fun q => w q.2), if_neg w, if_neg w, if_neg w]
        exact h2 k k0 (by omega)
    · rw [e105, e102, e99]
      exact ((k96.sA (by show rI _; exact i1)).sA (by show rI _; exact i2)).sA (by show rI _; exact i3)
/-- one knot is read -/
theorem sp_ldhead {tv : Nat → Int} {cf : Cf} {σ : St} {o : Int} {dk : Int → Int} {db : Int → Int → Int} {Sp : Int → Int → (Int → Int → Int) → Prop} {B : Int} (hc : CfOK cf) (ho : o = 0 ∨ o = 1) (hrk : RK σ) {σc : St} {x : Int} {d : Nat} {Q : Int → St → Prop} (hD : DJ tv cf σ o dk db Sp B) (hW : noW σ o) (hx : knE tv cf db (lmF dk) σc x) (hcx : 0 ≤ gI σc 577 x ∧ gI σc 577 x ≤ 8) (hp : PO σ o) (hf : gI σ 386 o < 320)
    (hQ : ∀ τ z, RK τ → FP σ o z → ¬ FP τ o z → PO τ o → (∀ y, FP τ o y → FP σ o y) → gI τ 386 o = gI σ 386 o + 1 → gI τ 576 z = gI σc 576 x → gI τ 577 z = gI σc 577 x → (∀ k, 0 ≤ k → k < gI σc 577 x → en τ z k = (gA σc 578 x k, gA σc 579 x k, oN σc x k, oP σc x k, oZ σc x k, -1)) → gI τ 584 z = 0 → gI τ 585 z = gI σc 585 x → gI τ 586 z = gI σc 586 x → gI τ 587 z = gI σc 587 x → gI τ 202 o = max (gI σ 202 o) (srl (db (gI σc 585 x)) (gI σc 586 x)) → gA τ 325 o = upF (gA σ 325 o) (gI σc 585 x) 1 → Fr (mLd σ o) σ τ → lQ2 (wp_Store_load_L222 cf tv o (gI σc 585 x) (gI σc 586 x) (gI σc 587 x) (wp_Store_load cf tv d) Q) z 0 τ) :
    wp_Store_load cf tv (d + 1) o (gI σc 585 x) (gI σc 586 x) (gI σc 587 x) Q σ := by
  have hP : 8 ≤ cf.2.1 ∧ cf.2.1 ≤ 32 := hc.2.1
  have hB : 24 ≤ cf.1 ∧ cf.1 ≤ 64 := hc.1
  have hR0 : 0 ≤ cf.2.2 ∧ cf.2.2 ≤ 4 := hc.2.2
  have ro : rowL o = 320 := by unfold rowL; rw [if_pos (by omega)]
  obtain ⟨x1, x2, x3, x4, x5, x6, x7, x8, x9, x10⟩ := hx
  generalize hn : gI σc 585 x = n at *
  generalize hpp : gI σc 586 x = p at *
  generalize hss : gI σc 587 x = s at *
  generalize hcc : gI σc 577 x = c at *
  have dm := hD.k hc (n := n) ⟨by omega, x3.2⟩
  have lme : lmF dk n = 128 * max 0 (dk n) := rfl
  have sz : s = (32 + 28 * c + 7) / 8 * 8 := x2
  have eEn : eE σ o dk n = lmF dk n := by
    unfold eE
    rw [if_neg (by rw [hW.1]; omega), if_neg (by rw [hW.2.1]; omega), if_neg (by rw [hW.2.2]; omega)]
    rfl
  show wp_Store_load_R cf tv o n p s (wp_Store_load cf tv d) Q σ
  unfold wp_Store_load_R
  refine sp_sread hc hD (hW.w cf dk db) ⟨by omega, x3.2⟩ x4 (by omega) (by omega) (by rw [eEn]; exact x5) (fun σ1 b1 b2 b3 b4 f1 k1 => ?_)
  generalize hg : gA σ1 512 o = g
  have R4 : ∀ j, 0 ≤ j → j + 4 ≤ s → rI4 g j = rI4 (db n) (p + j) := fun j j0 j1 => by
    rw [← hg]
    exact rI4_sh (fun i i0 i1 => by rw [b1 _ (by omega) (by omega)]; congr 1; omega)
  have R8 : ∀ j, 0 ≤ j → j + 8 ≤ s → rL8 g j = rL8 (db n) (p + j) := fun j j0 j1 => by
    rw [← hg]
    exact rL8_sh (fun i i0 i1 => by rw [b1 _ (by omega) (by omega)]; congr 1; omega)
  refine sp_rser b3 (by omega) (by omega) (fun _ js _ σ2 e2 => ⟨by omega, fun σ3 e3 => ?_⟩)
  rw [hg, show (0 : Int) + 8 = 8 by omega, R8 8 (by omega) (by omega)] at e2 js
  have es1 : gI σ1 202 o = gI σ 202 o := f1.i _ _ (fun q => by unfold mRd2 mPg mRow at q; omega)
  have eo1 : gA σ1 325 o = gA σ 325 o := f1.a _ _ (fun q => by unfold mRd2 mPg mRow at q; omega)
  have f3 : Fr (fun f o' => (f = 202 ∨ f = 325) ∧ o' = o) σ1 σ3 := by
    rw [e3, e2]
    exact ((Fr.rf _ _).sI ⟨Or.inl rfl, rfl⟩).sA ⟨Or.inr rfl, rfl⟩
  have k2 : RK σ2 := by
    rw [e2]
    refine k1.sI ?_
    show rJ _
    have := k1.j 202 o (by decide)
    unfold rJ at this js ⊢
    omega
  have k3 : RK σ3 := by rw [e3]; exact k2.sA (by show rZ 1; unfold rZ; omega)
  have s3 : gI σ3 202 o = max (gI σ 202 o) (srl (db n) p) := by
    rw [e3]
    show gI σ2 _ _ = _
    rw [e2, gI_sI1, es1]; rfl
  have o3 : gA σ3 325 o = upF (gA σ 325 o) n 1 := by
    rw [e3, sA_up, e2]
    show upF (gA σ1 325 o) n 1 = _
    rw [eo1]
  have at3 : gI σ3 513 o = 0 := by rw [f3.i _ _ (fun q => by omega)]; exact b3
  have g3 : gA σ3 512 o = g := by rw [f3.a _ _ (fun q => by omega)]; exact hg
  clear e2 e3
  refine sp_rget at3 (by omega) (by omega) (by omega) (fun _ _ _ => ?_)
  rw [g3, show (0 : Int) + 24 + 0 = 24 by omega, R4 24 (by omega) (by omega), x8]
  have F1 : Fr (mRd2 o o) σ σ1 := f1
  have fp1 := FP_fr (o := o) (f1.mono (N := fun f o' => mRd2 o o f o' ∨ ((f = 202 ∨ f = 325) ∧ o' = o)) (fun f o' q => Or.inl q) |>.tr (f3.mono (fun f o' q => Or.inr q))) ⟨fun q => by unfold mRd2 mPg mRow at q; omega, fun q => by unfold mRd2 mPg mRow at q; omega⟩
  have fr3 : gI σ3 386 o = gI σ 386 o := by rw [f3.i _ _ (fun q => by omega), f1.i _ _ (fun q => by unfold mRd2 mPg mRow at q; omega)]
  have hp3 := fp1.2 hp
  have pr := hp3.2 (gI σ3 386 o) (by omega) (by have := hp3.1; omega)
  have hp31 := hp3.1
  refine sp_kfetch (z := gA σ3 385 o (gI σ3 386 o)) ⟨by omega, by omega⟩ rfl (by omega) (fun σ4 a1 a2 a3 a4 a5 a6 f4 _ k4 => ?_)
  generalize hz : gA σ3 385 o (gI σ3 386 o) = z at *
  have fz3 : FP σ3 o z := ⟨gI σ3 386 o, ⟨by omega, by omega⟩, hz⟩
  have at4 : gI σ4 513 o = 0 := by rw [f4.i _ _ (fun q => by unfold mKf at q; omega)]; exact at3
  have g4 : gA σ4 512 o = g := by rw [f4.a _ _ (fun q => by unfold mKf at q; omega)]; exact g3
  have fpz : ∀ y, FP σ4 o y → FP σ3 o y ∧ y ≠ z := by
    intro y hy
    obtain ⟨i, hi, hy⟩ := hy
    rw [a1] at hi
    rw [a2 i (by omega)] at hy
    refine ⟨⟨i, by omega, hy⟩, fun e => ?_⟩
    have := pr.2 i (by omega) (by omega) (by rw [hy, e])
    omega
  have po4 : PO σ4 o := by
    refine ⟨by rw [a1]; omega, fun i i0 i1 => ?_⟩
    rw [a1] at i0
    rw [a2 i (by omega)]
    have q := hp3.2 i (by omega) i1
    refine ⟨q.1, fun j j0 j1 e => ?_⟩
    rw [a1] at j0
    rw [a2 j (by omega)] at e
    exact q.2 j (by omega) j1 e
  refine sp_rget at4 (by omega) (by omega) (by omega) (fun _ i5 _ => ⟨by omega, fun σ5 e5 => ?_⟩)
  rw [g4, show (0 : Int) + 24 + 4 = 28 by omega, R4 28 (by omega) (by omega), x9] at e5 i5
  have f5 : Fr (fun f o' => f = 577 ∧ o' = z) σ4 σ5 := by rw [e5]; exact (Fr.rf _ _).sI ⟨rfl, rfl⟩
  have k5 : RK σ5 := by rw [e5]; exact k4.sI (by show rI c; exact i5)
  have c5 : gI σ5 577 z = c := by rw [e5, gI_sI1]
  refine sp_ld72 (g := g) ho k5 (by omega) c5 hcx (by rw [f5.i _ _ (fun q => by omega)]; exact at4) (by rw [f5.a _ _ (fun q => by omega)]; exact g4) ⟨by unfold rI; omega, by unfold rI; omega, by unfold rI; omega⟩ (fun τ n1 n2 n3 n4 n5 f6 k6 => ?_)
  have F : Fr (mLd σ o) σ τ := by
    have fz0 : FP σ o z := (fp1.1 z).mp fz3
    refine ((((f1.mono (fun f o' q => Or.inl q)).tr (f3.mono ?_)).tr (f4.mono ?_)).tr (f5.mono ?_)).tr (f6.mono ?_)
    · intro f o' q; exact Or.inr (Or.inl ⟨by omega, q.2⟩)
    · intro f o' q
      unfold mKf at q
      rcases q with q | q
      · exact Or.inr (Or.inl ⟨by omega, q.2⟩)
      · exact Or.inr (Or.inr ⟨by omega, by rw [q.2]; exact fz0⟩)
    · intro f o' q; exact Or.inr (Or.inr ⟨by omega, by rw [q.2]; exact fz0⟩)
    · intro f o' q; exact Or.inr (Or.inr ⟨by omega, by rw [q.2]; exact fz0⟩)
  have f56 : Fr (fun f o' => (577 ≤ f ∧ f ≤ 587) ∧ o' = z) σ4 τ := (f5.mono (fun f o' q => ⟨by omega, q.2⟩)).tr (f6.mono (fun f o' q => ⟨by omega, q.2⟩))
  have fp6 := FP_fr (o := o) f56 ⟨fun q => by omega, fun q => by omega⟩
  refine hQ τ z k6 ((fp1.1 z).mp fz3) (fun q => (fpz z ((fp6.1 z).mp q)).2 rfl) (fp6.2 po4) (fun y hy => (fp1.1 y).mp (fpz y ((fp6.1 y).mp hy)).1) ?_ ?_ ?_ ?_ n2 n3 n4 n5 ?_ ?_ F
  · rw [f56.i _ _ (fun q => by omega), a1, fr3]
  · rw [f56.i _ _ (fun q => by omega)]; exact a3
  · rw [f6.i _ _ (fun q => by omega)]; exact c5
  · intro k k0 k1
    rw [n1 k k0 k1]
    obtain ⟨y1, y2, y3, y4, y5⟩ := x10 k k0 k1
    rw [R8 _ (by omega) (by omega), R8 _ (by omega) (by omega), R4 _ (by omega) (by omega), R4 _ (by omega) (by omega), R4 _ (by omega) (by omega)]
    rw [← y1, ← y2, ← y3, ← y4, ← y5]
    rw [show p + (32 + 28 * k) = p + 32 + 28 * k by omega, show p + (40 + 28 * k) = p + 40 + 28 * k by omega, show p + (48 + 28 * k) = p + 48 + 28 * k by omega, show p + (52 + 28 * k) = p + 52 + 28 * k by omega, show p + (56 + 28 * k) = p + 56 + 28 * k by omega]
  · rw [f56.i _ _ (fun q => by omega), f4.i _ _ (fun q => by unfold mKf at q; omega)]; exact s3
  · rw [f56.a _ _ (fun q => by omega), f4.a _ _ (fun q => by unfold mKf at q; omega)]; exact o3
