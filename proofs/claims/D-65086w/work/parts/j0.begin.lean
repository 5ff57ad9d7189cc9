/-! Store.beginCommit whole -/
theorem sp_stirSA {tv : Nat → Int} {cf : Cf} {σ : St} {dk : Int → Int} {db : Int → Int → Int} {L : List (Int × Int × Int × Int × Int × Int)} {Q : St → Prop} (hc : CfOK cf) (h : SA tv cf σ dk db L)
    (hQ : ∀ τ, SA tv cf τ dk db L → (∀ x, x ∈ krt τ 0 → gI τ 584 x ≠ 0) → CK σ τ 0 → (∀ x, KE σ τ x) → krt τ 0 = krt σ 0 → gA τ 324 0 = gA σ 324 0 → Fr (mIx 0) σ τ → Q τ) : wp_Index_stirAll cf tv 12 0 (gI σ 387 0) (fun σ9 => RK σ9 → Q σ9) σ := by
  have hR : 0 ≤ cf.2.2 ∧ cf.2.2 ≤ 4 := hc.2.2
  refine sp_stirRoot h.2.1.1.1 (by have := h.2.1.2.1; omega) (fun υ ix ck fr0 ke kr lv fr2 k2 => ?_)
  refine hQ υ ?_ fr0 ck ke kr lv fr2
  refine SA.ix hc h ⟨ix, h.2.1.1.2.1, by rw [lv]; exact h.2.1.1.2.2⟩ ck (fun m _ _ => by rw [lv]) (fr2.mono (fun f o' q => Or.inl q)) k2 h.2.1.2.1 h.2.1.2.2 (fun m m0 m1 => by rw [lv]; exact (h.2.2.1 m m0 m1).2.2.2.1) (fun y w => ?_)
  have p := lS_pos h.2.1.1.2.1 w (by have := (h.2.1.2.2 y w).2.1.n; omega)
  have rg := (h.2.1.2.2 y w).1
  have nmy := h.2.2.1 y.2.2.1 rg.1 rg.2
  have q := h.nn hc (m := y.2.2.1) (by omega)
  refine ⟨fun z => ?_, ?_⟩
  · have := (nmy.2.1 z).2.1
    have := nmy.2.2.1
    omega
  · apply Classical.byContradiction
    intro z
    have := nmy.2.2.2.2.1 z
    omega
theorem BCn.stir {tv : Nat → Int} {cf : Cf} {σ τ : St} {dk : Int → Int} {db : Int → Int → Int} {L : List (Int × Int × Int × Int × Int × Int)} {c0 cO lO s : Int} (h : BCn tv cf σ dk db L c0 cO lO s) (hf : ∀ x, x ∈ krt τ 0 → gI τ 584 x ≠ 0) (hC : CK σ τ 0) (fr : Fr (mIx 0) σ τ) : BCn tv cf τ dk db L c0 cO lO s := by
  obtain ⟨⟨g1, g2, g3, g4⟩, ⟨g5, g6⟩, g7, ⟨g8, g9⟩, g10, ⟨g11, g12⟩, ⟨g13, g14⟩, g15, g16⟩ := h
  have ns : ∀ {g : Nat}, (g = 208 ∨ g = 212 ∨ g = 218 ∨ g = 211) → gI τ g 0 = gI σ g 0 := fun {g} hg => fr.i _ _ (fun q => by unfold mIx at q; omega)
  have nw : ∀ (f : Nat) (w : Int), (w = 0 ∨ w = 0 + 2 ∨ w = 0 + 4) → 450 ≤ f → f ≤ 452 → ¬ mIx 0 f w := fun f w _ a b q => by unfold mIx at q; omega
  have nu : ∀ v, isW 0 v → gI τ 451 v = gI σ 451 v := fun v hv => fr.i _ _ (nw _ v hv (by decide) (by decide))
  have us : gA τ 323 0 = gA σ 323 0 := fr.a _ _ (fun q => by unfold mIx at q; omega)
  have ox : gA τ 325 0 = gA σ 325 0 := fr.a _ _ (fun q => by unfold mIx at q; omega)
  have bd : gA τ 210 0 = gA σ 210 0 := fr.a _ _ (fun q => by unfold mIx at q; omega)
  have ee : ∀ m, eE τ 0 dk m = eE σ 0 dk m := fun m => eE_fr fr nw
  have hh : ∀ m, hld τ 0 m → hld σ 0 m := fun m ⟨v, v1, v2⟩ => ⟨v, v1, by rw [← nu v v1]; exact v2⟩
  refine ⟨⟨by rw [ns (by omega)]; exact g1, g2, by rw [ns (by omega)]; exact g3, g4⟩, ⟨g5, g6⟩, g7, ⟨fun m m0 m1 hm => ?_, fun x hx hfx => absurd hfx (hf x hx)⟩, ?_, ⟨?_, by rw [ns (by omega)]; exact g12⟩, ⟨by rw [ns (by omega)]; exact g13, fun k k0 k1 => ?_⟩, ?_, ?_⟩
  · rw [us] at hm; rw [ee]; exact g8 m m0 m1 hm
  · unfold flu
    rw [nu 0 (Or.inl rfl), fr.i 452 0 (nw _ 0 (Or.inl rfl) (by decide) (by decide))]; exact g10
  · unfold orL
    rw [fr.a 217 0 (fun q => by unfold mIx at q; omega), ns (by omega)]; exact g11
  · rw [ns (by omega)] at k1
    rw [bd, us, nu 0 (Or.inl rfl)]
    obtain ⟨a, b, c⟩ := g14 k k0 k1
    refine ⟨a, b, ?_⟩
    rcases c with c | c
    · exact Or.inl c
    · exact Or.inr (fun z => c (hh _ z))
  · have := hC.2.2.2
    omega
  · rw [ox, us, nu 4 (Or.inr (Or.inr rfl))]; exact g16
def mBh (f : Nat) (o' : Int) : Prop := mBg f o' ∨ mIx 0 f o'
/-- behind the beginning of a commit, stirred or not -/
def BGo (cf : Cf) (σ τ : St) (dk dk' : Int → Int) (db db' : Int → Int → Int) (lO : Int) : Prop := (∀ m, 0 ≤ m → m < cf.1 - 6 → m ≠ 5 - lO → (m ≠ gI σ 451 2 → dk' m = dk m) ∧ lmF dk m ≤ lmF dk' m ∧ eE σ 0 dk m ≤ eE τ 0 dk' m ∧ ∀ p, p < eE σ 0 dk m → db' m p = db m p) ∧ (krt τ 0 = krt σ 0 ∧ ∀ x, KE σ τ x) ∧ ((emp cf (gA τ 323 0) = emp cf (gA σ 323 0) ∧ (gI σ 451 2 ≠ -1 → gI τ 452 2 ≤ gI σ 452 2 + 127)) ∧ rmy cf (gA τ 323 0) (gA τ 325 0) = rmy cf (gA σ 323 0) (gA σ 325 0)) ∧ (∀ m, gA τ 323 0 m = gA σ 323 0 m ∨ (gA τ 323 0 m = 1 ∧ gA σ 323 0 m ≠ 0)) ∧ (∀ k, 0 ≤ k → k < gI σ 211 0 → gA σ 210 0 k ≠ gI σ 451 0 → gA τ 323 0 (gA σ 210 0 k) = 1) ∧ gI τ 213 0 = 1 ∧ Fr mBh σ τ
theorem BCo.bg {cf : Cf} {σ τ : St} {dk dk' : Int → Int} {db db' : Int → Int → Int} {lO : Int} (h : BCo cf σ τ dk dk' db db' lO) : BGo cf σ τ dk dk' db db' lO := ⟨h.1, ⟨h.2.1.1, fun x => (h.2.1.2 x).1⟩, h.2.2.1, h.2.2.2.1, h.2.2.2.2.1, h.2.2.2.2.2.1, h.2.2.2.2.2.2.mono (fun f o' q => Or.inl q)⟩
theorem BGo.stir {cf : Cf} {σ ρ τ : St} {dk dk' : Int → Int} {db db' : Int → Int → Int} {lO : Int} (h : BGo cf ρ τ dk dk' db db' lO) (ke : ∀ x, KE σ ρ x) (kr : krt ρ 0 = krt σ 0) (fr : Fr (mIx 0) σ ρ) : BGo cf σ τ dk dk' db db' lO := by
  obtain ⟨h1, ⟨h2, h3⟩, h4, h5, h6, h7, h8⟩ := h
  have nw : ∀ (f : Nat) (w : Int), (w = 0 ∨ w = 0 + 2 ∨ w = 0 + 4) → 450 ≤ f → f ≤ 452 → ¬ mIx 0 f w := fun f w _ a b q => by unfold mIx at q; omega
  have nu : ∀ v, isW 0 v → gI ρ 451 v = gI σ 451 v := fun v hv => fr.i _ _ (nw _ v hv (by decide) (by decide))
  have us : gA ρ 323 0 = gA σ 323 0 := fr.a _ _ (fun q => by unfold mIx at q; omega)
  have ox : gA ρ 325 0 = gA σ 325 0 := fr.a _ _ (fun q => by unfold mIx at q; omega)
  have bd : gA ρ 210 0 = gA σ 210 0 := fr.a _ _ (fun q => by unfold mIx at q; omega)
  have bc : gI ρ 211 0 = gI σ 211 0 := fr.i _ _ (fun q => by unfold mIx at q; omega)
  have ee : ∀ m, eE ρ 0 dk m = eE σ 0 dk m := fun m => eE_fr fr nw
  rw [us, ox, nu 2 (Or.inr (Or.inl rfl)), fr.i 452 2 (nw _ 2 (Or.inr (Or.inl rfl)) (by decide) (by decide))] at h4
  rw [us] at h5
  rw [bd, bc, nu 0 (Or.inl rfl)] at h6
  refine ⟨fun m m0 m1 ne => ?_, ⟨h2.trans kr, fun x => (ke x).tr (h3 x)⟩, h4, h5, h6, h7, (fr.mono (fun f o' q => Or.inr q)).tr h8⟩
  have q := h1 m m0 m1 ne
  rw [ee, nu 2 (Or.inr (Or.inl rfl))] at q
  exact q
theorem sp_beginCommit {tv : Nat → Int} {cf : Cf} {σ : St} {dk : Int → Int} {db : Int → Int → Int} {B c0 b0 cO lO s : Int} {r : RT} {L : List (Int × Int × Int × Int × Int × Int)} {Q : St → Prop} (hc : CfOK cf) (h : SA tv cf σ dk db L) (hD : DJ tv cf σ 0 dk db (SpC cf c0 b0 r) B) (hB : B + 6 < 1073741000) (hL : L.length ≤ 880) (hkm : (L.length : Int) ≤ kmx cf) (hs : gI σ 202 0 = s) (hr : 0 ≤ s ∧ s < 3000000000000000000) (hN : BCn tv cf σ dk db L c0 cO lO s) (hE : whl cf ≤ emp cf (gA σ 323 0))
    (hQ : ∀ τ dk' db' R NW Old G, SA tv cf τ dk' db' L → DJ tv cf τ 0 dk' db' (SpC cf c0 b0 r) (B + 6) → CI tv cf τ dk' db' L (cO + 1) (5 - lO) (s + 1) (gI τ 202 0) 0 0 G R NW Old → 0 ≤ G → (G = whl cf + 1 ∨ Old = []) → ((∀ x, x ∈ krt σ 0 → gI σ 584 x ≠ 0) → Old = []) → cst cf (fS τ R) ≤ whl cf → NBd tv τ dk' db' (5 - lO) s → BGo cf σ τ dk dk' db db' lO → RK τ → Q τ) : wp_Store_beginCommit cf tv 0 Q σ := by
  have hR : 0 ≤ cf.2.2 ∧ cf.2.2 ≤ 4 := hc.2.2
  have hP : 8 ≤ cf.2.1 ∧ cf.2.1 ≤ 32 := hc.2.1
  have hBl : 24 ≤ cf.1 ∧ cf.1 ≤ 64 := hc.1
  have tr := tbl_r hc
  have wr := whl_r hc
  have old0 : ∀ {ρ : St}, (∀ x, x ∈ krt ρ 0 → gI ρ 584 x ≠ 0) → (krt ρ 0).filter (fun x => decide (gI ρ 584 x = 0)) = [] := fun {ρ} q => List.filter_eq_nil_iff.mpr (fun x hx => by rw [decide_eq_true_eq]; exact q x hx)
  unfold wp_Store_beginCommit
  refine sp_empty hc (fun _ _ => ?_)
  obtain ⟨l, z, a1, a2, a3, a4, a5⟩ := h.2.1.1.1.krt
  have few := a2.few (by rw [a5]; omega)
  rw [a4]
  have fr := fS_rng (σ := σ) (K := krt σ 0) (fun x hx => krt_cnt h.2.1.1.1 x hx)
  rw [a1] at fr
  refine sp_freshBytes l 12 σ z _ _ _ _ (by omega) a2 a3 (by omega) (fun _ _ => ?_)
  have cw := ix_cbs hc h.2.1.1.1 hkm
  rw [a1] at cw
  have ce : w32 (1 + jdv (w32 (fS σ (kl σ l z) + tbl cf)) (w32 ((cf.2.1 - 2) * 128 - 248))) = cst cf (fS σ (kl σ l z)) := by
    rw [w32_id (x := fS σ (kl σ l z) + tbl cf) (by unfold rI; omega), w32_id (x := (cf.2.1 - 2) * 128 - 248) (by unfold rI; omega), jdv_nn (by omega) (by omega) (by omega)]
    have c1 : cst cf (fS σ (kl σ l z)) = 1 + (fS σ (kl σ l z) + tbl cf) / ((cf.2.1 - 2) * 128 - 248) := rfl
    have c2 : 0 ≤ (fS σ (kl σ l z) + tbl cf) / ((cf.2.1 - 2) * 128 - 248) := Int.ediv_nonneg (by omega) (by omega)
    rw [w32_id (by unfold rI; omega), c1]
  have c0' : 1 ≤ cst cf (fS σ (kl σ l z)) := by
    have c1 : cst cf (fS σ (kl σ l z)) = 1 + (fS σ (kl σ l z) + tbl cf) / ((cf.2.1 - 2) * 128 - 248) := rfl
    have c2 : 0 ≤ (fS σ (kl σ l z) + tbl cf) / ((cf.2.1 - 2) * 128 - 248) := Int.ediv_nonneg (by omega) (by omega)
    omega
  have er : 0 ≤ emp cf (gA σ 323 0) ∧ emp cf (gA σ 323 0) ≤ 58 := by
    have a := cnt_list (p := fun k => 4 + cf.2.2 ≤ k ∧ gA σ 323 0 k = 0) (cat1 (fun k => k) (cf.1 - 6).toNat) (cf.1 - 6).toNat (fun i i0 i1 _ => mem_cat (f := fun k => [k]) i0 i1 (List.mem_singleton.mpr rfl))
    rw [cat1_len] at a
    unfold emp
    omega
  unfold wp_Store_costOf
  refine ⟨by rw [w32_id (by unfold rI; omega)]; omega, fun _ _ => ?_⟩
  rw [ce, w32_id (by unfold rI; omega)]
  refine ⟨fun q => ?_, fun q => ?_⟩
  · refine sp_bc47 hc h hD hB hL hs hr hN (G := whl cf + 1) (by rw [a1]; omega) (fun τ dk' db' R NW S1 D1 I1 f1 n1 b1 k1 => ?_)
    exact hQ τ dk' db' R NW _ _ S1 D1 I1 (by omega) (Or.inl rfl) old0 (by rw [f1, a1]; exact cw) n1 b1.bg k1
  · refine sp_stirSA hc h (fun ρ S0 f0 ck ke kr lv fr2 => ?_)
    have us : gA ρ 323 0 = gA σ 323 0 := fr2.a _ _ (fun q => by unfold mIx at q; omega)
    have cw2 := ix_cbs hc S0.2.1.1.1 hkm
    refine sp_bc47 hc S0 (hD.fr fr2 (fun f o' a q => by unfold rBI at a; unfold mIx at q; omega)) hB hL ((fr2.i _ _ (fun q => by unfold mIx at q; omega)).trans hs) hr (hN.stir f0 ck fr2) (G := 0) (by rw [us]; omega) (fun τ dk' db' R NW S1 D1 I1 f1 n1 b1 k1 => ?_)
    exact hQ τ dk' db' R NW _ _ S1 D1 I1 (by omega) (Or.inr (old0 f0)) (fun _ => old0 f0) (by rw [f1]; exact cw2) n1 (b1.bg.stir ke kr fr2) k1
