/-! House.rename -/
theorem sp_Hrename {tv : Nat → Int} {cf : Cf} {σ : St} {S S' : List (Int × Int × Int × (Int → Int)) × Int} {W : List (Int × (List (Int × Int × Int × (Int → Int)) × Int))} {r : RT} {B : Int} {a x b q : Int} {Q : Int → St → Prop} (hc : CfOK cf) (h : HP tv cf σ S S' W r B) (hC : HC σ S) (hrk : RK σ) (hB : B + 49772 < 1073741000) (ha : rI a) (hx : rJ x) (hb : rI b) (hy : rJ q) (hop : ∀ w k s, (w, k, s) ∈ nds S.1 → opn σ w → k = 2) (hNU : NU σ (nds S.1) (ens S.1))
    (h0 : ∀ τ no, rnA S a x b q = no → no ≤ 0 → HP tv cf τ S S' W r B → Fr mHs σ τ → RK τ → Q no τ)
    (h1 : ∀ τ w S2 p0 S0 W0 k, 1 ≤ rnA S a x b q → (a, x, w) ∈ ens S.1 → rnR (gnP σ) S S2 a x w b q → TKo cf σ (rnE S a b q) S S' W p0 S0 W0 → SFo (p0 + rnE S a b q) (W0 ++ [(p0 + rnE S a b q, S2)]) k → HP tv cf τ S2 (laS S0 ((W0 ++ [(p0 + rnE S a b q, S2)]).take k)) ((W0 ++ [(p0 + rnE S a b q, S2)]).drop k) r (B + 49772) → HC τ S2 → gI τ 451 0 ≠ -1 → gI τ 452 0 = p0 + rnE S a b q → Fr mHo σ τ → RK τ → Q (2 - rnA S a x b q) τ) : wp_House_rename cf tv a x b q Q σ := by
  have wf := h.wf
  have wr := wf.wr
  have n1 := h.nx
  have ok := h.okC hc
  have cp := wf.2.2.2.2.2.2.2.2.2.2.1
  have cl := capa_le hc
  have c0 := cpM_0 hc wf
  have lim := (wf.x.ft hc).2.2
  have on : gI σ 69 0 = 1 := hC.2.2
  unfold wp_House_rename
  refine ⟨fun _ => ?_, fun w => by have w : gI σ 69 0 = 0 := w; omega⟩
  refine sp_HisName (fun nm _ _ => ⟨fun _ => ?_, fun w => absurd w (by decide)⟩) (fun nm _ _ => ⟨fun w => absurd rfl w, fun _ => h0 σ (-3) (cif_y nm) (by omega) h (Fr.rf _ _) hrk⟩)
  have A0 : rnA S a x b q = cif (namA S a x = 0) (dirA (nds S.1) b (rnB S a x b q)) (namA S a x) := cif_n (fun q => q nm)
  refine sp_Hnamed hc h hrk ha (fun τ no n0 n1 H f k _ _ => ⟨fun w => by omega, fun _ => h0 τ no (by rw [A0, cif_n (by omega)]; exact n0) (by omega) H f k⟩) (fun τ yd x0 z w nA d1 d2 d3 d4 x1 x2 x3 x4 sl z1 z2 z3 w1 H f k _ _ => ⟨fun _ => ?_, fun w => absurd (Int.le_refl 0) w⟩)
  rw [cif_y nA] at A0
  intro y8 e8
  rw [show gI τ 91 0 = rI4 x0.2.2.2 40 from sl] at e8
  have m2 : ∀ (i : Int) g, (i = 0 ∨ i = 1) → 640 ≤ g → g ≤ 645 → ¬ mRi 2 g i := fun i g hi p q z => by
    rcases z with z | z
    · exact (mR0_k z).2.1 ⟨p, q⟩
    · omega
  refine sp_Pdir (i := 2) hc H hb (fun τ1 yt e1 e2 e3 e4 e5' H1 f1 k1 _ _ => ⟨fun _ => ?_, fun w => absurd (Int.le_refl 0) w⟩) (fun τ1 no n0 hz f1 k1 _ _ => ⟨fun w => by omega, fun _ => h0 τ1 no (by rw [A0]; exact hz _) (by omega) (H.frH f1 (fun f o' => mRi_h) k1) (f.tr (f1.mono (fun f o' => Ri_s))) k1⟩)
  rw [dir_y e4] at A0
  have g1 : Fr mHs σ τ1 := f.tr (f1.mono (fun f o' => Ri_s))
  have z1' : ndI τ1 1 z := z3.fr f1 (fun g p q => m2 1 g (Or.inr rfl) p q)
  have d1' : ndI τ1 0 yd := d4.fr f1 (fun g p q => m2 0 g (Or.inl rfl) p q)
  have zn := nd_put (M := S.1) (nx := S.2) wf z1 z2
  have aD := (wr.2.2.1 _ x4).1
  have aD : (a, 1, 0) ∈ nds S.1 := aD
  have aR : 1 ≤ a ∧ a < S.2 := (wr.1.1 _ aD).1
  have bR : 1 ≤ b ∧ b < S.2 := (wr.1.1 _ e4).1
  have wR : 1 ≤ w ∧ w < S.2 := zn.1
  have dirz : ∀ {t k s : Int}, (t, k, s) ∈ nds S.1 → k = 1 → (t, 1, 0) ∈ nds S.1 := fun {t k s} h q => by
    have s0 : s = 0 := (wr.1.1 _ h).2 q
    rw [q, s0] at h; exact h
  have dirk : ∀ {t k s : Int}, (t, k, s) ∈ nds S.1 → (t, 1, 0) ∈ nds S.1 → k = 1 := fun {t k s} h q => by
    have := wr.u h q rfl
    rw [Prod.mk.injEq, Prod.mk.injEq] at this
    exact this.2.1
  obtain ⟨nx1, -, sl1, -, -⟩ := ent_it (M := S.1) (nx := S.2) wf x1 x2 x3
  have dN := nd_put (M := S.1) (nx := S.2) wf d1 d2
  have tN := nd_put (M := S.1) (nx := S.2) wf e1 e2
  obtain ⟨-, -, -, -, -, ⟨dc1, dc2, dc3⟩, ⟨dcy, -, dca⟩, -⟩ := dN
  obtain ⟨-, -, -, -, -, ⟨tc1, tc2, tc3⟩, ⟨tcy, -, tca⟩, -⟩ := tN
  have dE := dcy d3
  have tE := tcy e3
  have ca : 1 ≤ cn1 a (ens S.1) := by
    refine Nat.one_le_iff_ne_zero.mpr (fun e => cn1_z.mp e _ x4 rfl)
  have cA := cn1_le (a := a) (R := ens S.1)
  have cBb := cn1_le (a := b) (R := ens S.1)
  -- the group: up to both entries, then by what there is
  have grp : ∀ (τ4 : St) (there fs : Int), ¬ rngS S w b → 0 ≤ there → (0 ≤ fs ∧ fs < 1024) → y8 = rI4 x0.2.2.2 40 → HP tv cf τ4 S S' W r B → Fr mHs σ τ4 → RK τ4 → ndI τ4 0 yd → ndI τ4 2 yt →
      (there = 0 → rnA S a x b q = 2 ∧ (∀ z, z ∈ S.1 → z.1 = 4 * b + 2 → z.2.1 ≠ hs q + fs) ∧ ∀ e, e ∈ ens S.1 → ¬ (e.1 = b ∧ e.2.1 = q)) →
      (there ≠ 0 → rnA S a x b q = 1 ∧ w ≠ there ∧ ∃ v o, v ∈ S.1 ∧ v.1 = 4 * b + 2 ∧ erow v = (b, q, there) ∧ fs = rI4 v.2.2.2 40 ∧ o ∈ S.1 ∧ o.1 = 4 * there ∧ ndI τ4 1 o ∧ (rI4 o.2.2.2 28 = 1 → cn1 there (ens S.1) = 0)) →
      wp_House_rename_b216 cf tv a x b q Q y8 there fs w τ4 := by
    intro τ4 there fs nR hth hfs ey8 H4 g4 k4 i0 i2 hA hB'
    unfold wp_House_rename_b216
    refine sp_Hbegin (S := S) (fun τ5 q5 f5 k5 _ => ?_)
    rw [ey8]
    refine sp_gEnt k5 q5 (by omega) (ok.s (by omega)) (by omega) (by unfold rI; omega) hx (by unfold rI; omega) (fun τ6 P0 p0' q6 f6 k6 _ => ?_)
    have ke : kap (4 * a + 2) (hs x + rI4 x0.2.2.2 40) = ak x0 := ((ent_it (M := S.1) (nx := S.2) wf x1 x2 x3).2.2.2.2 (fun _ => 0) 48).symm
    have sE : sEn S a 0 x (rI4 x0.2.2.2 40) P0 = (mdel (ak x0) S.1, S.2) := by unfold sEn; rw [if_pos rfl, ke]
    rw [sE] at q6
    have ok6 : okC (mdel (ak x0) S.1, S.2) 1 := ok.del
    refine sp_gEnt k6 q6 (by omega) (ok6.s (by omega)) (by omega) (by unfold rI; omega) hy (by unfold rI; omega) (fun τ7 P1 p1 q7 f7 k7 _ => ?_)
    have sE7 : sEn (mdel (ak x0) S.1, S.2) b w q fs P1 = (mput (4 * b + 2, hs q + fs, 48, P1) (mdel (ak x0) S.1), S.2) := by unfold sEn; rw [if_neg (by omega)]
    rw [sE7] at q7
    have ok7 : okC (mput (4 * b + 2, hs q + fs, 48, P1) (mdel (ak x0) S.1), S.2) 2 := ok6.put (fun z => by have z : (4 * b + 2) % 4 = 0 := z; omega)
    have f47 : Fr (mRow 6) τ4 τ7 := (f5.tr f6).tr f7
    have i07 : ndI τ7 0 yd := i0.fr f47 (fun g p q => by unfold mRow; omega)
    have i27 : ndI τ7 2 yt := i2.fr f47 (fun g p q => by unfold mRow; omega)
    have g7s : Fr mHs σ τ7 := g4.tr (f47.mono (fun f o' => R6_s))
    have lv7 : gI τ7 71 0 = cpM S.1 := (hC.fr g7s (fun g q v => v.2 q)).1
    have th7 : gI τ7 72 0 = ((nds S.1).length : Int) := (hC.fr g7s (fun g q v => v.2 q)).2.1
    intro y13 e13 σ49 e49
    obtain ⟨j1, j2, j3, j4, j5, j6⟩ := i07
    obtain ⟨l1, l2, l3, l4, l5, l6⟩ := i27
    rw [show gI τ7 644 0 = rI4 yd.2.2.2 40 from j5, w32_id (by unfold rI; omega)] at e49
    have k49 : RK σ49 := by rw [e49]; exact k7.sI (f := 644) (by show rI _; unfold rI; omega)
    have f49 : Fr (fun f o' => (640 ≤ f ∧ f < 704) ∧ o' = 0) τ7 σ49 := by rw [e49]; exact (Fr.rf _ _).sI (by omega)
    have v49 : gI σ49 640 0 = a ∧ gI σ49 641 0 = 1 ∧ gI σ49 642 0 = rI4 yd.2.2.2 32 ∧ gI σ49 643 0 = 0 ∧ gI σ49 644 0 = rI4 yd.2.2.2 40 - 1 ∧ gI σ49 645 0 = rI4 yd.2.2.2 44 := by
      rw [e49]; simp only [gI_sI]; simp
      exact ⟨by rw [j1]; omega, by rw [j2]; exact d3, j3, by rw [j4]; exact dE.2, j6⟩
    clear e49
    have f49s : Fr (fun f o' => mHs f o' ∨ ((f = 71 ∨ f = 72) ∧ o' = 0)) σ σ49 := (g7s.mono (fun f o' => Or.inl)).tr (f49.mono (fun f o' q => Or.inl (In_s q.1)))
    have g49 : GR σ49 S 96 (mput (4 * b + 2, hs q + fs, 48, P1) (mdel (ak x0) S.1), S.2) := q7.fr f49 ⟨by omega, by omega⟩
    have x49 : gI σ49 640 2 = b ∧ gI σ49 641 2 = 1 ∧ gI σ49 642 2 = rI4 yt.2.2.2 32 ∧ gI σ49 643 2 = 0 ∧ gI σ49 644 2 = rI4 yt.2.2.2 40 ∧ gI σ49 645 2 = rI4 yt.2.2.2 44 := by
      rw [f49.i 640 2 (by omega), f49.i 641 2 (by omega), f49.i 642 2 (by omega), f49.i 643 2 (by omega), f49.i 644 2 (by omega), f49.i 645 2 (by omega)]
      exact ⟨by rw [show gI τ7 640 2 = _ from l1]; omega, by rw [show gI τ7 641 2 = _ from l2]; exact e3, l3, by rw [show gI τ7 643 2 = _ from l4]; exact tE.2, l5, l6⟩
    have lv49 : gI σ49 71 0 = cpM S.1 := by rw [f49.i _ _ (by omega)]; exact lv7
    have th49 : gI σ49 72 0 = ((nds S.1).length : Int) := by rw [f49.i _ _ (by omega)]; exact th7
    have RP : RNp cf S.1 S.2 a x w b q yd yt x0 := ⟨wf, d1, d2, d3, e1, e2, e3, x1, x2, x3, nm, fun dw an => nR ⟨dw, an⟩⟩
    have v49' : gI σ49 640 0 = a ∧ gI σ49 641 0 = 1 ∧ gI σ49 642 0 = rI4 yd.2.2.2 32 ∧ gI σ49 643 0 = 0 ∧ gI σ49 644 0 = rI4 yd.2.2.2 40 + -1 ∧ gI σ49 645 0 = rI4 yd.2.2.2 44 := ⟨v49.1, v49.2.1, v49.2.2.1, v49.2.2.2.1, by omega, v49.2.2.2.2.2⟩
    refine ⟨fun th => ?_, fun th σ52 e52 => ?_⟩
    · have t0 : there = 0 := by omega
      obtain ⟨A2, hn, hno⟩ := hA t0
      exact sp_rn0 hc h hC hB RP aR bR x4 hfs p1 e13 g49 ok7 f49s k49 v49' x49 lv49 th49 (by omega) (by omega) t0 hn hno (fun τ S2 p0 S0 W0 k a1 a2 a3 a4 a5 a6 a7 a8 a9 => by
        have := h1 τ w S2 p0 S0 W0 k (by omega) x4 a1 a2 a3 a4 a5 a6 a7 a8 a9
        rw [A2] at this
        rw [if_pos th]; exact this)
    · obtain ⟨A1, hne, v, o, hv, v1, v2, efs, ho, o1, io, hod⟩ := hB' (by omega)
      exact sp_rn1 (v := v) (o := o) hc h hC hB RP aR bR x4 hfs p1 e13 g49 ok7 f49s k49 v49' x49 lv49 th49 (by omega) (by omega) (by omega) hne hv v1 v2 efs ho o1 ((io.fr f47 (fun g p q => by unfold mRow; omega)).fr f49 (fun g p q => by omega)) hod hop hNU e52 (fun τ S2 p0 S0 W0 k a1 a2 a3 a4 a5 a6 a7 a8 a9 => by
        have := h1 τ w S2 p0 S0 W0 k (by omega) x4 a1 a2 a3 a4 a5 a6 a7 a8 a9
        rw [A1] at this
        rw [if_neg th]; exact this)
  have mw : ∀ (i : Int) g, (i = 0 ∨ i = 1 ∨ i = 2) → 640 ≤ g → g ≤ 645 → ¬ mRw g i := fun i g hi p q z => by
    rcases z with (z | z) | z
    · exact (mR0_k z).2.1 ⟨p, q⟩
    · omega
    · omega
  -- up to the ring, whatever is there
  have flow : ∀ (τ2 : St) (there fs : Int), HP tv cf τ2 S S' W r B → Fr mHs σ τ2 → RK τ2 → ndI τ2 0 yd → ndI τ2 2 yt → ndI τ2 1 z → w ≠ there → rnA S a x b q = rnB S a x b q → (rnB S a x b q = cif (rngS S w b) (-9) (rnB S a x b q)) →
      (∀ τ3, ¬ rngS S w b → HP tv cf τ3 S S' W r B → Fr mHs σ τ3 → RK τ3 → ndI τ3 0 yd → ndI τ3 2 yt → ndI τ3 1 z → wp_House_rename_b135 cf tv a x b q Q y8 there fs (if rI4 z.2.2.2 28 = 1 then (1 : Int) else 0) τ3) →
      ((¬ there = (gI τ2 640 1) → ∀ y11_68, y11_68 = (if (gI τ2 641 1) = 1 then (1 : Int) else (0 : Int)) →
            (y11_68 = 0 → wp_House_rename_b135 cf tv a x b q Q y8 there fs y11_68 τ2) ∧
            (¬ y11_68 = 0 → wp_House_isWithin cf tv b (gI τ2 640 1) (fun r_69 σ_70 => rZ r_69 → RK σ_70 →
              (r_69 = 0 → wp_House_rename_b135 cf tv a x b q Q y8 there fs y11_68 σ_70) ∧ (¬ r_69 = 0 → Q (-9) σ_70)) τ2)) ∧ (there = (gI τ2 640 1) → Q 0 τ2)) := by
    intro τ2 there fs H2 g2 k2 i0 i2 i1 ne eA eB nxt
    have n1' : gI τ2 640 1 = w := i1.1.trans (by omega)
    rw [n1', show gI τ2 641 1 = rI4 z.2.2.2 28 from i1.2.1]
    refine ⟨fun _ y11 e11 => ⟨fun y0 => ?_, fun y1 => ?_⟩, fun e => absurd e.symm ne⟩
    · rw [e11]
      refine nxt τ2 (fun g => ?_) H2 g2 k2 i0 i2 i1
      have := dirk zn.2.2.1 g.1
      rw [if_pos this] at e11
      omega
    · have k1' : rI4 z.2.2.2 28 = 1 := Classical.byContradiction (fun e => y1 (by rw [e11, if_neg e]))
      have wD := dirz zn.2.2.1 k1'
      refine sp_HisWithin hc H2 k2 wD (fun τ5 an H5 f5 k5 _ _ => ⟨fun e => absurd e (by decide), fun _ => h0 τ5 (-9) (by rw [eA, eB]; exact cif_y ⟨wD, an⟩) (by omega) H5 (g2.tr (f5.mono (fun f o' => Rw_s))) k5⟩) (fun τ5 an H5 f5 k5 _ _ => ⟨fun _ => ?_, fun e => absurd rfl e⟩)
      rw [e11]
      exact nxt τ5 (fun g => an g.2) H5 (g2.tr (f5.mono (fun f o' => Rw_s))) k5 (i0.fr f5 (fun g p q => mw 0 g (by omega) p q)) (i2.fr f5 (fun g p q => mw 2 g (by omega) p q)) (i1.fr f5 (fun g p q => mw 1 g (by omega) p q))
  have t1' : ndI τ1 2 yt := e5'
  refine sp_Pent hc H1 hb (fun τ2 fs f1' f2' f3' f4' H2 f2 k2 _ _ => ?_) (fun τ2 v w2 v1 v2 v3 v4 v5 v6 H2 f2 k2 rt _ => ?_)
  · intro y10 e10
    rw [show gI τ2 91 0 = fs from f4'] at e10
    have g2 : Fr mHs σ τ2 := g1.tr (f2.mono (fun f o' => Re_s))
    have no : ∀ w2, (b, q, w2) ∉ ens S.1 := fun w2 g => f3' _ g ⟨rfl, rfl⟩
    have eB : rnB S a x b q = cif (∃ w, (a, x, w) ∈ ens S.1 ∧ rngS S w b) (-9) 2 := by
      unfold rnB
      rw [cif_n (fun ⟨w, _, g⟩ => no _ g)]
      congr 1
      rw [cif_n (fun ⟨w, w2, _, g, _⟩ => no _ g), cif_n (fun ⟨w, w2, _, g, _⟩ => no _ g), cif_n (fun ⟨w2, g, _⟩ => no _ g), cif_n (fun ⟨w2, g⟩ => no _ g)]
    have RG : (∃ w, (a, x, w) ∈ ens S.1 ∧ rngS S w b) ↔ rngS S w b := ⟨fun ⟨u, u1, u2⟩ => by rw [wf.e1 x4 u1]; exact u2, fun g => ⟨w, x4, g⟩⟩
    refine flow τ2 0 y10 H2 g2 k2 (d1'.fr f2 (fun g p q z => (mRe_k z).2 ⟨p, q⟩)) (t1'.fr f2 (fun g p q z => (mRe_k z).2 ⟨p, q⟩)) (z1'.fr f2 (fun g p q z => (mRe_k z).2 ⟨p, q⟩)) (by omega) A0 ?_ (fun τ3 nR H3 g3 k3 i0 i2 i1 => ?_)
    · by_cases g : rngS S w b
      · rw [cif_y g, eB]; exact cif_y (RG.mpr g)
      · rw [cif_n g]
    · have A2 : rnA S a x b q = 2 := by rw [A0, eB]; exact cif_n (fun g => nR (RG.mp g))
      unfold wp_House_rename_b135
      intro y12 e12
      rw [show gI τ3 640 1 = w from i1.1.trans (by omega)] at e12
      rw [e12]
      refine ⟨fun _ => grp τ3 0 y10 nR (by omega) (by omega) e8 H3 g3 k3 i0 i2 (fun _ => ⟨A2, by rw [e10]; exact f2', f3'⟩) (fun g => absurd rfl g), fun g => absurd (Int.le_refl 0) g⟩
  · intro y10 e10
    rw [show gI τ2 91 0 = rI4 v.2.2.2 40 from v6] at e10
    have g2 : Fr mHs σ τ2 := g1.tr (f2.mono (fun f o' => Re_s))
    have i12 : ndI τ2 1 z := z1'.fr f2 (fun g p q z => (mRe_k z).2 ⟨p, q⟩)
    obtain ⟨-, ⟨k20, s20, w2N⟩, -⟩ := wr.2.2.1 _ v4
    have w2N : (w2, k20, s20) ∈ nds S.1 := w2N
    have w2R : 1 ≤ w2 ∧ w2 < S.2 := (wr.1.1 _ w2N).1
    by_cases ew : w2 = w
    · have n1' : gI τ2 640 1 = w := i12.1.trans (by omega)
      rw [n1']
      exact ⟨fun ne => absurd ew ne, fun _ => h0 τ2 0 (by rw [A0]; unfold rnB; exact cif_y ⟨w, x4, by rw [← ew]; exact v4⟩) (by omega) H2 g2 k2⟩
    · have e0 : ¬ ∃ u, (a, x, u) ∈ ens S.1 ∧ (b, q, u) ∈ ens S.1 := fun ⟨u, u1, u2⟩ => ew (by rw [wf.e1 v4 u2, wf.e1 x4 u1])
      have RG : (∃ w, (a, x, w) ∈ ens S.1 ∧ rngS S w b) ↔ rngS S w b := ⟨fun ⟨u, u1, u2⟩ => by rw [wf.e1 x4 u1]; exact u2, fun g => ⟨w, x4, g⟩⟩
      refine flow τ2 w2 y10 H2 g2 k2 (d1'.fr f2 (fun g p q z => (mRe_k z).2 ⟨p, q⟩)) (t1'.fr f2 (fun g p q z => (mRe_k z).2 ⟨p, q⟩)) i12 (fun e => ew e.symm) A0 ?_ (fun τ3 nR H3 g3 k3 i0 i2 i1 => ?_)
      · by_cases g : rngS S w b
        · rw [cif_y g]; unfold rnB; rw [cif_n e0]; exact cif_y (RG.mpr g)
        · rw [cif_n g]
      · have eB : rnB S a x b q = cif ((w, 1, 0) ∈ nds S.1 ∧ (w2, 1, 0) ∉ nds S.1) (-6) (cif ((w, 1, 0) ∉ nds S.1 ∧ (w2, 1, 0) ∈ nds S.1) (-7) (cif ((w2, 1, 0) ∈ nds S.1 ∧ cn1 w2 (ens S.1) ≠ 0) (-8) 1)) := by
          have P1 : (∃ u u2, (a, x, u) ∈ ens S.1 ∧ (b, q, u2) ∈ ens S.1 ∧ (u, 1, 0) ∈ nds S.1 ∧ (u2, 1, 0) ∉ nds S.1) ↔ ((w, 1, 0) ∈ nds S.1 ∧ (w2, 1, 0) ∉ nds S.1) := ⟨fun ⟨u, u2, p, q, t⟩ => by rw [wf.e1 x4 p, wf.e1 v4 q]; exact t, fun t => ⟨w, w2, x4, v4, t⟩⟩
          have P2 : (∃ u u2, (a, x, u) ∈ ens S.1 ∧ (b, q, u2) ∈ ens S.1 ∧ (u, 1, 0) ∉ nds S.1 ∧ (u2, 1, 0) ∈ nds S.1) ↔ ((w, 1, 0) ∉ nds S.1 ∧ (w2, 1, 0) ∈ nds S.1) := ⟨fun ⟨u, u2, p, q, t⟩ => by rw [wf.e1 x4 p, wf.e1 v4 q]; exact t, fun t => ⟨w, w2, x4, v4, t⟩⟩
          have P3 : (∃ u2, (b, q, u2) ∈ ens S.1 ∧ (u2, 1, 0) ∈ nds S.1 ∧ cn1 u2 (ens S.1) ≠ 0) ↔ ((w2, 1, 0) ∈ nds S.1 ∧ cn1 w2 (ens S.1) ≠ 0) := ⟨fun ⟨u2, q, t⟩ => by rw [wf.e1 v4 q]; exact t, fun t => ⟨w2, v4, t⟩⟩
          unfold rnB
          rw [cif_n e0, cif_n (fun g => nR (RG.mp g)), cif_y (⟨w2, v4⟩ : ∃ w2, (b, q, w2) ∈ ens S.1), propext P1, propext P2, propext P3]
        unfold wp_House_rename_b135
        intro y12 e12
        rw [show gI τ3 640 1 = w from i1.1.trans (by omega)] at e12
        rw [e12]
        refine ⟨fun g => by omega, fun _ => ?_⟩
        refine sp_Pread hc H3 (by unfold rI; omega) (fun τ4 nn H4 f4 k4 _ _ => absurd w2N (nn _ _)) (fun τ4 o o1 o2 o3 o4 o5 H4 f4 k4 _ _ => ?_)
        have on := nd_put (M := S.1) (nx := S.2) wf o1 o2
        have g4 : Fr mHs σ τ4 := g3.tr (f4.mono (fun f o' => Ri_s))
        have m1 : ∀ (i : Int) g, (i = 0 ∨ i = 2) → 640 ≤ g → g ≤ 645 → ¬ mRi 1 g i := fun i g hi p q z => by
          rcases z with z | z
          · exact (mR0_k z).2.1 ⟨p, q⟩
          · omega
        have i04 : ndI τ4 0 yd := i0.fr f4 (fun g p q => m1 0 g (by omega) p q)
        have i24 : ndI τ4 2 yt := i2.fr f4 (fun g p q => m1 2 g (by omega) p q)
        have kO : gI τ4 641 1 = rI4 o.2.2.2 28 := o5.2.1
        have eO : gI τ4 644 1 = rI4 o.2.2.2 40 := o5.2.2.2.2.1
        have D1 : rI4 z.2.2.2 28 = 1 ↔ (w, 1, 0) ∈ nds S.1 := ⟨fun e => dirz zn.2.2.1 e, fun e => dirk zn.2.2.1 e⟩
        have D2 : rI4 o.2.2.2 28 = 1 ↔ (w2, 1, 0) ∈ nds S.1 := ⟨fun e => dirz on.2.2.1 e, fun e => dirk on.2.2.1 e⟩
        have cO : rI4 o.2.2.2 28 = 1 → rI4 o.2.2.2 40 = cn1 w2 (ens S.1) := fun e => (on.2.2.2.2.2.2.1.1 e).1
        have slv := (ent_it (M := S.1) (nx := S.2) wf v1 v2 v3).2.2.1
        have go : (rI4 z.2.2.2 28 = 1 ↔ rI4 o.2.2.2 28 = 1) → (rI4 o.2.2.2 28 = 1 → cn1 w2 (ens S.1) = 0) → wp_House_rename_b216 cf tv a x b q Q y8 w2 y10 w τ4 := by
          intro dd ce
          have A1 : rnA S a x b q = 1 := by
            rw [A0, eB, cif_n (fun g => g.2 (D2.mp (dd.mp (D1.mpr g.1)))), cif_n (fun g => g.1 (D1.mp (dd.mpr (D2.mpr g.2)))), cif_n (fun g => g.2 (ce (D2.mpr g.1)))]
          exact grp τ4 w2 y10 nR (by omega) (by omega) e8 H4 g4 k4 i04 i24 (fun g => by omega) (fun _ => ⟨A1, fun e => ew e.symm, v, o, v1, v2, v3, e10, o1, o2, o5, ce⟩)
        have b198 : (rI4 z.2.2.2 28 = 1 ↔ rI4 o.2.2.2 28 = 1) → wp_House_rename_b198 cf tv a x b q Q (wp_House_rename_b216 cf tv a x b q Q) y8 w2 y10 (if rI4 z.2.2.2 28 = 1 then (1 : Int) else 0) w τ4 := by
          intro dd
          unfold wp_House_rename_b198
          refine ⟨fun y0 => go dd (fun e => ?_), fun y1 => ?_⟩
          · rw [if_pos (dd.mpr e)] at y0; omega
          · have zk : rI4 z.2.2.2 28 = 1 := Classical.byContradiction (fun e => y1 (by rw [if_neg e]))
            rw [eO]
            have c := cO (dd.mp zk)
            refine ⟨fun g => go dd (fun _ => by omega), fun g => h0 τ4 (-8) ?_ (by omega) H4 g4 k4⟩
            rw [A0, eB, cif_n (fun g => g.2 (D2.mp (dd.mp (D1.mpr g.1)))), cif_n (fun g => g.1 (D1.mp (dd.mpr (D2.mpr g.2)))), cif_y ⟨D2.mp (dd.mp zk), by omega⟩]
        have b179 : (rI4 z.2.2.2 28 = 1 → rI4 o.2.2.2 28 = 1) → wp_House_rename_b179 cf tv a x b q Q (wp_House_rename_b216 cf tv a x b q Q) y8 w2 y10 (if rI4 z.2.2.2 28 = 1 then (1 : Int) else 0) w τ4 := by
          intro dd
          unfold wp_House_rename_b179
          rw [kO]
          refine ⟨fun y1 => b198 ⟨dd, fun _ => Classical.byContradiction (fun e => y1 (by rw [if_neg e]))⟩, fun y0 => ?_⟩
          have zk : ¬ rI4 z.2.2.2 28 = 1 := fun e => by rw [if_pos e] at y0; omega
          refine ⟨fun g => b198 ⟨dd, fun e => absurd e g⟩, fun g => h0 τ4 (-7) ?_ (by omega) H4 g4 k4⟩
          rw [A0, eB, cif_n (fun e => zk (D1.mpr e.1)), cif_y ⟨fun e => zk (D1.mpr e), D2.mp g⟩]
        rw [kO]
        refine ⟨fun y0 => b179 (fun e => by rw [if_pos e] at y0; omega), fun y1 => ?_⟩
        have zk : rI4 z.2.2.2 28 = 1 := Classical.byContradiction (fun e => y1 (by rw [if_neg e]))
        refine ⟨fun g => b179 (fun _ => g), fun g => h0 τ4 (-6) ?_ (by omega) H4 g4 k4⟩
        rw [A0, eB, cif_y ⟨D1.mp zk, fun e => g (D2.mpr e)⟩]
