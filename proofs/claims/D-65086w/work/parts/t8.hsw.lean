/-! House.swap -/
/-- whether a thing is a directory in which d lies -/
def rngS (S : List (Int × Int × Int × (Int → Int)) × Int) (w d : Int) : Prop := (w, 1, 0) ∈ nds S.1 ∧ Anc (nds S.1) (ens S.1) w d
noncomputable def swB (S : List (Int × Int × Int × (Int → Int)) × Int) (a x b y : Int) : Int := cif (∃ w2, (b, y, w2) ∈ ens S.1) (cif (∃ w, (a, x, w) ∈ ens S.1 ∧ (b, y, w) ∈ ens S.1) 0 (cif (∃ w w2, (a, x, w) ∈ ens S.1 ∧ (b, y, w2) ∈ ens S.1 ∧ (rngS S w b ∨ rngS S w2 a)) (-9) 1)) (-4)
noncomputable def swA (S : List (Int × Int × Int × (Int → Int)) × Int) (a x b y : Int) : Int := cif (¬ nmV y) (-3) (cif (namA S a x = 0) (dirA (nds S.1) b (swB S a x b y)) (namA S a x))
theorem WF.e1 {cf : Cf} {S : List (Int × Int × Int × (Int → Int)) × Int} (w : WF cf S) {a x t u : Int} (ha : (a, x, t) ∈ ens S.1) (hb : (a, x, u) ∈ ens S.1) : t = u := by
  have := nodup_key (E := ens S.1) w.2.2.2.2.2.1 ha hb rfl rfl
  rw [Prod.mk.injEq, Prod.mk.injEq] at this
  exact this.2.2
theorem sp_Hswap {tv : Nat → Int} {cf : Cf} {σ : St} {S S' : List (Int × Int × Int × (Int → Int)) × Int} {W : List (Int × (List (Int × Int × Int × (Int → Int)) × Int))} {r : RT} {B : Int} {a x b y : Int} {Q : Int → St → Prop} (hc : CfOK cf) (h : HP tv cf σ S S' W r B) (hC : HC σ S) (hrk : RK σ) (hB : B + 49772 < 1073741000) (ha : rI a) (hx : rJ x) (hb : rI b) (hy : rJ y)
    (h0 : ∀ τ no, swA S a x b y = no → no ≤ 0 → HP tv cf τ S S' W r B → Fr mHs σ τ → RK τ → Q no τ)
    (h1 : ∀ τ w w2 E1 S2 p0 S0 W0 k, swA S a x b y = 1 → (ens S.1).Perm ((a, x, w) :: (b, y, w2) :: E1) → RWS S2.1 (nds S.1) ((a, x, w2) :: (b, y, w) :: E1) (ats S.1) (pcs S.1) → S2.2 = S.2 → TKo cf σ 96 S S' W p0 S0 W0 → SFo (p0 + 96) (W0 ++ [(p0 + 96, S2)]) k → HP tv cf τ S2 (laS S0 ((W0 ++ [(p0 + 96, S2)]).take k)) ((W0 ++ [(p0 + 96, S2)]).drop k) r (B + 49772) → HC τ S2 → gI τ 451 0 ≠ -1 → gI τ 452 0 = p0 + 96 → Fr mHo σ τ → RK τ → Q 1 τ) : wp_House_swap cf tv a x b y Q σ := by
  have wf := h.wf
  have wr := wf.wr
  have n1 := h.nx
  have ok := h.okC hc
  have on : gI σ 69 0 = 1 := hC.2.2
  unfold wp_House_swap
  refine ⟨fun _ => ?_, fun w => by have w : gI σ 69 0 = 0 := w; omega⟩
  refine sp_HisName (fun nm _ _ => ⟨fun _ => ?_, fun w => absurd w (by decide)⟩) (fun nm _ _ => ⟨fun w => absurd rfl w, fun _ => h0 σ (-3) (cif_y nm) (by omega) h (Fr.rf _ _) hrk⟩)
  have A0 : swA S a x b y = cif (namA S a x = 0) (dirA (nds S.1) b (swB S a x b y)) (namA S a x) := cif_n (fun q => q nm)
  refine sp_Hnamed hc h hrk ha (fun τ no n0 n1 H f k _ _ => ⟨fun w => by omega, fun _ => h0 τ no (by rw [A0, cif_n (by omega)]; exact n0) (by omega) H f k⟩) (fun τ yd x0 z w nA d1 d2 d3 d4 x1 x2 x3 x4 sl z1 z2 z3 w1 H f k _ _ => ⟨fun _ => ?_, fun w => absurd (Int.le_refl 0) w⟩)
  rw [cif_y nA] at A0
  intro y8 e8
  rw [show gI τ 91 0 = rI4 x0.2.2.2 40 from sl] at e8
  have m2 : ∀ g, 640 ≤ g → g ≤ 645 → ¬ mRi 2 g 1 := fun g p q z => by
    rcases z with z | z
    · exact (mR0_k z).2.1 ⟨p, q⟩
    · omega
  refine sp_Pdir (i := 2) hc H hb (fun τ1 yd2 e1 e2 e3 e4 e5' H1 f1 k1 _ _ => ⟨fun _ => ?_, fun w => absurd (Int.le_refl 0) w⟩) (fun τ1 no n0 hz f1 k1 _ _ => ⟨fun w => by omega, fun _ => h0 τ1 no (by rw [A0]; exact hz _) (by omega) (H.frH f1 (fun f o' => mRi_h) k1) (f.tr (f1.mono (fun f o' => Ri_s))) k1⟩)
  rw [dir_y e4] at A0
  have g1 : Fr mHs σ τ1 := f.tr (f1.mono (fun f o' => Ri_s))
  have z1' : ndI τ1 1 z := z3.fr f1 m2
  refine sp_Pent hc H1 hb (fun τ2 fs f1' f2' f3' f4' H2 f2 k2 _ _ => ?_) (fun τ2 v w2 v1 v2 v3 v4 v5 v6 H2 f2 k2 rt _ => ?_)
  · intro y10 _
    refine ⟨fun w => absurd rfl w, fun _ => h0 τ2 (-4) (by rw [A0]; exact cif_n (fun ⟨w2, q⟩ => f3' _ q ⟨rfl, rfl⟩)) (by omega) H2 (g1.tr (f2.mono (fun f o' => Re_s))) k2⟩
  intro y10 e10
  rw [show gI τ2 91 0 = rI4 v.2.2.2 40 from v6] at e10
  have g2 : Fr mHs σ τ2 := g1.tr (f2.mono (fun f o' => Re_s))
  have z2' : ndI τ2 1 z := z1'.fr f2 (fun g p q z => (mRe_k z).2 ⟨p, q⟩)
  rw [show swB S a x b y = cif (∃ w, (a, x, w) ∈ ens S.1 ∧ (b, y, w) ∈ ens S.1) 0 (cif (∃ w w2, (a, x, w) ∈ ens S.1 ∧ (b, y, w2) ∈ ens S.1 ∧ (rngS S w b ∨ rngS S w2 a)) (-9) 1) from cif_y ⟨w2, v4⟩] at A0
  refine ⟨fun _ y11 e11 => ?_, fun w => by omega⟩
  rw [show gI τ2 640 1 = w from z2'.1.trans (by omega)] at e11
  rw [e11, show gI τ2 641 1 = rI4 z.2.2.2 28 from z2'.2.1]
  refine ⟨fun ne => ?_, fun eq => h0 τ2 0 (by rw [A0]; exact cif_y ⟨w, x4, by rw [← eq]; exact v4⟩) (by omega) H2 g2 k2⟩
  rw [cif_n (fun ⟨u, u1, u2⟩ => ne (by rw [wf.e1 v4 u2, wf.e1 x4 u1]))] at A0
  have RG : (∃ u u2, (a, x, u) ∈ ens S.1 ∧ (b, y, u2) ∈ ens S.1 ∧ (rngS S u b ∨ rngS S u2 a)) ↔ (rngS S w b ∨ rngS S w2 a) := ⟨fun ⟨u, u2, p, q, t⟩ => by rw [wf.e1 x4 p, wf.e1 v4 q]; exact t, fun t => ⟨w, w2, x4, v4, t⟩⟩
  have zn := nd_put (M := S.1) (nx := S.2) wf z1 z2
  have aD := (wr.2.2.1 _ x4).1
  have bD := (wr.2.2.1 _ v4).1
  have aR : 1 ≤ a ∧ a < S.2 := (wr.1.1 _ aD).1
  have bR : 1 ≤ b ∧ b < S.2 := (wr.1.1 _ bD).1
  have wR : 1 ≤ w ∧ w < S.2 := zn.1
  obtain ⟨-, ⟨k20, s20, w2N⟩, -⟩ := wr.2.2.1 _ v4
  have w2R : 1 ≤ w2 ∧ w2 < S.2 := (wr.1.1 _ w2N).1
  have dirz : ∀ {t k s : Int}, (t, k, s) ∈ nds S.1 → k = 1 → (t, 1, 0) ∈ nds S.1 := fun {t k s} h q => by
    have s0 : s = 0 := (wr.1.1 _ h).2 q
    rw [q, s0] at h; exact h
  obtain ⟨nx1, -, sl1, -, -⟩ := ent_it (M := S.1) (nx := S.2) wf x1 x2 x3
  obtain ⟨ny1, -, sl2, -, -⟩ := ent_it (M := S.1) (nx := S.2) wf v1 v2 v3
  -- the group
  have grp : ∀ τ4, ¬ rngS S w b → ¬ rngS S w2 a → HP tv cf τ4 S S' W r B → Fr mHs σ τ4 → RK τ4 → wp_House_swap_b165 cf tv a x b y Q y8 w2 y10 w τ4 := by
    intro τ4 r1 r2 H4 g4 k4
    rw [cif_n (fun q => (RG.mp q).elim r1 r2)] at A0
    unfold wp_House_swap_b165
    refine sp_Hbegin (S := S) (fun τ5 q5 f5 k5 _ => ?_)
    rw [e8]
    refine sp_gEnt k5 q5 (by omega) (ok.s (by omega)) (by omega) (by unfold rI; omega) hx (by unfold rI; omega) (fun τ6 P1 p1 q6 f6 k6 _ => ?_)
    have ok6 : okC (sEn S a w2 x (rI4 x0.2.2.2 40) P1) 1 := by
      unfold sEn; rw [if_neg (by omega)]
      exact ok.put (fun q => by have q : (4 * a + 2) % 4 = 0 := q; omega)
    rw [e10]
    refine sp_gEntL (l := 1) k6 q6 (by omega) (ok6.s (by omega)) (by omega) (by unfold rI; omega) hy (by unfold rI; omega) (fun τ7 P2 p2 q7 f7 k7 => ?_)
    have q7 := q7.2 (by decide)
    have E0 : (ens S.1).Perm ((a, x, w) :: (b, y, w2) :: ((ens S.1).erase (a, x, w)).erase (b, y, w2)) := (List.perm_cons_erase x4).trans ((List.perm_cons_erase ((List.mem_erase_of_ne (fun q => ne (by rw [Prod.mk.injEq, Prod.mk.injEq] at q; exact q.2.2))).mpr v4)).cons _)
    obtain ⟨L1, L2, L3⟩ := sw_law (cf := cf) (M := S.1) (nx := S.2) wf x1 x2 x3 v1 v2 v3 E0 (fun q => ne q.symm) p1 p2 (fun d an => r1 ⟨d, an⟩) (fun d an => r2 ⟨d, an⟩) rfl
    have es : sEn (sEn S a w2 x (rI4 x0.2.2.2 40) P1) b w y (rI4 v.2.2.2 40) P2 = (mput (4 * b + 2, hs y + rI4 v.2.2.2 40, 48, P2) (mput (4 * a + 2, hs x + rI4 x0.2.2.2 40, 48, P1) S.1), S.2) := by
      unfold sEn
      rw [if_neg (by omega), if_neg (by omega)]
    rw [es] at q7
    generalize mput (4 * b + 2, hs y + rI4 v.2.2.2 40, 48, P2) (mput (4 * a + 2, hs x + rI4 x0.2.2.2 40, 48, P1) S.1) = M4 at *
    have f47 : Fr (mRow 6) τ4 τ7 := (f5.tr f6).tr f7
    have f4s : Fr mHs σ τ7 := g4.tr (f47.mono (fun f o' => R6_s))
    have H7 := H4.frH f47 (fun f o' q => (R6_s q).1) k7
    refine sp_handS (e := 96) hc H7 hB q7 (by omega) L1 (by show S.2 < 1073740000; omega) (fun τ8 p0 S0 W0 kk tk sf H8 nn pl f8 k8 _ => ?_)
    have f8s : Fr stS τ7 τ8 := f8.mono (fun f o' => st_Hh)
    have hC8 : HC τ8 S := (hC.fr f4s (fun g q v => v.2 q)).fr f8s (fun g q v => by unfold hK at q; unfold stS at v; omega)
    refine h1 τ8 w w2 _ (M4, S.2) p0 S0 W0 kk A0 E0 L3 rfl (tk.fr f4s ⟨fun q => (mHs_W q).1 rfl, fun q => (mHs_W q).2 rfl⟩) sf H8 ⟨?_, ?_, hC8.2.2⟩ nn pl ((f4s.mono (fun f o' => Or.inl)).tr (f8s.mono (fun f o' q => Or.inr (Or.inl q)))) k8
    · show gI τ8 71 0 = cpM M4
      rw [L2]; exact hC8.1
    · show gI τ8 72 0 = ((nds M4).length : Int)
      rw [L3.1.length_eq]; exact hC8.2.1
  have B130 : ∀ τ3, ¬ rngS S w b → HP tv cf τ3 S S' W r B → Fr mHs σ τ3 → RK τ3 → wp_House_swap_b130 cf tv a x b y Q y8 w2 y10 w τ3 := by
    intro τ3 r1 H3 g3 k3
    unfold wp_House_swap_b130
    refine sp_Pread hc H3 (by unfold rI; omega) (fun τ4 no H4 f4 k4 _ _ => absurd w2N (no _ _)) (fun τ4 u u1 u2 u3 u4 u5 H4 f4 k4 _ _ => ?_)
    have un := nd_put (M := S.1) (nx := S.2) wf u1 u2
    have g4 : Fr mHs σ τ4 := g3.tr (f4.mono (fun f o' => Ri_s))
    rw [show gI τ4 641 1 = rI4 u.2.2.2 28 from u5.2.1]
    refine ⟨fun k1' => grp τ4 r1 (fun q => k1' ?_) H4 g4 k4, fun k1' => ?_⟩
    · have := wr.u un.2.2.1 q.1 rfl
      rw [Prod.mk.injEq, Prod.mk.injEq] at this
      exact this.2.1
    · have w2D := dirz un.2.2.1 k1'
      exact sp_HisWithin hc H4 k4 w2D (fun τ5 an H5 f5 k5 _ _ => ⟨fun w => absurd w (by decide), fun _ => h0 τ5 (-9) (by rw [A0]; exact cif_y (RG.mpr (Or.inr ⟨w2D, an⟩))) (by omega) H5 (g4.tr (f5.mono (fun f o' => Rw_s))) k5⟩) (fun τ5 an H5 f5 k5 _ _ => ⟨fun _ => grp τ5 r1 (fun q => an q.2) H5 (g4.tr (f5.mono (fun f o' => Rw_s))) k5, fun w => absurd rfl w⟩)
  refine ⟨fun k1' => B130 τ2 (fun q => k1' ?_) H2 g2 k2, fun k1' => ?_⟩
  · have := wr.u zn.2.2.1 q.1 rfl
    rw [Prod.mk.injEq, Prod.mk.injEq] at this
    exact this.2.1
  · have wD := dirz zn.2.2.1 k1'
    exact sp_HisWithin hc H2 k2 wD (fun τ5 an H5 f5 k5 _ _ => ⟨fun w => absurd w (by decide), fun _ => h0 τ5 (-9) (by rw [A0]; exact cif_y (RG.mpr (Or.inl ⟨wD, an⟩))) (by omega) H5 (g2.tr (f5.mono (fun f o' => Rw_s))) k5⟩) (fun τ5 an H5 f5 k5 _ _ => ⟨fun _ => B130 τ5 (fun q => an q.2) H5 (g2.tr (f5.mono (fun f o' => Rw_s))) k5, fun w => absurd rfl w⟩)
