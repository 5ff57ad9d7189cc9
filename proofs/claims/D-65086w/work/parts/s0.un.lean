/-! House.named, unlink, rmdir -/
/-- 0, or why there is no such entry -/
noncomputable def namA (S : List (Int × Int × Int × (Int → Int)) × Int) (d x : Int) : Int := cif (¬ nmV x) (-3) (dirA (nds S.1) d (cif (∃ w, (d, x, w) ∈ ens S.1) 0 (-4)))
theorem sp_Hnamed {tv : Nat → Int} {cf : Cf} {σ : St} {S S' : List (Int × Int × Int × (Int → Int)) × Int} {W : List (Int × (List (Int × Int × Int × (Int → Int)) × Int))} {r : RT} {B : Int} {d x : Int} {Q : Int → St → Prop} (hc : CfOK cf) (h : HP tv cf σ S S' W r B) (hrk : RK σ) (hd : rI d)
    (h0 : ∀ τ no, namA S d x = no → no < 0 → HP tv cf τ S S' W r B → Fr mHs σ τ → RK τ → Q no τ)
    (h1 : ∀ τ y x0 z w, namA S d x = 0 → y ∈ S.1 → y.1 = 4 * d → rI4 y.2.2.2 28 = 1 → ndI τ 0 y → x0 ∈ S.1 → x0.1 = 4 * d + 2 → erow x0 = (d, x, w) → (d, x, w) ∈ ens S.1 → gI τ 91 0 = rI4 x0.2.2.2 40 → z ∈ S.1 → z.1 = 4 * w → ndI τ 1 z → w ≠ 1 → HP tv cf τ S S' W r B → Fr mHs σ τ → RK τ → Q 0 τ) : wp_House_named cf tv d x Q σ := by
  have wf := h.wf
  have wr := wf.wr
  unfold wp_House_named
  refine sp_HisName (fun nm _ _ => ⟨fun _ => ?_, fun w => absurd w (by decide)⟩) (fun nm _ _ => ⟨fun w => absurd rfl w, fun _ => h0 σ (-3) (cif_y nm) (by omega) h (Fr.rf _ _) hrk⟩)
  have A0 : namA S d x = dirA (nds S.1) d (cif (∃ w, (d, x, w) ∈ ens S.1) 0 (-4)) := cif_n (fun q => q nm)
  refine sp_Pdir hc h hd (fun τ1 y y1 y2 y3 y4 y5' H1 f1 k1 _ _ => ⟨fun _ => ?_, fun w => absurd (Int.le_refl 0) w⟩) (fun τ1 no n0 hz f1 k1 _ _ => ⟨fun w => by omega, fun _ => h0 τ1 no (by rw [A0]; exact hz _) n0 (h.frH f1 (fun f o' => mRi_h) k1) (f1.mono (fun f o' => Ri_s)) k1⟩)
  rw [dir_y y4] at A0
  have g1 : Fr mHs σ τ1 := f1.mono (fun f o' => Ri_s)
  refine sp_Pent hc H1 hd (fun τ2 fs f1' f2' f3' f4' H2 f2 k2 _ _ => ?_) (fun τ2 x0 t v1 v2 v3 v4 v5 v6 H2 f2 k2 rt _ => ?_)
  · have g2 : Fr mHs σ τ2 := g1.tr (f2.mono (fun f o' => Re_s))
    refine sp_Pread hc H2 (by unfold rI; omega) (fun τ3 no H3 f3 k3 _ _ => ?_) (fun τ3 z z1 z2 z3 z4 z5 H3 f3 k3 _ _ => ?_)
    · rw [if_pos rfl]
      exact h0 τ3 (-4) (by rw [A0]; exact cif_n (fun ⟨w, q⟩ => f3' _ q ⟨rfl, rfl⟩)) (by omega) H3 (g2.tr (f3.mono (fun f o' => Ri_s))) k3
    · have := (wf.iok z z1).2.2.2.2.1
      omega
  · have g2 : Fr mHs σ τ2 := g1.tr (f2.mono (fun f o' => Re_s))
    obtain ⟨-, ⟨k0, s0, tn⟩, t1⟩ := wr.2.2.1 _ v4
    refine sp_Pread hc H2 rt (fun τ3 no H3 f3 k3 _ _ => absurd tn (no k0 s0)) (fun τ3 z z1 z2 z3 z4 z5 H3 f3 k3 _ _ => ?_)
    rw [if_neg (by decide)]
    refine h1 τ3 y x0 z t (by rw [A0]; exact cif_y ⟨t, v4⟩) y1 y2 y3 ((y5'.fr f2 (fun g a b q => (mRe_k q).2 ⟨a, b⟩)).fr f3 (fun g a b q => ?_)) v1 v2 v3 v4 (by rw [f3.i _ _ (fun q => (mRi_k q).2 (by omega))]; exact v6) z1 z2 z5 t1 H3 (g2.tr (f3.mono (fun f o' => Ri_s))) k3
    rcases q with q | q
    · exact (mR0_k q).2.1 ⟨a, b⟩
    · omega
/-- how the rows are behind an entry's loss -/
def unR (σ : St) (S S2 : List (Int × Int × Int × (Int → Int)) × Int) (w k : Int) (E0 : List (Int × Int × Int)) : Prop := (¬ gnP σ w k E0 → RWS S2.1 (nds S.1) E0 (ats S.1) (pcs S.1) ∧ NU σ (nds S.1) E0) ∧ (gnP σ w k E0 → RWS S2.1 ((nds S.1).filter (fun n => decide (n.1 ≠ w))) E0 ((ats S.1).filter (fun r => decide (kpA w r))) ((pcs S.1).filter (fun p => decide (p.1 ≠ w)))) ∧ S2.2 = S.2
theorem gnP_fr {σ τ : St} {w k : Int} {E0 : List (Int × Int × Int)} (e : gA τ 70 0 = gA σ 70 0) : gnP τ w k E0 ↔ gnP σ w k E0 := by unfold gnP opn; rw [e]
theorem NU_fr {σ τ : St} {N E : List (Int × Int × Int)} (e : gA τ 70 0 = gA σ 70 0) (h : NU σ N E) : NU τ N E := fun n a b c => by have := h n a b c; unfold opn at this ⊢; rw [e]; exact this
theorem sp_Hunlink {tv : Nat → Int} {cf : Cf} {σ : St} {S S' : List (Int × Int × Int × (Int → Int)) × Int} {W : List (Int × (List (Int × Int × Int × (Int → Int)) × Int))} {r : RT} {B : Int} {d x : Int} {Q : Int → St → Prop} (hc : CfOK cf) (h : HP tv cf σ S S' W r B) (hC : HC σ S) (hrk : RK σ) (hB : B + 49772 < 1073741000) (hd : rI d) (hx : rJ x) (hop : ∀ w k s, (w, k, s) ∈ nds S.1 → opn σ w → k = 2) (hNU : NU σ (nds S.1) (ens S.1))
    (h0 : ∀ τ no, namA S d x = no → no < 0 → HP tv cf τ S S' W r B → Fr mHs σ τ → RK τ → Q no τ)
    (hD : ∀ τ w, namA S d x = 0 → (d, x, w) ∈ ens S.1 → (w, 1, 0) ∈ nds S.1 → HP tv cf τ S S' W r B → Fr mHs σ τ → RK τ → Q (-7) τ)
    (h1 : ∀ τ w k s E0 S2 p0 S0 W0 n, namA S d x = 0 → (d, x, w) ∈ ens S.1 → (w, k, s) ∈ nds S.1 → k ≠ 1 → (ens S.1).Perm ((d, x, w) :: E0) → unR σ S S2 w k E0 → TKo cf σ 144 S S' W p0 S0 W0 → SFo (p0 + 144) (W0 ++ [(p0 + 144, S2)]) n → HP tv cf τ S2 (laS S0 ((W0 ++ [(p0 + 144, S2)]).take n)) ((W0 ++ [(p0 + 144, S2)]).drop n) r (B + 49772) → HC τ S2 → gI τ 451 0 ≠ -1 → gI τ 452 0 = p0 + 144 → Fr mHo σ τ → RK τ → Q (cn3 w E0) τ) : wp_House_unlink cf tv d x Q σ := by
  have wf := h.wf
  have on : gI σ 69 0 = 1 := hC.2.2
  unfold wp_House_unlink
  refine ⟨fun _ => ?_, fun w => by have w : gI σ 69 0 = 0 := w; omega⟩
  refine sp_Hnamed hc h hrk hd (fun τ no a b c f k _ _ => ⟨fun w => by omega, fun _ => h0 τ no a b c f k⟩) (fun τ y x0 z w A y1 y2 y3 y4 x1 x2 x3 x4 sl z1 z2 z3 w1 H f k _ _ => ⟨fun _ => ?_, fun w => absurd (Int.le_refl 0) w⟩)
  obtain ⟨nr, nn1, nn2, nk, ns, ⟨nc1, nc2, nc3⟩, ⟨-, ncl, nca⟩, nak⟩ := nd_put (M := S.1) (nx := S.2) wf z1 z2
  have kd : gI τ 641 1 = rI4 z.2.2.2 28 := z3.2.1
  have h70 : gA τ 70 0 = gA σ 70 0 := f.a _ _ (fun q => q.2 (by unfold hK; omega))
  rw [kd]
  refine ⟨fun k1 => ?_, fun k1 => ?_⟩
  · have pE := List.perm_cons_erase x4
    refine sp_Hunn hc H (hC.fr f (fun g q v => v.2 q)) k hB hx y1 y2 y3 y4 z1 z2 rfl rfl z3 w1 x1 x2 x3 sl pE (fun q => absurd q k1) (fun o => hop _ _ _ nn2 (by unfold opn at o ⊢; rw [← h70]; exact o)) (NU_fr h70 hNU) (fun τ2 S2 p0 S0 W0 n a b c d' e f' g l1 n1 nn pl fr kr _ => ?_)
    have l := ncl k1
    rw [perm_cn3 pE, cn3_i (show ((d, x, w) : Int × Int × Int).2.2 = w from rfl)] at l
    have cw := cn3_le (a := w) (R := (ens S.1).erase (d, x, w))
    have le := pE.length_eq
    have lim := (wf.x.ft hc).2.2.2.1
    rw [List.length_cons] at le
    rw [show gI τ2 642 1 = (cn3 w ((ens S.1).erase (d, x, w)) : Int) by rw [show gI τ2 642 1 = w32 (rI4 z.2.2.2 32 - 1) from l1, l, w32_id (by unfold rI; omega)]; omega]
    refine h1 τ2 w _ _ _ S2 p0 S0 W0 n A x4 nn2 k1 pE ⟨fun v => ?_, fun v => b ((gnP_fr h70).mpr v), c⟩ (d'.fr f ⟨fun q => (mHs_W q).1 rfl, fun q => (mHs_W q).2 rfl⟩) e f' g nn pl ((f.mono (fun f o' => Or.inl)).tr fr) kr
    obtain ⟨u1, u2⟩ := a (fun t => v ((gnP_fr h70).mp t))
    exact ⟨u1, NU_fr h70.symm u2⟩
  · rw [k1] at nn2
    have s0 := (wf.wr.1.1 _ nn2).2 rfl
    have s0 : rI4 z.2.2.2 36 = 0 := s0
    rw [s0] at nn2
    exact hD τ w A x4 nn2 H f k
