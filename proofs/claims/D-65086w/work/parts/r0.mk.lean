/-! House.make -/
theorem cap_e (cf : Cf) : cap cf = capa cf := by unfold cap capa; rw [show cf.1 - 18 - cf.2.2 = cf.1 - 10 - cf.2.2 - 8 by omega]
/-- readers, and the store -/
def mHs (f : Nat) (o' : Int) : Prop := mHR f o' ∧ ¬ hK f
def mHo (f : Nat) (o' : Int) : Prop := mHs f o' ∨ stS f o' ∨ ((f = 71 ∨ f = 72) ∧ o' = 0)
theorem Ri_s {i : Int} {f : Nat} {o' : Int} (h : mRi i f o') : mHs f o' := ⟨mRi_h h, (mRi_k h).1⟩
theorem Re_s {f : Nat} {o' : Int} (h : mRe f o') : mHs f o' := ⟨mRe_h h, (mRe_k h).1⟩
theorem Is_s {f : Nat} {o' : Int} (h : mIs 0 f o') : mHs f o' := ⟨Or.inr (Or.inr (Or.inr (Or.inl h))), by unfold mIs at h; unfold hK; omega⟩
theorem R6_s {f : Nat} {o' : Int} (h : mRow 6 f o') : mHs f o' := by unfold mRow at h; refine ⟨by unfold mHR; omega, by unfold hK; omega⟩
theorem In_s {f : Nat} {o' : Int} (h : 640 ≤ f ∧ f < 704) : mHs f o' := ⟨by unfold mHR; omega, by unfold hK; omega⟩
theorem TKo.fr {cf : Cf} {σ τ : St} {e p0 : Int} {Sm S' S0 : List (Int × Int × Int × (Int → Int)) × Int} {W W0 : List (Int × (List (Int × Int × Int × (Int → Int)) × Int))} {M : Nat → Int → Prop} (h : TKo cf τ e Sm S' W p0 S0 W0) (f : Fr M σ τ) (n : ¬ M 451 0 ∧ ¬ M 452 0) : TKo cf σ e Sm S' W p0 S0 W0 := by
  unfold TKo at h ⊢; rw [f.i _ _ n.1, f.i _ _ n.2] at h; exact h
theorem mHs_W {f : Nat} {o' : Int} (h : mHs f o') : f ≠ 451 ∧ f ≠ 452 := by
  obtain ⟨h, -⟩ := h
  unfold mHR mIs at h
  omega
theorem HP.nxt {tv : Nat → Int} {cf : Cf} {σ : St} {S S' : List (Int × Int × Int × (Int → Int)) × Int} {W : List (Int × (List (Int × Int × Int × (Int → Int)) × Int))} {r : RT} {B : Int} (h : HP tv cf σ S S' W r B) : gI σ 203 0 = S.2 := by obtain ⟨_, _, _, _, a, _⟩ := h; exact a.2
theorem HP.okC {tv : Nat → Int} {cf : Cf} {σ : St} {S S' : List (Int × Int × Int × (Int → Int)) × Int} {W : List (Int × (List (Int × Int × Int × (Int → Int)) × Int))} {r : RT} {B : Int} (hc : CfOK cf) (h : HP tv cf σ S S' W r B) : okC S 0 := h.wf.okC hc ⟨by have := h.nx; omega, h.nx.2⟩
theorem cpM_0 {cf : Cf} (hc : CfOK cf) {S : List (Int × Int × Int × (Int → Int)) × Int} (w : WF cf S) : 0 ≤ cpM S.1 := by
  rw [w.szr]; unfold szR
  have := (w.x.fit hc).2.1
  omega
/-- what a new thing takes -/
def mkR (kd tp : Int) : Int := 480 + (if kd = 3 then 224 + (tp + 7) / 8 * 8 else 0)
noncomputable def mkA (cf : Cf) (S : List (Int × Int × Int × (Int → Int)) × Int) (d x kd tp : Int) : Int := cif (¬ (nmV x ∧ (kd = 3 → 1 ≤ tp ∧ tp ≤ 64))) (-3) (dirA (nds S.1) d (cif (∃ e, e ∈ ens S.1 ∧ e.1 = d ∧ e.2.1 = x) (-5) (cif (capa cf < cpM S.1 + mkR kd tp) (-10) S.2)))
theorem mkA_1 {cf : Cf} {S : List (Int × Int × Int × (Int → Int)) × Int} {d x kd tp : Int} (h : nmV x ∧ (kd = 3 → 1 ≤ tp ∧ tp ≤ 64)) : mkA cf S d x kd tp = dirA (nds S.1) d (cif (∃ e, e ∈ ens S.1 ∧ e.1 = d ∧ e.2.1 = x) (-5) (cif (capa cf < cpM S.1 + mkR kd tp) (-10) S.2)) := cif_n (fun q => q h)
/-- the tape's bytes -/
def tpB (σ : St) (tp : Int) : Int → Int := fun i => if 0 ≤ i ∧ i < tp then gA σ 87 0 i else 0
theorem sp_Hmake {tv : Nat → Int} {cf : Cf} {σ : St} {S S' : List (Int × Int × Int × (Int → Int)) × Int} {W : List (Int × (List (Int × Int × Int × (Int → Int)) × Int))} {r : RT} {B : Int} {d x kd tp : Int} {Q : Int → St → Prop} (hc : CfOK cf) (h : HP tv cf σ S S' W r B) (hC : HC σ S) (hrk : RK σ) (hB : B + 49772 < 1073741000) (hnx : S.2 < 1073739000) (hd : rI d) (hx : rJ x) (hkd : 1 ≤ kd ∧ kd ≤ 3) (htp : gI σ 88 0 = tp)
    (h0 : ∀ τ no, mkA cf S d x kd tp = no → no < 0 → HP tv cf τ S S' W r B → Fr mHs σ τ → RK τ → Q no τ)
    (h1 : ∀ τ S2 p0 S0 W0 k, mkA cf S d x kd tp = S.2 → nmV x → (kd = 3 → 1 ≤ tp ∧ tp ≤ 64) → RWS S2.1 ((S.2, kd, if kd = 3 then tp else 0) :: nds S.1) ((d, x, S.2) :: ens S.1) (ats S.1) (if kd = 3 then (S.2, 0, tp, tpB σ tp) :: pcs S.1 else pcs S.1) → S2.2 = S.2 + 1 → TKo cf σ (144 + (if kd = 3 then 32 + (tp + 7) / 8 * 8 else 0)) S S' W p0 S0 W0 → SFo (p0 + (144 + (if kd = 3 then 32 + (tp + 7) / 8 * 8 else 0))) (W0 ++ [(p0 + (144 + (if kd = 3 then 32 + (tp + 7) / 8 * 8 else 0)), S2)]) k → HP tv cf τ S2 (laS S0 ((W0 ++ [(p0 + (144 + (if kd = 3 then 32 + (tp + 7) / 8 * 8 else 0)), S2)]).take k)) ((W0 ++ [(p0 + (144 + (if kd = 3 then 32 + (tp + 7) / 8 * 8 else 0)), S2)]).drop k) r (B + 49772) → HC τ S2 → gI τ 88 0 = (if kd = 3 then 0 else tp) → gI τ 451 0 ≠ -1 → gI τ 452 0 = p0 + (144 + (if kd = 3 then 32 + (tp + 7) / 8 * 8 else 0)) → Fr (fun f o' => mHo f o' ∨ (f = 88 ∧ o' = 0)) σ τ → RK τ → Q S.2 τ) : wp_House_make cf tv d x kd Q σ := by
  have wf := h.wf
  have wr := wf.wr
  have n1 := h.nx
  have ok := h.okC hc
  have on : gI σ 69 0 = 1 := hC.2.2
  have lv : gI σ 71 0 = cpM S.1 := hC.1
  have cp := wf.2.2.2.2.2.2.2.2.2.2.1
  have cl := capa_le hc
  have hd' := hd
  unfold rI at hd'
  have B51 : ∀ y5, y5 = (if kd = 3 then (1 : Int) else 0) → nmV x → (kd = 3 → 1 ≤ tp ∧ tp ≤ 64) → wp_House_make_b51 cf tv d x kd Q y5 σ := by
    intro y5 e5 nm tk
    have tk' := tk
    have A1 := mkA_1 (cf := cf) (S := S) (d := d) ⟨nm, tk⟩
    unfold wp_House_make_b51
    refine sp_Pdir hc h hd (fun τ1 y y1 y2 y3 y4 y5' H1 f1 k1 _ _ => ⟨fun _ => ?_, fun w => absurd (Int.le_refl 0) w⟩) (fun τ1 no n0 hz f1 k1 _ _ => ⟨fun w => by omega, fun _ => h0 τ1 no (by rw [A1]; exact hz _) n0 (h.frH f1 (fun f o' => mRi_h) k1) (f1.mono (fun f o' => Ri_s)) k1⟩)
    rw [dir_y y4] at A1
    refine sp_Pent hc H1 hd (fun τ2 fs f1' f2' f3' f4' H2 f2 k2 _ _ => ⟨fun _ => ?_, fun w => absurd (Int.le_refl 0) w⟩) (fun τ2 z t z1 z2 z3 z4 z5 z6 H2 f2 k2 _ _ => ⟨fun w => by omega, fun _ => h0 τ2 (-5) (by rw [A1]; exact cif_y ⟨_, z4, rfl, rfl⟩) (by omega) H2 ((f1.mono (fun f o' => Ri_s)).tr (f2.mono (fun f o' => Re_s))) k2⟩)
    have A2 : mkA cf S d x kd tp = cif (capa cf < cpM S.1 + mkR kd tp) (-10) S.2 := by rw [A1, cif_n (fun ⟨e, e1, e2, e3⟩ => f3' e e1 ⟨e2, e3⟩)]
    have g2 : Fr mHs σ τ2 := (f1.mono (fun f o' => Ri_s)).tr (f2.mono (fun f o' => Re_s))
    have lv2 : gI τ2 71 0 = cpM S.1 := by rw [g2.i _ _ (fun q => q.2 (by unfold hK; omega))]; exact lv
    have tp2 : gI τ2 88 0 = tp := by rw [g2.i _ _ (fun q => q.2 (by unfold hK; omega))]; exact htp
    have nd2 : ndI τ2 0 y := y5'.fr f2 (fun g a b q => (mRe_k q).2 ⟨a, b⟩)
    have w7 := (wf.2.2.2.2.2.2.1 y y1 (by omega)).1 y3
    have ye := (w7 : rI4 y.2.2.2 40 = cn1 (y.1 / 4) (ens S.1) ∧ rI4 y.2.2.2 36 = 0)
    obtain ⟨en, ys⟩ := ye
    have enl : rI4 y.2.2.2 40 ≤ 700 ∧ 0 ≤ rI4 y.2.2.2 40 := by
      have a := cn1_le (a := y.1 / 4) (R := ens S.1)
      have b := (wf.x.ft hc).2.2.2.1
      omega
    have dr : 1 ≤ d ∧ d < S.2 := (wr.1.1 _ y4).1
    have K : ∀ t0, t0 = (if kd = 3 then 32 + (tp + 7) / 8 * 8 + 192 else 0) → wp_House_make_b101 cf tv d x kd Q y5 t0 480 τ2 := by
      intro t0 e0
      have t0r : 0 ≤ t0 ∧ t0 ≤ 400 := by
        rw [e0]
        by_cases q : kd = 3
        · have := tk q; rw [if_pos q]; omega
        · rw [if_neg q]; omega
      have mk0 : 480 + t0 = mkR kd tp := by
        unfold mkR; rw [e0]
        by_cases q : kd = 3
        · rw [if_pos q, if_pos q]; omega
        · rw [if_neg q, if_neg q]
      have c0 : 0 ≤ cpM S.1 := cpM_0 hc wf
      unfold wp_House_make_b101
      intro y7 e7
      rw [w32_id (by unfold rI; omega)] at e7
      have lv2' : gI τ2 71 0 = cpM S.1 := lv2
      rw [lv2', w32_id (by unfold rI; omega), cap_e, e7]
      refine ⟨fun hcap σ92 e92 σ93 e93 σ94 e94 => ?_, fun hcap => h0 τ2 (-10) (by rw [A2]; exact cif_y (by omega)) (by omega) H2 g2 k2⟩
      have A3 : mkA cf S d x kd tp = S.2 := by rw [A2, cif_n (by omega)]
      have nx2 : gI τ2 203 0 = S.2 := H2.nxt
      rw [nx2] at e92
      have K2 : ∀ t1, t1 = (if kd = 3 then tp else 0) → wp_House_make_b169 cf tv d x kd Q y5 (480 + t0) t1 σ94 := by
        intro t1 e1
        unfold wp_House_make_b169
        intro σ77 e77 σ78 e78 σ79 e79 σ80 e80
        have q0 : gI σ79 644 0 = rI4 y.2.2.2 40 := by rw [e79, e78, e77, e94, e93, e92]; simp only [gI_sI]; simp; exact nd2.2.2.2.2.1
        rw [q0, w32_id (by unfold rI; omega)] at e80
        have t1r : rI t1 := by
          rw [e1]
          by_cases q : kd = 3
          · have := tk q; rw [if_pos q]; unfold rI; omega
          · rw [if_neg q]; unfold rI; omega
        have k80 : RK σ80 := by
          rw [e80, e79, e78, e77, e94, e93, e92]
          exact ((((((k2.sI (f := 640) (by show rI _; unfold rI; omega)).sI (f := 641) (by show rI _; unfold rI; omega)).sI (f := 642) (by show rI _; unfold rI; omega)).sI (f := 643) (by exact t1r)).sI (f := 644) (by show rI _; unfold rI; omega)).sI (f := 645) (by show rI _; unfold rI; omega)).sI (f := 644) (by show rI _; unfold rI; omega)
        have f80 : Fr (fun f _ => 640 ≤ f ∧ f < 704) τ2 σ80 := by
          rw [e80, e79, e78, e77, e94, e93, e92]
          exact (((((((Fr.rf _ _).sI (by omega)).sI (by omega)).sI (by omega)).sI (by omega)).sI (by omega)).sI (by omega)).sI (by omega)
        have va : gI σ80 640 1 = S.2 ∧ gI σ80 641 1 = kd ∧ gI σ80 642 1 = 1 ∧ gI σ80 643 1 = t1 ∧ gI σ80 644 1 = 0 ∧ gI σ80 645 1 = 0 := by
          rw [e80, e79, e78, e77, e94, e93, e92]; simp only [gI_sI]; simp
        have vb : gI σ80 640 0 = d ∧ gI σ80 641 0 = 1 ∧ gI σ80 642 0 = rI4 y.2.2.2 32 ∧ gI σ80 643 0 = 0 ∧ gI σ80 644 0 = rI4 y.2.2.2 40 + 1 ∧ gI σ80 645 0 = rI4 y.2.2.2 44 := by
          obtain ⟨b1, b2, b3, b4, b5, b6⟩ := nd2
          rw [e80, e79, e78, e77, e94, e93, e92]; simp only [gI_sI]; simp
          exact ⟨by rw [b1]; omega, by rw [b2]; exact y3, b3, by rw [b4]; exact ys, b6⟩
        have g80 : Fr mHs σ σ80 := g2.tr (f80.mono (fun f o' => In_s))
        have sl : gI σ80 91 0 = fs := by rw [f80.i _ _ (by omega)]; exact f4'
        clear e80 e79 e78 e77 e94 e93 e92
        refine sp_Hbegin (S := S) (fun τ3 g3 f3 k3 _ => ?_)
        have n3 : gI τ3 640 1 = S.2 := by rw [f3.i _ _ (by unfold mRow; omega)]; exact va.1
        have s3 : gI τ3 91 0 = fs := by rw [f3.i _ _ (by unfold mRow; omega)]; exact sl
        rw [n3, s3]
        refine sp_gEnt k3 g3 (by omega) (ok.s (by omega)) (by omega) (by unfold rI; omega) hx (by unfold rI; omega) (fun τ4 P1 p1 g4 f4 k4 _ => ?_)
        have f34 := f3.tr f4
        have sE : sEn S d S.2 x fs P1 = (mput (4 * d + 2, hs x + fs, 48, P1) S.1, S.2) := by unfold sEn; rw [if_neg (by omega)]
        rw [sE] at g4
        have ok4 : okC (mput (4 * d + 2, hs x + fs, 48, P1) S.1, S.2) 1 := ok.put (fun q => by have q : (4 * d + 2) % 4 = 0 := q; omega)
        refine sp_gIno (l := 0) (a := S.2) (kd := kd) (lk := 1) (sz := t1) (en := 0) (at' := 0) k4 g4 (by omega) (ok4.s (by omega)) (by rw [f34.i _ _ (by unfold mRow; omega)]; exact va.1) (by rw [f34.i _ _ (by unfold mRow; omega)]; exact va.2.1) (by rw [f34.i _ _ (by unfold mRow; omega)]; exact va.2.2.1) (by rw [f34.i _ _ (by unfold mRow; omega)]; exact va.2.2.2.1) (by rw [f34.i _ _ (by unfold mRow; omega)]; exact va.2.2.2.2.1) (by rw [f34.i _ _ (by unfold mRow; omega)]; exact va.2.2.2.2.2) (by omega) (fun τ5 P2 p2 g5 f5 k5 _ => ?_)
        have f35 := f34.tr f5
        have g5 := g5.1 rfl
        generalize hM2 : mput (4 * S.2, 0, 48, P2) (mput (4 * d + 2, hs x + fs, 48, P1) S.1) = M2
        have sI5 : sIn (mput (4 * d + 2, hs x + fs, 48, P1) S.1, S.2) S.2 kd P2 = (M2, S.2 + 1) := by
          unfold sIn; rw [if_neg (by omega)]
          show (mput (4 * S.2, 0, 48, P2) (mput (4 * d + 2, hs x + fs, 48, P1) S.1), max S.2 (S.2 + 1)) = _
          rw [hM2, show max S.2 (S.2 + 1) = S.2 + 1 by omega]
        rw [sI5] at g5
        have ok5 : okC (M2, S.2 + 1) 2 := by
          have a := (ok4.put (x := (4 * S.2, 0, 48, P2)) (fun _ => rfl)).nx (x := S.2 + 1) (by omega)
          have b : ((mput (4 * S.2, 0, 48, P2) (mput (4 * d + 2, hs x + fs, 48, P1) S.1) : List (Int × Int × Int × (Int → Int))), max S.2 (S.2 + 1)) = (M2, S.2 + 1) := by rw [hM2, show max S.2 (S.2 + 1) = S.2 + 1 by omega]
          rw [← b]; exact a
        -- the directory's own node, and hand
        have K3 : ∀ (τ6 : St) (M3 : List (Int × Int × Int × (Int → Int))) (e6 : Int) (P3 : Int → Int), GR τ6 S e6 (M3, S.2 + 1) → e6 = (if kd = 3 then 96 + (32 + (tp + 7) / 8 * 8) else 96) → okS (M3, S.2 + 1) → (kd = 3 → piF P3 S.2 0 tp (tpB σ tp)) → ((kd = 3 → M3 = mput (4 * S.2 + 1, 0, 32 + (tp + 7) / 8 * 8, P3) M2) ∧ (kd ≠ 3 → M3 = M2)) → Fr (fun f o' => mRow 6 f o' ∨ ((f = 88 ∨ f = 77) ∧ o' = 0)) σ80 τ6 → gI τ6 88 0 = (if kd = 3 then 0 else tp) → RK τ6 → wp_House_make_b274 cf tv d x kd Q (480 + t0) τ6 := by
          intro τ6 M3 e6 P3 g6 e6e ok6 p3 m3 f6 tp6 k6
          have vi : ∀ g, 640 ≤ g → g ≤ 645 → gI τ6 g 0 = gI σ80 g 0 := fun g a b => f6.i _ _ (by unfold mRow; omega)
          have e6r : 0 ≤ e6 ∧ e6 ≤ 192 := by
            rw [e6e]
            by_cases q : kd = 3
            · have := tk q; rw [if_pos q]; omega
            · rw [if_neg q]; omega
          unfold wp_House_make_b274
          refine sp_gIno (l := 1) (a := d) (kd := 1) (lk := rI4 y.2.2.2 32) (sz := 0) (en := rI4 y.2.2.2 40 + 1) (at' := rI4 y.2.2.2 44) k6 g6 (by omega) ok6 (by rw [vi _ (by decide) (by decide)]; exact vb.1) (by rw [vi _ (by decide) (by decide)]; exact vb.2.1) (by rw [vi _ (by decide) (by decide)]; exact vb.2.2.1) (by rw [vi _ (by decide) (by decide)]; exact vb.2.2.2.1) (by rw [vi _ (by decide) (by decide)]; exact vb.2.2.2.2.1) (by rw [vi _ (by decide) (by decide)]; exact vb.2.2.2.2.2) (by omega) (fun τ7 P4 p4 g7 f7 k7 _ => ?_)
          have g7 := g7.2 (by decide)
          generalize hM4 : mput (4 * d, 0, 48, P4) M3 = M4
          have sI7 : sIn (M3, S.2 + 1) d 1 P4 = (M4, S.2 + 1) := by
            unfold sIn; rw [if_neg (by decide)]
            show (mput (4 * d, 0, 48, P4) M3, max (S.2 + 1) (d + 1)) = _
            rw [hM4, show max (S.2 + 1) (d + 1) = S.2 + 1 by omega]
          rw [sI7] at g7
          have tz : (if kd = 3 then 224 + ((if kd = 3 then tp else 0) + 7) / 8 * 8 else 0) = (if kd = 3 then 224 + (tp + 7) / 8 * 8 else 0) := by
            by_cases q : kd = 3
            · rw [if_pos q, if_pos q, if_pos q]
            · rw [if_neg q, if_neg q]
          obtain ⟨L1, L2, L3⟩ := mk_law (cf := cf) (M := S.1) (nx := S.2) (d := d) (x := x) (f := fs) (kd := kd) (sz := (if kd = 3 then tp else 0)) (bs := if kd = 3 then tpB σ tp else fun _ => 0) (P3 := P3) hc wf y1 y2 y3 nm (fun e e1 q => f3' e e1 q) f1' f2' hkd ⟨fun q => if_neg q, fun q => by rw [if_pos q]; exact tk q⟩ p1 (by rw [← e1]; exact p2) (fun q => by rw [if_pos q, if_pos q]; exact p3 q) (fun i q => by
            by_cases v : kd = 3
            · rw [if_pos v] at q ⊢; unfold tpB; rw [if_neg q]
            · rw [if_neg v]) p4 (by rw [tz]; unfold mkR at mk0; omega) hM2.symm ⟨fun q => by rw [if_pos q]; exact m3.1 q, m3.2⟩ hM4.symm
          rw [tz] at L2
          have L3' : RWS M4 ((S.2, kd, if kd = 3 then tp else 0) :: nds S.1) ((d, x, S.2) :: ens S.1) (ats S.1) (if kd = 3 then (S.2, 0, tp, tpB σ tp) :: pcs S.1 else pcs S.1) := by
            by_cases q : kd = 3
            · simp only [if_pos q] at L3 ⊢; exact L3
            · simp only [if_neg q] at L3 ⊢; exact L3
          have fT : Fr (fun f o' => (640 ≤ f ∧ f < 704) ∨ mRow 6 f o' ∨ ((f = 88 ∨ f = 77) ∧ o' = 0)) τ2 τ7 := ((f80.mono (fun f o' q => Or.inl q)).tr (f6.mono (fun f o' q => Or.inr q))).tr (f7.mono (fun f o' q => Or.inr (Or.inl q)))
          have H7 := H2.frH fT (fun f o' q => by
            rcases q with q | q | q
            · unfold mHR; omega
            · exact (R6_s q).1
            · unfold mHR; omega) k7
          have ee : e6 + 48 = 144 + (if kd = 3 then 32 + (tp + 7) / 8 * 8 else 0) := by
            rw [e6e]
            by_cases q : kd = 3
            · rw [if_pos q, if_pos q]; omega
            · rw [if_neg q, if_neg q]; omega
          have hC2 : HC τ2 S := hC.fr g2 (fun g q v => v.2 q)
          refine sp_handS (e := e6 + 48) hc H7 hB g7 (by omega) L1 (by show S.2 + 1 < 1073740000; omega) (fun τ8 p0 S0 W0 k tk sf H8 nn pl f8 k8 _ => ?_)
          intro σ75 e75 σ76 e76
          rw [ee] at tk sf H8 pl
          have f8s : Fr stS τ7 τ8 := f8.mono (fun f o' => st_Hh)
          have l8 : gI τ8 71 0 = cpM S.1 := by rw [f8s.i _ _ (by unfold stS; omega), fT.i _ _ (by unfold mRow; omega)]; exact hC2.1
          have h8 : gI τ8 72 0 = ((nds S.1).length : Int) := by rw [f8s.i _ _ (by unfold stS; omega), fT.i _ _ (by unfold mRow; omega)]; exact hC2.2.1
          have o8 : gI τ8 69 0 = 1 := by rw [f8s.i _ _ (by unfold stS; omega), fT.i _ _ (by unfold mRow; omega)]; exact hC2.2.2
          have n8 : gI τ8 640 1 = S.2 := by rw [f8s.i _ _ (by unfold stS; omega), f7.i _ _ (by unfold mRow; omega), f6.i _ _ (by unfold mRow; omega)]; exact va.1
          have t8 : gI τ8 88 0 = (if kd = 3 then 0 else tp) := by rw [f8s.i _ _ (by unfold stS; omega), f7.i _ _ (by unfold mRow; omega)]; exact tp6
          have nl := (wf.x.ft hc).2.2.1
          have h75 : gI σ75 72 0 = ((nds S.1).length : Int) := by rw [e75]; simp only [gI_sI]; simp; exact h8
          rw [h75, w32_id (by unfold rI; omega)] at e76
          rw [l8, w32_id (by unfold rI; omega)] at e75
          have n9 : gI σ76 640 1 = S.2 := by rw [e76, e75]; simp only [gI_sI]; simp; exact n8
          have k76 : RK σ76 := by rw [e76, e75]; exact (k8.sI (f := 71) (by show rI _; unfold rI; omega)).sI (f := 72) (by show rI _; unfold rI; omega)
          have f76 : Fr (fun f o' => (f = 71 ∨ f = 72) ∧ o' = 0) τ8 σ76 := by rw [e76, e75]; exact ((Fr.rf _ _).sI (by omega)).sI (by omega)
          rw [n9]
          refine h1 σ76 (M4, S.2 + 1) p0 S0 W0 k A3 nm tk' L3' rfl (tk.fr (M := fun f o' => mHs f o' ∨ f = 88) ((g2.mono (fun f o' => Or.inl)).tr (fT.mono (fun f o' q => ?_))) ⟨fun q => ?_, fun q => ?_⟩) sf (H8.frH f76 (fun f o' q => by unfold mHR; omega) k76) ⟨?_, ?_, ?_⟩ ?_ ?_ ?_ ?_ k76
          · rcases q with q | q | q
            · exact Or.inl (In_s q)
            · exact Or.inl (R6_s q)
            · by_cases v : f = 88
              · exact Or.inr v
              · exact Or.inl ⟨by unfold mHR; omega, by unfold hK; omega⟩
          · rcases q with q | q
            · exact (mHs_W q).1 rfl
            · exact absurd q (by decide)
          · rcases q with q | q
            · exact (mHs_W q).2 rfl
            · exact absurd q (by decide)
          · show gI σ76 71 0 = cpM M4
            have e : gI σ76 71 0 = cpM S.1 + (480 + t0) := by rw [e76, e75]; simp only [gI_sI]; simp
            rw [e, L2]; unfold mkR at mk0; omega
          · show gI σ76 72 0 = ((nds M4).length : Int)
            have e : gI σ76 72 0 = ((nds S.1).length : Int) + 1 := by rw [e76]; simp only [gI_sI]; simp
            rw [e, L3'.1.length_eq, List.length_cons]; omega
          · show gI σ76 69 0 = 1
            rw [f76.i _ _ (by omega)]; exact o8
          · rw [f76.i _ _ (by omega)]; exact t8
          · rw [f76.i _ _ (by omega)]; exact nn
          · rw [f76.i _ _ (by omega)]; exact pl
          · refine (((g2.mono (fun f o' q => Or.inl (Or.inl q))).tr (fT.mono (fun f o' q => ?_))).tr (f8s.mono (fun f o' q => Or.inl (Or.inr (Or.inl q))))).tr (f76.mono (fun f o' q => Or.inl (Or.inr (Or.inr q))))
            rcases q with q | q | q
            · exact Or.inl (Or.inl (In_s q))
            · exact Or.inl (Or.inl (R6_s q))
            · by_cases v : f = 88
              · exact Or.inr ⟨v, q.2⟩
              · exact Or.inl (Or.inl ⟨by unfold mHR; omega, by unfold hK; omega⟩)
        have tp5 : gI τ5 88 0 = tp := by rw [f35.i _ _ (by unfold mRow; omega), f80.i _ _ (by omega)]; exact tp2
        by_cases q : kd = 3
        · have e5' : y5 = 1 := by rw [e5, if_pos q]
          have t := tk q
          refine ⟨fun w => by omega, fun _ => ⟨?_, fun σ87 e87 => ?_⟩⟩
          · rw [tp5]; omega
          · rw [tp5] at e87
            have f87 : Fr (fun f o' => f = 77 ∧ o' = 0) τ5 σ87 := by rw [e87]; exact (Fr.rf _ _).sAr ⟨rfl, rfl⟩
            have k87 : RK σ87 := by
              rw [e87]
              refine k5.sAr (f := 77) (fun i => ?_)
              show rB _
              unfold cpy
              by_cases v : 0 ≤ i ∧ i < 0 + tp
              · rw [if_pos v]; exact k5.ab 87 0 _ rfl
              · rw [if_neg v]; exact k5.ab 77 0 _ rfl
            have bb : ∀ i, 0 ≤ i → i < tp → gA σ87 77 0 i = tpB σ tp i := fun i i0 i1 => by
              rw [e87, gA_sAr, if_pos ⟨rfl, rfl⟩]
              unfold cpy tpB
              rw [if_pos (by omega), if_pos (by omega), show 0 + (i - 0) = i by omega]
              have a1 := f35.a 87 0 (by unfold mRow; omega)
              have a2 := g80.a 87 0 (fun q => q.2 (by unfold hK; omega))
              rw [a1, a2]
            have n87 : gI σ87 640 1 = S.2 := by rw [f87.i _ _ (by omega), f35.i _ _ (by unfold mRow; omega)]; exact va.1
            have t87 : gI σ87 88 0 = tp := by rw [f87.i _ _ (by omega)]; exact tp5
            rw [n87, t87]
            refine sp_gPie k87 (g5.fr f87 ⟨by omega, by omega⟩) (by omega) (ok5.s (by omega)) (by omega) (by omega) t bb (fun τ89 P3 p3 g89 f89 k89 _ => ?_)
            intro σ90 e90
            have f90 : Fr (fun f o' => f = 88 ∧ o' = 0) τ89 σ90 := by rw [e90]; exact (Fr.rf _ _).sI ⟨rfl, rfl⟩
            have k90 : RK σ90 := by rw [e90]; exact k89.sI (f := 88) (by show rI _; unfold rI; omega)
            have ok6 : okC (mput (4 * S.2 + 1, 0, 32 + (tp + 7) / 8 * 8, P3) M2, S.2 + 1) 3 := ok5.put (fun q => by have q : (4 * S.2 + 1) % 4 = 0 := q; omega)
            exact K3 σ90 _ _ P3 (g89.fr f90 ⟨by omega, by omega⟩) (by rw [if_pos q]; omega) (ok6.s (by omega)) (fun _ => p3) ⟨fun _ => rfl, fun w => absurd q w⟩ ((((f35.mono (fun f o' => Or.inl)).tr (f87.mono (fun f o' q => Or.inr ⟨Or.inr q.1, q.2⟩))).tr (f89.mono (fun f o' => Or.inl))).tr (f90.mono (fun f o' q => Or.inr ⟨Or.inl q.1, q.2⟩))) (by rw [e90, if_pos q]; simp only [gI_sI]; simp) k90
        · have e5' : y5 = 0 := by rw [e5, if_neg q]
          exact ⟨fun _ => K3 τ5 M2 96 (fun _ => 0) g5 (by rw [if_neg q]) (ok5.s (by omega)) (fun w => absurd w q) ⟨fun w => absurd w q, fun _ => rfl⟩ (f35.mono (fun f o' => Or.inl)) (by rw [if_neg q]; exact tp5) k5, fun w => absurd e5' w⟩
      by_cases q : kd = 3
      · have e5' : y5 = 1 := by rw [e5, if_pos q]
        refine ⟨fun w => by omega, fun _ => ?_⟩
        have : gI σ94 88 0 = tp := by rw [e94, e93, e92]; simp only [gI_sI]; simp; exact tp2
        rw [this]
        exact K2 tp (by rw [if_pos q])
      · have e5' : y5 = 0 := by rw [e5, if_neg q]
        exact ⟨fun _ => K2 0 (by rw [if_neg q]), fun w => absurd e5' w⟩
    by_cases q : kd = 3
    · have e5' : y5 = 1 := by rw [e5, if_pos q]
      have t := tk q
      refine ⟨fun w => by omega, fun _ => ?_⟩
      rw [show gI τ2 88 0 = tp from tp2]
      unfold wp_House_itemOf wp_House_eights
      refine ⟨fun _ => fun _ _ _ _ => ?_, fun w => by omega⟩
      rw [iand_m8 (by omega) (by omega), w32_id (x := 32 + _) (by unfold rI; omega), w32_id (by unfold rI; omega)]
      exact K _ (by rw [if_pos q])
    · have e5' : y5 = 0 := by rw [e5, if_neg q]
      exact ⟨fun _ => K 0 (by rw [if_neg q]), fun w => absurd e5' w⟩
  unfold wp_House_make
  refine ⟨fun _ y5 e5 => ?_, fun w => ?_⟩
  · refine sp_HisName (fun nm _ _ => ⟨fun w => absurd w (by decide), fun _ => ⟨fun e => B51 y5 e5 nm (fun q => by rw [if_pos q] at e5; omega), fun e => ?_⟩⟩) (fun nm _ _ => ⟨fun _ => h0 σ (-3) (cif_y (fun q => nm q.1)) (by omega) h (Fr.rf _ _) hrk, fun w => absurd rfl w⟩)
    rw [show gI σ 88 0 = tp from htp]
    refine sp_isIn (fun tk _ _ => ⟨fun _ => B51 y5 e5 nm (fun _ => tk), fun w => absurd w (by decide)⟩) (fun tk _ _ => ⟨fun w => absurd rfl w, fun _ => h0 σ (-3) (cif_y (fun q => tk (q.2 ?_))) (by omega) h (Fr.rf _ _) hrk⟩)
    by_cases q : kd = 3
    · exact q
    · rw [if_neg q] at e5; exact absurd e5 e
  · have w : gI σ 69 0 = 0 := w
    omega
