/-! a page costs nothing but where a number begins to be carried, or where a write fails -/
def pnd (σ : St) : Int := if 0 ≤ gI σ 136 0 then 6 else 0
theorem sp_bwrite2 {tv : Nat → Int} {cf : Cf} {σ : St} {o : Int} {lp : Int → Int → Int} {vw : Int → Int} {vp : Int → Int → Int → Int} {Sp : Int → Int → (Int → Int → Int) → Prop} {T : Int} (hc : CfOK cf) (hrk : RK σ) {n k a q : Int} {f : Nat} {Q : St → Prop} (h : BI tv cf σ o lp vw vp Sp T NoE) (hn : 0 ≤ n ∧ n < cf.1 - 6) (hk : k = max 0 (vw n)) (hkP : 2 + k < cf.2.1) (hf : f < 130 ∨ 136 < f) (hty : aty f = 1) (ha : 0 ≤ a) (hl : a + 128 ≤ aln cf f q) (hfm : ¬ mBw o f q) (hT : T + 12 < 1073741824)
    (hQ : ∀ τ lp' T', BI tv cf τ o lp' (upF vw n (k + 1)) (upV vp n (upP (vp n) k (fun i => gA σ f q (a + i)))) Sp T' NoE → T' + pnd τ ≤ T + pnd σ + (if vw n = -1 then 6 else 0) → Fr (mBw o) σ τ → RK τ → Q τ) : wp_Blocks_write cf tv o n k f q a Q σ := by
  have hP : 8 ≤ cf.2.1 ∧ cf.2.1 ≤ 32 := hc.2.1
  have k0 : 0 ≤ k := by omega
  generalize hX : T + pnd σ + (if vw n = -1 then 6 else 0) = X at hQ
  have hX12 : X ≤ T + 12 := by rw [← hX]; unfold pnd; split <;> split <;> omega
  have main : ∀ σ0 lp0 T0, BI tv cf σ0 o lp0 (upF vw n k) vp Sp T0 NoE → T0 + pnd σ0 ≤ X → gA σ0 258 o n ≠ -1 → gI σ0 265 o ≠ n → RK σ0 → Fr (mBw o) σ σ0 → lQ0 (wp_Blocks_write_L22 cf tv o n k f q a Q) σ0 := by
    intro σ0 lp0 T0 H0 t0 b0 m0 r0 f0
    refine lQ0_rule (fun τ => ∃ lp1 T1, BI tv cf τ o lp1 (upF vw n k) vp Sp T1 NoE ∧ gA τ 258 o n ≠ -1 ∧ gI τ 265 o ≠ n ∧ RK τ ∧ Fr (mBw o) σ τ ∧ T1 + pnd τ ≤ X) (fun τ => if 0 ≤ gI τ 136 0 then 1 else 0) ?_ σ0 ⟨lp0, T0, H0, b0, m0, r0, f0, t0⟩
    intro K τ hI hK
    obtain ⟨lp1, T1, H, b1, m1, r1, f1, t1⟩ := hI
    have vk : upF vw n k n = k := by unfold upF; rw [if_pos rfl]
    have bn : (0 ≤ gA τ 258 o n ∧ gA τ 258 o n < cf.1) ∧ gA τ 259 o (gA τ 258 o n) = n := by
      rcases H.2.2.2.1 n hn.1 hn.2 with z | z
      · exact absurd z b1
      · exact z
    have bv := (H.2.2.2.2.2.2.2.1 n hn.1 hn.2).2 b1
    rw [vk] at bv
    have bf := H.2.2.2.2.2.2.2.2.1
    have wsH := H.ws (k := k) hn (by omega)
    unfold wp_Blocks_write_L22
    refine ⟨hn, ?_⟩
    rw [w32_id (by unfold rI; omega)]
    refine sp_flash_write hc H.1 r1 bn.1 (by omega) hkP hf hty ha hl (fun r υ x rz hF ew q0 q1 q2 fw _ rk => ?_)
    have nv : ∀ f o', (f = 134 ∨ 136 < f) → ¬ mFw f o' := fun f o' a q => by unfold mFw at q; omega
    have eb := fw.a 134 0 (nv _ _ (by decide))
    have ebo := fw.a 258 o (nv _ _ (by decide))
    have em := fw.i 265 o (nv _ _ (by decide))
    have ec := fw.a 259 o (nv _ _ (by decide))
    have hbk : brk υ cf.1.toNat = brk τ cf.1.toNat := by unfold brk; rw [eb]
    have el := fl_fr fw (fun q => by unfold mFw at q; omega)
    have bfu : BF cf υ := by
      unfold BF at bf ⊢
      rw [hbk, el]
      by_cases z : 0 ≤ gI υ 136 0
      · have : r = 1 := by
          unfold rZ at rz
          by_cases e : r = 0
          · have := q0 e; omega
          · omega
        rw [if_pos ((q1 this).mp z)] at bf; rw [if_pos z]; exact bf
      · rw [if_neg z]; omega
    have A := H.app hc hn rfl b1 m1 vk hkP hF ew fw bfu
    have uu : ∀ v w, upF (upF vw n v) n w = upF vw n w := fun v w => by
      funext j; unfold upF
      by_cases e : j = n
      · rw [if_pos e, if_pos e]
      · rw [if_neg e, if_neg e, if_neg e]
    rw [uu] at A
    have fu : Fr (mBw o) σ υ := f1.tr (fw.mono (fun f o' q => by unfold mFw at q; unfold mBw; omega))
    refine ⟨fun hr => ?_, fun hr => ⟨hn, fun y5 h5 => ?_⟩⟩
    · have r1' : r = 1 := by unfold rZ at rz; omega
      have pe : pnd υ = pnd τ := by
        unfold pnd
        by_cases z : 0 ≤ gI υ 136 0
        · rw [if_pos z, if_pos ((q1 r1').mp z)]
        · rw [if_neg z, if_neg (fun y => z ((q1 r1').mpr y))]
      refine hQ υ _ T1 (A.vpx ?_) (by rw [pe]; exact t1) fu rk
      intro n' n0 n1 j j0 j1 i i0 i1
      unfold upV
      by_cases e : n' = n
      · rw [if_pos e, if_pos e]
        unfold upP
        by_cases e2 : j = k
        · rw [if_pos e2, if_pos e2, q2 r1' i i0 i1, f1.a f q hfm]
        · rw [if_neg e2, if_neg e2]
      · rw [if_neg e, if_neg e]
    · obtain ⟨z1, z2⟩ := q0 hr
      have tt : T1 + 6 ≤ X := by unfold pnd at t1; rw [if_pos z1] at t1; exact t1
      have b4 : brk υ cf.1.toNat + 1 ≤ fl υ := by unfold BF at bf; rw [if_pos z1] at bf; rw [hbk, el]; exact bf
      have h5' : y5 = gA τ 258 o n := by rw [h5, ebo]
      have ln := upP_ne hc (lp := lp1) (b := gA τ 258 o n) (x := x) (p0 := 2 + k) ⟨by omega, by omega⟩
      have wsU : WS tv cf υ o (upP lp1 (gA τ 258 o n * cf.2.1 + (2 + k)) x) Sp n (upV vp n (upP (vp n) k x) n) k := by
        intro y y0 y1 x1 x2 x3 x4
        have ne : y ≠ gA τ 258 o n := fun e => by rw [ec, e] at x1; omega
        have wy : gA υ 133 0 y = gA τ 133 0 y := by rw [ew]; unfold upF; rw [if_neg ne]
        have w' := (H.1 y y0 y1).1
        rw [ec] at x1
        rw [(whB_x hc H.1 ln ne ⟨y0, y1⟩ wy)] at x3
        rw [wy] at x2 ⊢
        rw [ln y 1 ne (by omega) (by omega)] at x4 ⊢
        have lb : ∀ j, 0 ≤ j → j < gA τ 133 0 y - 2 → upP lp1 (gA τ 258 o n * cf.2.1 + (2 + k)) x (y * cf.2.1 + (2 + j)) = lp1 (y * cf.2.1 + (2 + j)) := fun j j0 j1 => ln y (2 + j) ne (by omega) (by omega)
        rcases wsH y y0 y1 x1 x2 x3 x4 with ⟨g, g1, g2⟩ | ⟨g1, g2⟩
        · exact Or.inl ⟨g, g1, fun j j0 j1 => by rw [lb j j0 j1]; exact g2 j j0 j1⟩
        · refine Or.inr ⟨g1, fun j j0 j1 i i0 i1 => ?_⟩
          rw [lb j j0 j1, g2 j j0 j1 i i0 i1]
          unfold upV upP; rw [if_pos rfl, if_neg (by omega)]
      refine sp_carry hc rk A hn (by rw [em]; exact m1) ⟨k0, by omega⟩ (Or.inr ⟨by rw [h5, ebo], by unfold upF; rw [if_pos rfl]; omega⟩) wsU (by omega) (fun υ2 lp2 H2 c1 c2 c3 c4 r3 _ => ?_)
      rw [ebo] at H2 c1 c2
      rw [uu] at H2
      obtain ⟨c5, c6⟩ := c3 z2
      rw [h5']
      refine sp_loseOld hc H2 bn.1 hn.1 c1 (c2 b1) c5 (by unfold brk at b4 ⊢; rw [c6, fl_fr c4 (fun q => by unfold mCa mSt at q; omega)]; exact b4) (fun υ3 H3 fi f3 rk3 => ?_)
      have nn : ∀ f o', f ≠ 259 → f ≠ 134 → ¬ ((f = 259 ∧ o' = o) ∨ (f = 134 ∧ o' = 0)) := fun f o' x y q => by omega
      have mv3 : gI υ3 265 o ≠ n := by
        rw [f3.i _ _ (nn 265 o (by decide) (by decide)), c4.i 265 o (fun q => by unfold mCa mSt at q; omega), em]
        exact m1
      have bo3 : gA υ3 258 o n ≠ -1 := by
        intro z
        have := (H3.2.2.2.2.2.2.2.1 n hn.1 hn.2).1 z
        rw [vk] at this; omega
      refine hK υ3 ⟨lp2, T1 + 6, H3.vpx ?_, bo3, mv3, rk3, ?_, by unfold pnd; rw [if_neg (by omega)]; omega⟩ (by rw [if_neg (by omega), if_pos z1]; omega)
      · intro n' n0 n1 j j0 j1 i i0 i1
        unfold upV
        by_cases e : n' = n
        · rw [if_pos e, e]
          rw [e, vk] at j1
          unfold upP; rw [if_neg (by omega)]
        · rw [if_neg e]
      · refine (fu.tr (c4.mono ?_)).tr (f3.mono ?_)
        · intro f o' q; unfold mCa mSt at q; unfold mBw; omega
        · intro f o' q; unfold mBw; omega
  unfold wp_Blocks_write
  refine sp_stopMove hc hrk h hn.1 (fun σ1 H m f1 r1 _ => ⟨hn, fun z => ?_, fun z => ?_⟩)
  · have v := (H.2.2.2.2.2.2.2.1 n hn.1 hn.2).2 z
    have w2 : 2 ≤ gA σ1 133 0 (gA σ1 258 o n) := by
      rcases H.2.2.2.1 n hn.1 hn.2 with y | y
      · exact absurd y z
      · exact ((H.2.2.1 _ y.1.1 y.1.2 (fun z => z)).2.2.2.2 (by omega)).2.2.1
    have e : upF vw n k = vw := by
      funext j; unfold upF
      by_cases e : j = n
      · rw [if_pos e, e]; omega
      · rw [if_neg e]
    refine main σ1 lp T ?_ ?_ z m r1 (f1.mono (fun f o' q => by unfold mMv at q; unfold mBw; omega))
    · rw [e]; exact H
    · unfold pnd at hX ⊢
      rw [f1.i 136 0 (fun q => by unfold mMv at q; omega), ← hX]
      split <;> split <;> omega
  · have v := (H.2.2.2.2.2.2.2.1 n hn.1 hn.2).1 z
    refine sp_carry hc r1 H hn m ⟨by omega, by omega⟩ (Or.inl rfl) (H.ws hn (by omega)) (by omega) (fun υ2 lp2 H2 c1 c2 c3 c4 r3 _ => ?_)
    rw [z] at H2 c1
    have ek : 0 = k := by omega
    rw [ek] at H2
    refine main υ2 lp2 (T + 6) (H2.out (by omega)) ?_ c1 ?_ r3 ((f1.mono (fun f o' q => by unfold mMv at q; unfold mBw; omega)).tr (c4.mono ?_))
    · have e1 : gI σ1 136 0 = gI σ 136 0 := f1.i _ _ (fun q => by unfold mMv at q; omega)
      rw [if_pos v] at hX
      unfold pnd at hX ⊢
      by_cases z2 : 0 ≤ gI σ 136 0
      · rw [if_pos z2] at hX; split <;> omega
      · rw [if_neg z2] at hX; rw [if_neg (fun y => by have := (c3 (by omega)).1; omega)]; omega
    · rw [c4.i 265 o (fun q => by unfold mCa mSt at q; omega)]; exact m
    · intro f o' q; unfold mCa mSt at q; unfold mBw; omega
