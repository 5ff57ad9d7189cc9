/-! a new store: format -/
theorem emp_le {cf : Cf} (u x : Int → Int) : emp cf u ≤ rmy cf u x := by
  unfold emp rmy
  exact Int.ofNat_le.mpr (cnt_le _ (fun i i0 i1 q => ⟨q.1, Or.inl q.2⟩))
theorem emp_one {cf : Cf} {u : Int → Int} {n : Int} (hc : CfOK cf) (h : ∀ k, 0 ≤ k → k < cf.1 - 6 → k ≠ n → u k = 0) : cf.1 - 10 - cf.2.2 - 1 ≤ emp cf u := by
  have hR : 0 ≤ cf.2.2 ∧ cf.2.2 ≤ 4 := hc.2.2
  have hBl : 24 ≤ cf.1 ∧ cf.1 ≤ 64 := hc.1
  have a := cnt_ge (a := 4 + cf.2.2) (by omega) (cf.1 - 6).toNat
  have b := cnt_one (p := fun k => 4 + cf.2.2 ≤ k) (q := fun k => 4 + cf.2.2 ≤ k ∧ u k = 0) (k := n) (cf.1 - 6).toNat (fun i i0 i1 ne q => ⟨q, h i i0 (by omega) ne⟩)
  unfold emp
  omega
/-- a store that was never used -/
def FM0 (cf : Cf) (σ : St) : Prop := ((∀ b, 0 ≤ b → b < cf.1 → gA σ 133 0 b = 0 ∧ gA σ 134 0 b = 0) ∧ gI σ 136 0 < 0) ∧ (gI σ 387 0 < 0 ∧ gI σ 386 0 = 0 ∧ PO σ 0) ∧ (∀ w, isW 0 w → gI σ 451 w = -1) ∧ (gI σ 214 0 = -1 ∧ gI σ 205 0 = 0 ∧ gI σ 213 0 = 0 ∧ gI σ 211 0 = 0 ∧ gI σ 212 0 = 0 ∧ gI σ 202 0 = 0 ∧ gI σ 203 0 = 2)
/-- what is changed up to the first node -/
def mF0 (f : Nat) (o' : Int) : Prop := mBl 0 f o' ∨ ((f = 323 ∨ f = 324 ∨ f = 325) ∧ o' = 0) ∨ mIc 0 f o' ∨ mRow 2 f o' ∨ (f = 218 ∧ o' = 0)
def mF1 (f : Nat) (o' : Int) : Prop := mF0 f o' ∨ (f = 202 ∧ o' = 0)
def mF2 (f : Nat) (o' : Int) : Prop := mF1 f o' ∨ mSf 0 f o' ∨ ((f = 451 ∨ f = 452) ∧ o' = 2) ∨ mWr 2 f o' ∨ (f = 208 ∧ o' = 0)
def mFm (f : Nat) (o' : Int) : Prop := mF2 f o' ∨ mCw f o'
theorem hiN_ext {g h : Int → Int} {a n : Int} (hn : 48 ≤ n) (e : ∀ p, a ≤ p → p < a + n → h p = g p) : hiN h a = hiN g a := by
  unfold hiN
  rw [e _ (by omega) (by omega), rI4_at e (by omega : (0 : Int) ≤ 24) (by omega)]
/-- what is told of raw numbers when none is written -/
def RR0 (cf : Cf) (r : RT) : Prop := ∀ n, 4 ≤ n → n < 4 + cf.2.2 → (∃ pg, r (-n) (-1) pg) ∧ ∀ w pg, 0 ≤ w → ¬ r n w pg
/-- up to the first node, in the mover's number k -/
theorem sp_fmt1 {tv : Nat → Int} {cf : Cf} {σ : St} {r : RT} {Q : St → Prop} (hc : CfOK cf) (hrk : RK σ) (h : FM0 cf σ) (hr0 : RR0 cf r)
    (hQ : ∀ τ t g, DJ tv cf τ 0 (fun _ => -1) (fun _ _ => 0) (SpC cf 0 0 r) 420 → SA tv cf τ (fun _ => -1) (fun _ _ => 0) [] → krt τ 0 = [t] → gI τ 584 t = 1 → gI τ 390 0 = 0 → (∀ k, 0 ≤ k → k < cf.1 - 6 → gA τ 323 0 k = 0 ∧ gA τ 324 0 k = 0 ∧ gA τ 325 0 k = 0) → gA τ 512 2 = nCls tv (rtR g) 0 1 1 48 → gI τ 514 2 = 48 → gI τ 218 0 = 0 → gI τ 202 0 = 1 → Fr mF1 σ τ → RK τ →
      wp_Space_fetch cf tv 0 (fun r_52 σ_53 => rI r_52 → RK σ_53 →
        wp_Writer_open cf tv 2 r_52 (fun σ_55 => RK σ_55 →
        wp_Writer_put cf tv 2 512 2 0 (gI σ_55 514 2) (fun r_56 σ_57 => rI r_56 → RK σ_57 →
        wp_House_keyOf cf tv 1 0 (fun r_58 σ_59 => rJ r_58 → RK σ_59 →
        wp_Index_put cf tv 0 r_58 0 (gI σ_59 451 2) r_56 (gI σ_59 514 2) (fun σ_61 => RK σ_61 →
        ∀ σ_62, σ_62 = sI σ_61 208 0 2 →
        wp_Store_commitAll cf tv 0 (fun σ_64 => RK σ_64 →
        Q σ_64) σ_62) σ_59) σ_57) σ_55) σ_53) τ) : wp_Store_format cf tv 0 Q σ := by
  have hR : 0 ≤ cf.2.2 ∧ cf.2.2 ≤ 4 := hc.2.2
  have hBl : 24 ≤ cf.1 ∧ cf.1 ≤ 64 := hc.1
  obtain ⟨⟨h1, h2⟩, h3, h4, h5, h6⟩ := h
  unfold wp_Store_format
  rw [Int.zero_add]
  refine sp_bformat (Sp := SpC cf 0 0 r) hc hrk (fun b b0 b1 => (h1 b b0 b1).1) (fun b b0 b1 => (h1 b b0 b1).2) h2 (fun τ1 lp H1 f1 k1 _ => ?_)
  have D1 : DJ tv cf τ1 0 (fun _ => -1) (fun _ _ => 0) (SpC cf 0 0 r) 420 := by
    refine ⟨64, ⟨⟨lp, H1⟩, fun n n0 n1 => ?_⟩, ?_, by omega⟩
    · obtain ⟨⟨pg, r1⟩, r2⟩ := hr0 n n0 n1
      have hR0 : 0 ≤ cf.2.2 := hc.2.2.1
      refine ⟨⟨pg, fun k k0 k1 => absurd (show k < (-1 : Int) from k1) (by omega), ⟨fun a b => by omega, fun a b => ⟨pg, fun k k0 k1 => absurd (show k < (-1 : Int) from k1) (by omega), r1⟩, fun a => by omega⟩⟩, fun _ w pg' w0 q => ?_⟩
      obtain ⟨p', p1, p2⟩ := q.2.1 (Or.inr n0) n1
      exact r2 w p' w0 p2
    have a : pnd τ1 ≤ 6 := by unfold pnd; split <;> omega
    have b : unc cf (fun _ => -1) ≤ ((cf.1 - 6).toNat : Int) := Int.ofNat_le.mpr (cnt_lt _)
    omega
  refine sp_spclear hc (fun τ2 u2 f2 k2 => ?_)
  have po : PO τ2 0 := by
    obtain ⟨p1, p2⟩ := h3.2.2
    have e1 : gI τ2 386 0 = gI σ 386 0 := (f2.i _ _ (fun q => by omega)).trans (f1.i _ _ (fun q => by unfold mBl at q; omega))
    have e2 : gA τ2 385 0 = gA σ 385 0 := (f2.a _ _ (fun q => by omega)).trans (f1.a _ _ (fun q => by unfold mBl at q; omega))
    unfold PO
    rw [e1, e2]
    exact ⟨p1, p2⟩
  have rt : gI τ2 387 0 < 0 ∧ gI τ2 386 0 = 0 := by
    rw [f2.i _ _ (fun q => by omega), f2.i _ _ (fun q => by omega), f1.i _ _ (fun q => by unfold mBl at q; omega), f1.i _ _ (fun q => by unfold mBl at q; omega)]
    exact ⟨h3.1, h3.2.1⟩
  refine sp_iclear2 (Or.inl rfl) (Or.inl ⟨rt.1, rt.2, po⟩) (fun τ3 t I3 o3 kr3 rt3 ft3 lv3 ct3 f3 k3 τ4 e4 => ?_)
  have f4 : Fr (fun f o' => f = 218 ∧ o' = 0) τ3 τ4 := by rw [e4]; exact (Fr.rf _ _).sI ⟨rfl, rfl⟩
  have k4 : RK τ4 := by rw [e4]; exact k3.sI (by show rI 0; unfold rI; omega)
  have oc4 : gI τ4 218 0 = 0 := by rw [e4, gI_sI1]
  refine sp_rclear (fun τ5 a5 n5 b5 f5 k5 => ?_)
  refine sp_rbegin k5 n5 (by omega) (by omega) (by show (0 : Int) + 48 ≤ rowL 2; have := rowL_r 2; omega) (fun τ6 a6 n6 b6 f6 k6 => ?_)
  refine sp_rput a6 (by omega) (by omega) (by have := rowL_r 2; omega) (fun τ7 b7 f7 k7 _ => ?_)
  refine sp_rput (r := 2) (a := 0) (k := 4) ((f7.i _ _ (fun q => by unfold mRb at q; omega)).trans a6) (by omega) (by omega) (by have := rowL_r 2; omega) (fun τ8 b8' f8 k8 _ => ?_)
  have f5' : Fr (mRow 2) τ4 τ5 := f5.mono (fun f o' q => ⟨Or.inr q.1, q.2⟩)
  have f7' : Fr (mRow 2) τ6 τ7 := f7.mono (fun f o' q => ⟨Or.inl q.1, q.2⟩)
  have f8' : Fr (mRow 2) τ7 τ8 := f8.mono (fun f o' q => ⟨Or.inl q.1, q.2⟩)
  have fr : Fr (mRow 2) τ4 τ8 := ((f5'.tr f6).tr f7').tr f8'
  have fs : Fr mF0 σ τ8 := ((((f1.mono (fun f o' q => Or.inl q)).tr (f2.mono (fun f o' q => Or.inr (Or.inl q)))).tr (f3.mono (fun f o' q => Or.inr (Or.inr (Or.inl q))))).tr (f4.mono (fun f o' q => Or.inr (Or.inr (Or.inr (Or.inr q)))))).tr (fr.mono (fun f o' q => Or.inr (Or.inr (Or.inr (Or.inl q)))))
  have ser8 : gI τ8 202 0 = 0 := by
    rw [fs.i _ _ (fun q => by unfold mF0 mBl mIc mRow at q; omega)]
    exact h6.2.2.2.2.1
  refine sp_serial ser8 (by omega) (fun τ9 s9 f9 _ k9 => ?_)
  have g8 : gA τ8 512 2 = rtR (gA τ5 512 2) := by rw [b8', b7, b6]; rfl
  have g9 : gA τ9 512 2 = rtR (gA τ5 512 2) := by rw [f9.a _ _ (fun q => by omega)]; exact g8
  have a9 : gI τ9 513 2 = 0 := by
    rw [f9.i _ _ (fun q => by omega), f8.i _ _ (fun q => by unfold mRb at q; omega), f7.i _ _ (fun q => by unfold mRb at q; omega)]
    exact a6
  rw [Int.zero_add]
  refine sp_rclose (n := 48) a9 (by omega) (by rw [g9]; exact rtR_v.1) (by omega) (by have := rowL_r 2; omega) (fun τx bx fx kx _ => ?_)
  have f9x : Fr (fun f o' => mRow 2 f o' ∨ (f = 202 ∧ o' = 0)) τ8 τx := (f9.mono (fun f o' q => Or.inr q)).tr (fx.mono (fun f o' q => Or.inl ⟨Or.inl q.1, q.2⟩))
  have f4x : Fr (fun f o' => mRow 2 f o' ∨ ((f = 202 ∨ f = 218) ∧ o' = 0)) τ3 τx := ((f4.mono (fun f o' q => Or.inr ⟨Or.inr q.1, q.2⟩)).tr (fr.mono (fun f o' q => Or.inl q))).tr (f9x.mono (fun f o' q => by
    rcases q with q | q
    · exact Or.inl q
    · exact Or.inr ⟨Or.inl q.1, q.2⟩))
  have f13 : Fr mF0 σ τ3 := ((f1.mono (fun f o' q => Or.inl q)).tr (f2.mono (fun f o' q => Or.inr (Or.inl q)))).tr (f3.mono (fun f o' q => Or.inr (Or.inr (Or.inl q))))
  have D3 : DJ tv cf τ3 0 (fun _ => -1) (fun _ _ => 0) (SpC cf 0 0 r) 420 := (D1.fr f2 (fun f o' a q => by unfold rBI at a; omega)).fr f3 (fun f o' a q => by unfold rBI at a; unfold mIc at q; omega)
  have Dx : DJ tv cf τx 0 (fun _ => -1) (fun _ _ => 0) (SpC cf 0 0 r) 420 := D3.fr f4x (fun f o' a q => by unfold rBI at a; unfold mRow at q; omega)
  have u3 : ∀ k, 0 ≤ k → k < cf.1 - 6 → gA τ3 323 0 k = 0 ∧ gA τ3 324 0 k = 0 ∧ gA τ3 325 0 k = 0 := fun k ka kb => by
    rw [f3.a _ _ (fun q => by unfold mIc at q; omega), f3.a _ _ (fun q => by unfold mIc at q; omega), f3.a _ _ (fun q => by unfold mIc at q; omega)]
    exact u2 k ka kb
  have S3 : SA tv cf τ3 (fun _ => -1) (fun _ _ => 0) [] := SA.nil hc k3 (fun w hw => by
    rw [f13.i _ _ (fun q => by unfold isW at hw; unfold mF0 mBl mIc mRow at q; omega)]
    exact h4 w hw) I3 o3 kr3 ft3 u3 (by
    rw [f13.i _ _ (fun q => by unfold mF0 mBl mIc mRow at q; omega)]
    exact h5)
  have Sx := S3.fr f4x (fun f o' a q => by unfold mSA isW at a; unfold mRow at q; omega) kx
  have krx := krt_fr (o := 0) f4x (fun f x a b q => by unfold mRow at q; omega) (fun q => by unfold mRow at q; omega)
  refine hQ τx t (gA τ5 512 2) Dx Sx (krx.1.trans kr3) ((krx.2 t).2.1.trans ft3) ((f4x.i _ _ (fun q => by unfold mRow at q; omega)).trans o3) (fun k ka kb => ?_) (by rw [bx, g9]) ?_ ?_ ?_ ((fs.mono (fun f o' q => Or.inl q)).tr (f9x.mono (fun f o' q => by
    rcases q with q | q
    · exact Or.inl (Or.inr (Or.inr (Or.inr (Or.inl q))))
    · exact Or.inr q))) kx
  · rw [f4x.a _ _ (fun q => by unfold mRow at q; omega), f4x.a _ _ (fun q => by unfold mRow at q; omega), f4x.a _ _ (fun q => by unfold mRow at q; omega)]
    exact u3 k ka kb
  · rw [fx.i _ _ (fun q => by unfold mRb at q; omega), f9.i _ _ (fun q => by omega), f8.i _ _ (fun q => by unfold mRb at q; omega), f7.i _ _ (fun q => by unfold mRb at q; omega)]
    exact n6
  · rw [f9x.i _ _ (fun q => by unfold mRow at q; omega), fr.i _ _ (fun q => by unfold mRow at q; omega)]
    exact oc4
  · rw [fx.i _ _ (fun q => by unfold mRb at q; omega)]
    exact s9
