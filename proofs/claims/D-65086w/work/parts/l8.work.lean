/-! Store.work -/
theorem sp_jeraseOne {tv : Nat → Int} {cf : Cf} {σ : St} {o : Int} {dk : Int → Int} {db : Int → Int → Int} {Sp : Int → Int → (Int → Int → Int) → Prop} {B : Int} {Q : Int → St → Prop} (hc : CfOK cf) (hrk : RK σ) (h : DJ tv cf σ o dk db Sp B) (hB : B + 7 < 1073741000) (h0 : Q 0 σ) (hQ : ∀ τ, DJ tv cf τ o dk db Sp (B + 7) → Fr (mSt o) σ τ → RK τ → Q 1 τ) : wp_Blocks_eraseOne cf tv o Q σ := by
  obtain ⟨T, ⟨⟨lp, hb⟩, hw⟩, hT, -⟩ := h
  have p := pnd_r σ
  have u := unc_r cf dk
  refine sp_eraseOne hc hrk hb (by omega) (fun _ => h0) (fun τ lp' b h1 _ _ _ _ _ _ fr k => hQ τ ⟨T + 1, ⟨⟨lp', h1⟩, hw⟩, ?_, hB⟩ fr k)
  have := pnd_r τ
  omega
theorem sp_jmoveStep {tv : Nat → Int} {cf : Cf} {σ : St} {o : Int} {dk : Int → Int} {db : Int → Int → Int} {Sp : Int → Int → (Int → Int → Int) → Prop} {B : Int} {Q : Int → St → Prop} (hc : CfOK cf) (hrk : RK σ) (h : DJ tv cf σ o dk db Sp B) (hB : B + 7 < 1073741000) (hQ : ∀ r τ, DJ tv cf τ o dk db Sp (B + 7) → Fr (mBl o) σ τ → RK τ → rZ r → Q r τ) : wp_Blocks_moveStep cf tv o Q σ := by
  obtain ⟨T, ⟨⟨lp, hb⟩, hw⟩, hT, -⟩ := h
  have p := pnd_r σ
  have u := unc_r cf dk
  refine sp_moveStep hc hb (by omega) hrk (fun r τ lp' h1 fr k rz => hQ r τ ⟨T + 1, ⟨⟨lp', h1⟩, hw⟩, ?_, hB⟩ fr k rz)
  have := pnd_r τ
  omega
/-- nothing waits: the journal's head is at a page's end -/
theorem PR.flu {tv : Nat → Int} {cf : Cf} {σ : St} {dk : Int → Int} {db : Int → Int → Int} {L : List (Int × Int × Int × Int × Int × Int)} {S' : List (Int × Int × Int × (Int → Int)) × Int} {W : List (Int × (List (Int × Int × Int × (Int → Int)) × Int))} {r : RT} {B : Int} (h : PR tv cf σ dk db L S' W r B) (hw : gI σ 205 0 = 0) : flu σ 0 ∧ W = [] ∧ S' = (AM db L, gI σ 203 0) := by
  obtain ⟨⟨σc, l, z, c, lg, lr, sv, nx, tn, tp, bl, s, s', b0, V, jn, sJ, hI, ⟨hD, hb0⟩, hO, hFX, hJ, hBD, hlo, hcb, hV, hHD, hXO⟩, hla⟩ := h
  rcases hJ with ⟨q1, q2, q3, q4⟩ | ⟨q, bl0, a, b, t, t2, w1, w2, w5, w6, w7⟩
  · refine ⟨fun w => absurd q1 w, q3, ?_⟩
    rw [q3] at hla
    exact hla
  · have wn : W = [] := List.length_eq_zero_iff.mp (by omega)
    refine ⟨fun _ => ?_, wn, by rw [wn] at hla; exact hla⟩
    have e := w2.la.2.1
    rw [wn] at e
    have e' : gI σ 452 0 = b := e
    have fs := hFX.2.1.2.1
    rw [w1] at fs
    obtain ⟨s1, S1, -, y⟩ := bR.app1 fs
    have le := y.2.2.2.1
    have rn := hI.1.rn (w := 0) (Or.inl rfl) q
    unfold lmF at le
    omega
theorem MU.room {tv : Nat → Int} {cf : Cf} {σ τ : St} {dk dk' : Int → Int} {db db' : Int → Int → Int} {L L' : List (Int × Int × Int × Int × Int × Int)} (hc : CfOK cf) (hS : SA tv cf σ dk db L) (hT : SA tv cf τ dk' db' L') (h : MUo σ τ) (hk : gI τ 451 2 = gI σ 451 2 ∨ gI τ 451 2 ≠ -1) : (emp cf (gA τ 323 0) = emp cf (gA σ 323 0) ∧ rmy cf (gA τ 323 0) (gA τ 325 0) = rmy cf (gA σ 323 0) (gA σ 325 0)) ∨ (gA σ 323 0 (gI τ 451 2) = 0 ∧ emp cf (gA τ 323 0) + 1 = emp cf (gA σ 323 0) ∧ rmy cf (gA τ 323 0) (gA τ 325 0) + 1 = rmy cf (gA σ 323 0) (gA σ 325 0)) := by
  have h0 : 0 ≤ cf.2.2 ∧ cf.2.2 ≤ 4 := hc.2.2
  rcases h with ⟨a, b, -⟩ | ⟨b3, b4, b5, b6⟩
  · exact Or.inl (by rw [a, b]; exact ⟨rfl, rfl⟩)
  · right
    have k1 : gI τ 451 2 ≠ -1 := by
      rcases hk with q | q
      · exact absurd q b4
      · exact q
    have rk := (hT.rn (w := 2) (Or.inr (Or.inl rfl)) k1).1
    generalize hk' : gI τ 451 2 = k at *
    have r2 : gI σ 451 2 = -1 ∨ gA σ 323 0 (gI σ 451 2) = 2 := by
      by_cases q : gI σ 451 2 = -1
      · exact Or.inl q
      · exact Or.inr (hS.2.2.2.1 2 (Or.inr (Or.inl rfl)) q).1
    have ux : ∀ m, 0 ≤ m → (gA τ 323 0 m = 0 ↔ m ≠ k ∧ gA σ 323 0 m = 0) := fun m m0 => by
      rw [b5 m m0]
      by_cases e : m = k
      · rw [if_pos e]; exact ⟨fun q => absurd q (by decide), fun q => absurd e q.1⟩
      · rw [if_neg e]
        by_cases e2 : m = gI σ 451 2
        · rw [if_pos e2]
          refine ⟨fun q => absurd q (by decide), fun q => ?_⟩
          rcases r2 with w | w
          · omega
          · rw [← e2] at w; omega
        · rw [if_neg e2]; exact ⟨fun q => ⟨e, q⟩, fun q => q.2⟩
    have ck : gA τ 323 0 k = 2 := by rw [b5 k (by omega), if_pos rfl]
    have xk : gA τ 325 0 k = 0 := by rw [b6]; unfold upF; rw [if_pos rfl]
    have a1 := cnt_dec (p := fun i => 4 + cf.2.2 ≤ i ∧ gA σ 323 0 i = 0) (q := fun i => 4 + cf.2.2 ≤ i ∧ gA τ 323 0 i = 0) (k := k) (cf.1 - 6).toNat (fun i i0 i1 ne => by rw [ux i i0]; exact ⟨fun q => ⟨q.1, ne, q.2⟩, fun q => ⟨q.1, q.2.2⟩⟩) ⟨rk.1, b3⟩ (fun q => by rw [ck] at q; omega) (by omega) (by omega)
    have a2 := cnt_dec (p := fun i => 4 + cf.2.2 ≤ i ∧ (gA σ 323 0 i = 0 ∨ gA σ 325 0 i ≠ 0)) (q := fun i => 4 + cf.2.2 ≤ i ∧ (gA τ 323 0 i = 0 ∨ gA τ 325 0 i ≠ 0)) (k := k) (cf.1 - 6).toNat (fun i i0 i1 ne => by
      have e : gA τ 325 0 i = gA σ 325 0 i := by rw [b6]; unfold upF; rw [if_neg ne]
      rw [ux i i0, e]
      exact ⟨fun q => ⟨q.1, q.2.imp (fun w => ⟨ne, w⟩) id⟩, fun q => ⟨q.1, q.2.imp (fun w => w.2) id⟩⟩) ⟨rk.1, Or.inl b3⟩ (fun q => by rw [ck, xk] at q; omega) (by omega) (by omega)
    exact ⟨b3, by unfold emp; omega, by unfold rmy; omega⟩
def mWo (f : Nat) (o' : Int) : Prop := mCw f o' ∨ mCs f o' ∨ mBl 0 f o' ∨ ((f = 223 ∨ f = 224 ∨ f = 225) ∧ o' = 0)
theorem sp_workX {tv : Nat → Int} {cf : Cf} {σ : St} {dk : Int → Int} {db : Int → Int → Int} {B : Int} {r : RT} {L : List (Int × Int × Int × Int × Int × Int)} {S' : List (Int × Int × Int × (Int → Int)) × Int} {W : List (Int × (List (Int × Int × Int × (Int → Int)) × Int))} {Q : St → Prop} (hc : CfOK cf) (h : PX tv cf σ dk db L S' W r B) (hB : B + 500 < 1073741000)
    (hQ : ∀ τ dk' db' L', PX tv cf τ dk' db' L' S' W r (B + 500) → AM db' L' = AM db L → Fr mWo σ τ → RK τ → Q τ) : wp_Store_work cf tv 0 Q σ := by
  have hP : 8 ≤ cf.2.1 ∧ cf.2.1 ≤ 32 := hc.2.1
  have hR : 0 ≤ cf.2.2 ∧ cf.2.2 ≤ 4 := hc.2.2
  have hBl : 24 ≤ cf.1 ∧ cf.1 ≤ 64 := hc.1
  have wr := whl_r hc
  rcases h with ⟨h, hrom⟩ | ⟨R, Old, h, h2, h3, h4⟩
  · obtain ⟨hS, hcm, hHD⟩ := PR.cm h.1
    have hB0 := (PR.v h.1).2.2
    have nxk : ∀ {f o'}, (f = 203 ∧ o' = (0 : Int)) → ¬ mBl 0 f o' := fun e q => by unfold mBl at q; omega
    -- a commit begins
    have beg : ∀ τ B1, PR tv cf τ dk db L S' W r B1 → B1 ≤ B + 100 → rom cf τ (whl cf + 1) (2 * whl cf + 2) → Fr mWo σ τ → gI τ 205 0 = 0 → ∀ K : St → Prop, (∀ υ, Q υ → K υ) → wp_Store_beginCommit cf tv 0 K τ := by
      intro τ B1 p1 b1 rm fr w0 K hK
      obtain ⟨fl, wn, se⟩ := p1.flu w0
      refine sp_beginP hc p1 (by have := rm.1; omega) fl (by omega) (fun υ dk' db' R Old p2 am2 o2 bg k2 => ?_)
      have fb := bg.2.2.2.2.2.2
      have nx : gI υ 203 0 = gI τ 203 0 := fb.i _ _ (fun q => by unfold mBh mBg mWr mMl mBw mMv mRow mB2 mIx at q; omega)
      obtain ⟨Sp, d2, s2, x2, op⟩ := p2.opn
      refine hK υ (hQ υ dk' db' L (Or.inr ⟨R, Old, op υ (fun _ _ => False) (B + 500) (Fr.rf _ _) (fun _ _ _ q => q) k2 (d2.le (by omega) hB) (by omega), ?_, wn, ?_⟩) am2 (fr.tr (fb.mono (fun f o' q => Or.inl (Or.inr q)))) k2)
      · rw [am2, nx]; exact se
      · rw [bg.2.2.1.2]; exact rm.2
    -- nothing else to do
    have cho2 : ∀ τ B1, PR tv cf τ dk db L S' W r B1 → B1 ≤ B + 100 → rom cf τ (whl cf + 1) (2 * whl cf + 2) → Fr mWo σ τ → ∀ K : St → Prop, (∀ υ, Q υ → K υ) → wp_Store_choose_b22 cf tv 0 K τ := by
      intro τ B1 p1 b1 rm fr K hK
      have k1 := (PR.cm p1.1).1.1.2
      have px : PX tv cf τ dk db L S' W r (B + 500) := Or.inl ⟨p1.le (by omega) hB, rm⟩
      unfold wp_Store_choose_b22
      refine ⟨fun _ => hK τ (hQ τ dk db L px rfl fr k1), fun vn => ?_⟩
      refine sp_empty hc (fun _ _ => ⟨fun _ => hK τ (hQ τ dk db L px rfl fr k1), fun _ => ?_⟩)
      refine sp_pick hc (fun _ _ _ => ⟨fun _ => hK τ (hQ τ dk db L px rfl fr k1), fun q => absurd rfl q⟩) (fun v hv hl _ _ rk => ⟨fun q => absurd q (by decide), fun _ σ12 e12 => ?_⟩)
      have f1 : Fr (fun f o' => (f = 223 ∨ f = 224 ∨ f = 225) ∧ o' = 0) τ σ12 := by
        rw [e12]
        exact ((((Fr.rf _ _).sI ⟨by decide, rfl⟩).sI ⟨by decide, rfl⟩).sI ⟨by decide, rfl⟩).sI ⟨by decide, rfl⟩
      have k12 : RK σ12 := by rw [e12]; exact rk.sI (by show rZ 0; unfold rZ; omega)
      have ve : gI σ12 223 0 = v := by rw [e12, gI_sIo (by decide), gI_sIo (by decide), gI_sIo (by decide), gI_sI1]
      have pe : gI σ12 224 0 = 0 := by rw [e12, gI_sIo (by decide), gI_sIo (by decide), gI_sI1]
      have p2 := p1.vic f1 k12 (Or.inr (Or.inl ⟨by rw [e12, gI_sI1], by
        rw [ve, pe]
        exact VC.beg (PR.cm p1.1).1 hv.1 (by rw [f1.a _ _ (fun q => by omega)]; exact hv.2.1)⟩))
      exact hK σ12 (hQ σ12 dk db L (Or.inl ⟨p2.le (by omega) hB, by unfold rom; rw [f1.a 323 0 (fun q => by omega), f1.a 325 0 (fun q => by omega)]; exact rm⟩) rfl (fr.tr (f1.mono (fun f o' q => Or.inr (Or.inr (Or.inr q))))) k12)
    have b72 : wp_Store_work_b72 cf tv 0 Q σ := by
      obtain ⟨Sp, d, s, x, op⟩ := h.opn
      unfold wp_Store_work_b72
      have nbl : ∀ f o', relF f → ¬ mBl 0 f o' := fun f o' a q => by unfold relF at a; unfold mBl at q; omega
      have nst : ∀ f o', relF f → ¬ mSt 0 f o' := fun f o' a q => by unfold relF at a; unfold mSt at q; omega
      have mv : ∀ (τ : St), PR tv cf τ dk db L S' W r B → rom cf τ (whl cf + 1) (2 * whl cf + 2) → Fr mWo σ τ → wp_Blocks_moveStep cf tv 0 (fun r_17 σ_18 => rZ r_17 → RK σ_18 → (¬ r_17 = 0 → Q σ_18) ∧ (r_17 = 0 → wp_Store_choose cf tv 0 (fun σ_20 => RK σ_20 → Q σ_20) σ_18)) τ := by
        intro τ p1 rm fr
        obtain ⟨Sp, d, s, x, op⟩ := p1.opn
        refine sp_jmoveStep hc s.1.2 d (by omega) (fun r' υ d2 f2 k2 rz _ _ => ?_)
        have p2 := op υ _ _ f2 nbl k2 d2 (by omega)
        have fr2 : Fr mWo σ υ := fr.tr (f2.mono (fun f o' q => Or.inr (Or.inr (Or.inl q))))
        have rm2 : rom cf υ (whl cf + 1) (2 * whl cf + 2) := by
          unfold rom
          rw [f2.a 323 0 (nbl _ _ (Or.inr (Or.inl (by decide)))), f2.a 325 0 (nbl _ _ (Or.inr (Or.inl (by decide))))]; exact rm
        refine ⟨fun _ => hQ υ dk db L (Or.inl ⟨p2.le (by omega) hB, rm2⟩) rfl fr2 k2, fun _ => ?_⟩
        unfold wp_Store_choose
        refine ⟨fun _ => cho2 υ _ p2 (by omega) rm2 fr2 _ (fun _ q _ => q), fun w0 => ⟨fun _ => cho2 υ _ p2 (by omega) rm2 fr2 _ (fun _ q _ => q), fun _ => ?_⟩⟩
        exact beg υ _ p2 (by omega) rm2 fr2 w0 _ (fun _ q _ _ => q)
      refine sp_jeraseOne hc s.1.2 d (by omega) (fun _ _ => ⟨fun q => absurd rfl q, fun _ => mv σ h hrom (Fr.rf _ _)⟩) (fun τ d2 f2 k2 _ _ => ⟨fun _ => ?_, fun q => absurd q (by decide)⟩)
      have p2 := op τ _ _ f2 nst k2 d2 (by omega)
      refine hQ τ dk db L (Or.inl ⟨p2.le (by omega) hB, ?_⟩) rfl (f2.mono (fun f o' q => Or.inr (Or.inr (Or.inl (by unfold mSt at q; unfold mBl; omega))))) k2
      unfold rom
      rw [f2.a 323 0 (nst _ _ (Or.inr (Or.inl (by decide)))), f2.a 325 0 (nst _ _ (Or.inr (Or.inl (by decide))))]; exact hrom
    have b43 : wp_Store_work_b43 cf tv 0 Q σ := by
      unfold wp_Store_work_b43
      refine ⟨fun _ => b72, fun _ => ⟨fun _ => b72, fun _ => ⟨fun _ => b72, fun w0 => ?_⟩⟩⟩
      exact beg σ B h (by omega) hrom (Fr.rf _ _) w0 _ (fun _ q _ => q)
    unfold wp_Store_work
    refine ⟨fun _ => ⟨fun _ => b43, fun vn => ⟨fun _ => b43, fun c0 => ?_⟩⟩, fun q => absurd hcm q⟩
    have pr : gI σ 451 (0 + 2) ≠ -1 → 0 ≤ gI σ 452 (0 + 2) ∧ gI σ 452 (0 + 2) ≤ 4096 := fun q => by
      have := (hS.rn (w := 2) (Or.inr (Or.inl rfl)) q).2.1
      exact ⟨this.1, by have := this.2; show gI σ 452 2 ≤ 4096; omega⟩
    have step : ((gI σ 451 2 ≠ -1 ∧ gI σ 452 2 + 320 ≤ (cf.2.1 - 2) * 128) ∨ (whl cf + 1 < emp cf (gA σ 323 0) ∧ 2 * whl cf + 2 < rmy cf (gA σ 323 0) (gA σ 325 0))) → wp_Store_collectStep cf tv 0 (fun σ9 => RK σ9 → Q σ9) σ := by
      intro may
      refine sp_collectP hc h (by have := hrom.1; omega) ⟨rfl, vn, c0⟩ (fun τ p1 _ _ f1 k1 _ => ?_) (fun τ dk' db' L' p1 am1 cs1 _ _ ck1 hk1 f1 k1 _ => ?_)
      · refine hQ τ dk db L (Or.inl ⟨p1.le (by omega) hB, ?_⟩) rfl (f1.mono (fun f o' q => by
          rcases q with q | q
          · exact Or.inr (Or.inl (Or.inl q))
          · exact Or.inr (Or.inl (Or.inr (Or.inr ⟨Or.inr q.1, q.2⟩))))) k1
        unfold rom
        rw [f1.a 323 0 (fun q => by unfold mRd2 mPg mRow at q; omega), f1.a 325 0 (fun q => by unfold mRd2 mPg mRow at q; omega)]; exact hrom
      · obtain ⟨S1, -, -⟩ := PR.cm p1.1
        refine hQ τ dk' db' L' (Or.inl ⟨p1.le (by omega) hB, ?_⟩) am1 (f1.mono (fun f o' q => Or.inr (Or.inl q))) k1
        rcases MU.room hc hS S1 cs1.mu hk1 with ⟨e1, e2⟩ | ⟨e0, e1, e2⟩
        · exact ⟨by rw [e1]; exact hrom.1, by rw [e2]; exact hrom.2⟩
        · rcases may with ⟨m1, m2⟩ | ⟨m1, m2⟩
          · exfalso
            rcases cs1 with ⟨-, ⟨c1, -⟩, -⟩ | ⟨n, nr, q | q, -⟩
            · rw [c1, (hS.2.2.2.1 2 (Or.inr (Or.inl rfl)) m1).1] at e0; omega
            · rw [q.2.2.1, (hS.2.2.2.1 2 (Or.inr (Or.inl rfl)) m1).1] at e0; omega
            · rcases q.1 with w | w
              · exact m1 w
              · omega
          · exact ⟨by omega, by omega⟩
    refine sp_mayMove hc pr (fun may _ _ => ⟨fun q => absurd q (by decide), fun _ => step ?_⟩) (fun _ _ _ _ => ⟨fun _ => b43, fun q => absurd rfl q⟩)
    rcases may with q | q
    · exact Or.inl q
    · exact Or.inr ⟨by omega, by omega⟩
  · have hcm := h.len.2
    unfold wp_Store_work
    refine ⟨fun q => absurd q (by omega), fun _ => ?_⟩
    have hB0 : 0 ≤ B := by
      obtain ⟨σc, l, z, c, lg, lr, sv, nx, tn, tp, bl, s, s', b0, lr2, f, W, G, NW, hI, -⟩ := h
      exact hI.2.2.2.2.2.1
    refine sp_stepP hc h (by omega) (fun τ dk' db' x R' e p1 am1 rm1 ux1 f1 k1 _ => ?_) (fun e τ dk' db' p1 am1 fi1 f1 k1 _ => ?_)
    · have nx : gI τ 203 0 = gI σ 203 0 := f1.i _ _ (fun q => by unfold mCm mMd mRow mRm mWc mSf mWr mBw mMv at q; omega)
      obtain ⟨Sp, d2, s2, x2, op⟩ := p1.opn
      exact hQ τ dk' db' L (Or.inr ⟨R', Old, op τ (fun _ _ => False) (B + 500) (Fr.rf _ _) (fun _ _ _ q => q) k1 (d2.le (by omega) hB) (by omega), by rw [am1, nx]; exact h2, h3, by rw [rm1]; exact h4⟩) am1 (f1.mono (fun f o' q => Or.inl (Or.inl (Or.inl q)))) k1
    · have nx : gI τ 203 0 = gI σ 203 0 := f1.i _ _ (fun q => by unfold mCf mCm mEc mTb mWt mMd mRow mRm mWc mSf mWr mMl mBw mMv at q; omega)
      rw [am1, nx, ← h2] at p1
      subst h3
      exact hQ τ dk' db' L (Or.inl ⟨p1.le (by omega) hB, fi1.1 (by have := fi1.2.2.1; omega)⟩) am1 (f1.mono (fun f o' q => Or.inl (Or.inl q))) k1
