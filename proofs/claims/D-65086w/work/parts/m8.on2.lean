/-! on: find, forget, settle -/
def mOn (f : Nat) (o' : Int) : Prop := mFd 0 f o' ∨ mSe f o' ∨ mCw f o'
theorem capa_le {cf : Cf} (hc : CfOK cf) : capa cf ≤ 164864 := by
  have hR : 0 ≤ cf.2.2 ∧ cf.2.2 ≤ 4 := hc.2.2
  have hP : 8 ≤ cf.2.1 ∧ cf.2.1 ≤ 32 := hc.2.1
  have hBl : 24 ≤ cf.1 ∧ cf.1 ≤ 64 := hc.1
  have : (cf.1 - 10 - cf.2.2 - 8) * ((cf.2.1 - 2) * 128 - 256) ≤ 46 * 3584 := Int.mul_le_mul (by omega) (by omega) (by omega) (by omega)
  exact this
theorem eV.szs {tv : Nat → Int} {cf : Cf} {db : Int → Int → Int} {lim : Int → Int} {L : List (Int × Int × Int × Int × Int × Int)} (h : eV tv cf db lim L) : ∀ x, x ∈ AM db L → 40 ≤ x.2.2.1 ∧ x.2.2.1 ≤ 96 := by
  intro x hx
  obtain ⟨e, e1, e2⟩ := List.mem_map.mp hx
  rw [← e2]
  exact (h e e1).2.1.n
theorem sp_on1 {tv : Nat → Int} {cf : Cf} {σ : St} {dk : Int → Int} {db : Int → Int → Int} {B : Int} {S' : List (Int × Int × Int × (Int → Int)) × Int} {r : RT} {Q : Int → St → Prop} (hc : CfOK cf) (hrk : RK σ) (h : OX tv cf σ dk db S' r B) (hcp : cpM S'.1 ≤ capa cf) (hnl : (nlL S'.1).length ≤ 8) (hnx : 0 ≤ S'.2 ∧ S'.2 < 1073741824) (hB0 : 0 ≤ B) (hB : B + 800 < 1073741000)
    (hQ : ∀ τ dk' db' L' xs, xs.Perm (nlL S'.1) → PR tv cf τ dk' db' L' (mfgs xs S'.1, S'.2) [] r (B + 756) → AM db' L' = mfgs xs S'.1 → gI τ 203 0 = S'.2 → rom cf τ (whl cf + 1) (2 * whl cf + 2) → Fr mOn σ τ → RK τ → wp_House_count cf tv (fun σ29 => RK σ29 → Q (nlL S'.1).length σ29) τ) :
    wp_Store_find cf tv 0 (fun σ35 => RK σ35 → ∀ y1, y1 = gI σ35 218 0 → lQ2 (wp_House_on_L31 cf tv Q) y1 0 σ35) σ := by
  have hR : 0 ≤ cf.2.2 ∧ cf.2.2 ≤ 4 := hc.2.2
  have hBl : 24 ≤ cf.1 ∧ cf.1 ≤ 64 := hc.1
  obtain ⟨σc, l, z, c, lg, lr, sM, nx, tn, tp, bl, s', b0, X, V, jn, lm, hFX, ⟨hD, hb0⟩, hIX, ⟨hj, hbl, hlm⟩, hCN, ⟨hc1, hcB, hXB⟩, hser, ⟨hE1, hE2⟩, ⟨hlg1, hlg2⟩, hms⟩ := h
  refine sp_sfind hc (Or.inl rfl) (σc := σc) (l := l) (z := z) (c := c) (lg := lg) (lr := lr) (sM := sM) (nx := nx) (tn := tn) (tp := tp) (lm := lm) (bl := bl) (s' := s') (X := X) (V := V) (S' := S') hrk hD SpC.x (Or.inr hIX) (fun dk' db' f => hFX.fnd2 hc hb0 f hj hbl hlm) (fun τ1 dk1 db1 L1 D1 fn1 fd f1 k1 y1 e1 => ?_)
  obtain ⟨hFC, hFS, -, -⟩ := hFX.fnd2 hc hb0 fn1 hj hbl hlm
  have hFC0 := hFX.1
  have hFS0 := hFX.2.1
  have hlg : lg = 2 ∨ lg = 3 := hFC.1.1
  have hc0 : 0 ≤ c := hFC.1.2.1
  have dlg : 1 ≤ dk lg := hFC0.2.2.2.2.1.1
  have ms0 := hFC0.2.1.2
  have lrX : lr ≤ X := by
    have a := hFS0.2.2.2.2.2.1 0 (by omega) (by omega)
    rw [show (128 : Int) * 0 = 0 by decide, hFC0.2.2.2.2.1.2.2.2.1] at a
    exact a
  have ltn : isx σc l z tn tn := Or.inl rfl
  have isr : ∀ m, isx σc l z tn m → 4 + cf.2.2 ≤ m ∧ m < cf.1 - 6 := fun m q => by
    rcases q with q | ⟨y, y1, y2⟩
    · rw [q]; exact hFC.2.2.2.1.1
    · rw [← y2]; exact (hFC.2.2.1.2.1 y y1).2.2.1
  -- what of the flash is as it was
  have same : ∀ n, 0 ≤ n → n < cf.1 - 6 → dk n ≠ -1 → dk1 n = dk n ∧ ∀ p, 0 ≤ p → p < 128 * dk n → db1 n p = db n p := fun n n0 n1 q => (fn1 n n0 n1).1 q
  obtain ⟨⟨rk1, hw1, x1, x2, x3, x4, x5, x6, x7⟩, flv, flow, flm, fus, fkn, fol, fkx, fix, fon, ⟨fc, flg, ftn, ftp, fts⟩, ⟨fw, fcm, fvi, fco⟩, ⟨fs1, fs2, fs3, fs4, fs5⟩, fmv⟩ := fd
  have cb := capa_le hc
  have len1 : L1.length ≤ 715 := by
    have a := (cpM_r (db := db1) (L := L1) (fun e he => (x6 e he).2.1.n)).1
    rw [x2] at a
    omega
  have ol1 := orL_len x5
  have ole : (orL τ1 0).length = (nlL S'.1).length := x4.length_eq
  have ey : y1 = ((nlL S'.1).length : Int) := by rw [e1, ← ol1, ole]
  rw [ey]
  refine sp_fgs k1 x1 (by omega) (by rw [← ol1, ole]) (by omega) (fun τ2 X2 R2 k2 τ3 e3 => ?_)
  have mem2 : ∀ e, e ∈ lfgs (orL τ1 0) L1 → e ∈ L1 := fun e he => lfgs_mem he
  have S2 : ∀ m, lS (lfgs (orL τ1 0) L1) m ≤ lS L1 m := fun m => lfgs_S x1.2.1 m
  have am2 : AM db1 (lfgs (orL τ1 0) L1) = mfgs (orL τ1 0) S'.1 := by rw [AM_fgs, x2]
  have len2 := lfgs_len (orL τ1 0) L1
  generalize hL2 : lfgs (orL τ1 0) L1 = L2 at X2 R2 mem2 S2 am2 len2
  have f3 : Fr (fun f o' => f = 218 ∧ o' = 0) τ2 τ3 := by rw [e3]; exact (Fr.rf _ _).sI ⟨rfl, rfl⟩
  have k3 : RK τ3 := by rw [e3]; exact k2.sI (by show rI 0; unfold rI; omega)
  have D3 : DJ tv cf τ3 0 dk1 db1 (SpC cf (c + 1) X r) B := ((D1.fr R2.2.2 (fun f o' a q => by unfold rBI at a; unfold mIx at q; omega)).fr f3 (fun f o' a q => by unfold rBI at a; omega)).sp (fun n w pg _ _ _ _ q => q.mono (by omega) (by omega) (fun _ _ _ q => q)) (fun n w pg n0 n1 => ⟨fun q => ⟨fun a b => by omega, fun a b => q.2.1 a b, fun a => by omega⟩, fun q => ⟨fun a b => by omega, fun a b => q.2.1 a b, fun a => by omega⟩⟩)
  have pg0 : ∀ n i, pgs db1 n 0 i = db1 n i := fun n i => by unfold pgs; rw [show 128 * 0 + i = i by omega]
  have old : ∀ m, 4 + cf.2.2 ≤ m → m < cf.1 - 6 → 1 ≤ dk m → dk1 m = dk m ∧ (rI4 (db1 m) 4 ≠ 0 ∧ srl (db1 m) 0 ≤ X) ∧ CN tv (db1 m) (lmF dk1 m) 0 := fun m m0 m1 d => by
    obtain ⟨a1, a2⟩ := same m (by omega) m1 (by omega)
    obtain ⟨⟨b1, b2⟩, b3⟩ := hCN m m0 m1 d
    refine ⟨a1, ⟨?_, ?_⟩, ?_⟩
    · rw [rI4_ext (h := db m) (fun i i0 i1 => a2 i (by omega) (by omega))]; exact b1
    · rw [srl_ext (h := db1 m) (g := db m) (n := 16) (by omega) (fun p p0 p1 => a2 p (by omega) (by omega))]; exact b2
    · have e : lmF dk1 m = lmF dk m := by unfold lmF; rw [a1]
      rw [e]
      exact b3.ext (fun p p0 p1 => a2 p p0 (by unfold lmF at p1; omega))
  have hSp : ∀ m, 4 + cf.2.2 ≤ m → m < cf.1 - 6 → ∀ w, 0 ≤ w → w ≤ dk1 m → SpC cf (c + 1) X r m w (pgs db1 m) := fun m m0 m1 w w0 w1 => by
    by_cases q : dk m = -1
    · rcases (fn1 m (by omega) m1).2 q with y | ⟨y1, y2⟩
      · omega
      · exact (y2 w w0 w1).mono (by omega) (by omega) (fun _ _ _ q => q)
    · refine ⟨fun _ _ => by omega, fun _ _ => by omega, fun _ => ?_⟩
      by_cases v : w ≤ 0
      · exact Or.inl v
      · right
        have a1 := (same m (by omega) m1 q).1
        obtain ⟨-, ⟨b1, b2⟩, -⟩ := old m m0 m1 (by omega)
        exact ⟨by rw [rI4_ext (h := db1 m) (fun i i0 i1 => pg0 m i)]; exact b1, by rw [show rL8 (pgs db1 m 0) 8 = srl (db1 m) 0 from rL8_ext (fun i i0 i1 => pg0 m i)]; exact b2⟩
  refine sp_settleL hc k3 D3 hSp (by omega) (fun τ4 dk4 D4 hdk hus f4 k4 σ5 e5 σ6 e6 => ?_)
  have f46 : Fr (fun f o' => (f = 211 ∨ f = 202) ∧ o' = 0) τ4 σ6 := by rw [e6, e5]; exact ((Fr.rf _ _).sI ⟨Or.inl rfl, rfl⟩).sI ⟨Or.inr rfl, rfl⟩
  have F26 : Fr (fun f o' => f = 218 ∧ o' = 0 ∨ mSe f o' ∨ ((f = 211 ∨ f = 202) ∧ o' = 0)) τ2 σ6 := ((f3.mono (fun f o' q => Or.inl q)).tr (f4.mono (fun f o' q => Or.inr (Or.inl q)))).tr (f46.mono (fun f o' q => Or.inr (Or.inr q)))
  have F16 : Fr (fun f o' => mIx 0 f o' ∨ f = 218 ∧ o' = 0 ∨ mSe f o' ∨ ((f = 211 ∨ f = 202) ∧ o' = 0)) τ1 σ6 := (R2.2.2.mono (fun f o' q => Or.inl q)).tr (F26.mono (fun f o' q => Or.inr q))
  have F14 : Fr (fun f o' => mIx 0 f o' ∨ f = 218 ∧ o' = 0 ∨ mSe f o') τ1 τ4 := (R2.2.2.mono (fun f o' q => Or.inl q)).tr ((f3.mono (fun f o' q => Or.inr (Or.inl q))).tr (f4.mono (fun f o' q => Or.inr (Or.inr q))))
  have se5 : gI σ5 202 0 = gI τ1 202 0 := by
    rw [e5, gI_sIo (by decide)]
    exact F14.i _ _ (fun q => by unfold mIx mSe mMv at q; omega)
  have X0 : 0 ≤ X := by have := hFS0.2.2.2.2.1.1; omega
  have sM0 : 0 ≤ sM := hFC0.2.1.1
  have sr6 : gI σ6 202 0 = gI τ1 202 0 + 1000 := by
    rw [e6, gI_sI1, se5, w64_id (by unfold rJ; omega)]
  have bd6 : gI σ6 211 0 = 0 := by rw [e6, gI_sIo (by decide), e5, gI_sI1]
  have k6 : RK σ6 := by
    rw [e6, e5]
    refine (k4.sI (by show rI 0; unfold rI; omega)).sI ?_
    show rJ (w64 _)
    rw [← e5, se5, w64_id (by unfold rJ; omega)]
    unfold rJ; omega
  have oc6 : gI σ6 218 0 = 0 := by
    rw [f46.i _ _ (fun q => by omega), f4.i _ _ (fun q => by unfold mSe mMv at q; omega), e3, gI_sI1]
  have D6 := D4.fr f46 (fun f o' a q => by unfold rBI at a; omega)
  have lv6 : gA σ6 324 0 = gA τ2 324 0 := F26.a _ _ (fun q => by unfold mSe mMv at q; omega)
  have lv3 : gA τ3 324 0 = gA σ6 324 0 := by rw [lv6]; exact f3.a _ _ (fun q => by omega)
  have us6 : gA σ6 323 0 = gA τ4 323 0 := f46.a _ _ (fun q => by omega)
  have ox6 : gA σ6 325 0 = gA τ1 325 0 := F16.a _ _ (fun q => by unfold mIx mSe mMv at q; omega)
  have si : ∀ g, (g = 203 ∨ g = 205 ∨ g = 213 ∨ g = 212 ∨ g = 208 ∨ g = 214 ∨ g = 216) → gI σ6 g 0 = gI τ1 g 0 := fun g hg => F16.i _ _ (fun q => by unfold mIx mSe mMv at q; omega)
  have nW6 : noW σ6 0 := ⟨(F16.i _ _ (fun q => by unfold mIx mSe mMv at q; omega)).trans hw1.1, (F16.i _ _ (fun q => by unfold mIx mSe mMv at q; omega)).trans hw1.2.1, (F16.i _ _ (fun q => by unfold mIx mSe mMv at q; omega)).trans hw1.2.2⟩
  have X6 : XI cf σ6 0 L2 := ⟨X2.1.fr F26 (fun f x a b q => by unfold mSe mMv at q; omega) (fun f a b q => by unfold mSe mMv at q; omega), X2.2.1, by rw [lv6]; exact X2.2.2⟩
  have C6 : CK τ1 σ6 0 := R2.1.tr (CK.fr F26 (fun f x a b q => by unfold mSe mMv at q; omega) (fun f a b q => by unfold mSe mMv at q; omega))
  have V2 : eV tv cf db1 (lmF dk1) L2 := fun e he => x6 e (mem2 e he)
  have lS0 : ∀ m, 0 ≤ lS L2 m := fun m => (lS_r X2.2.1 m).1
  have lvle : ∀ m, 0 ≤ m → m < cf.1 - 6 → gA σ6 324 0 m ≤ gA τ1 324 0 m := fun m m0 m1 => by
    have a := R2.2.1 m m0 m1
    have b := S2 m
    rw [lv6]; omega
  have lv60 : ∀ m, 0 ≤ m → m < cf.1 - 6 → 0 ≤ gA σ6 324 0 m := fun m m0 m1 => by
    have a := X6.2.2 m m0 m1
    have b := lS0 m
    omega
  have up : ∀ m, 4 + cf.2.2 ≤ m → m < cf.1 - 6 → ¬ gA σ6 324 0 m ≤ 0 → 1 ≤ dk m ∧ gA σ6 324 0 m ≤ lmF dk m := fun m m0 m1 q => by
    have a := lvle m (by omega) m1
    have b := flm m (by omega) m1
    have d := (hlm m (by omega) m1).2.2
    refine ⟨?_, by omega⟩
    unfold lmF at d
    omega
  have S6 : SA tv cf σ6 dk4 db1 L2 := by
    refine SA.mk0 (dk1 := dk1) (I := isx σc l z tn) (tn := tn) hc k6 nW6 X6 (by omega) V2 isr ltn (fun m m0 m1 => ?_) (fun m m0 m1 => ?_) (fun m m0 m1 => ⟨fun q => ?_, fun q => ?_⟩) (fun x hx hf => ?_) ?_ (fun m m0 m1 => ⟨fun q => ?_, fun q => ?_⟩) ⟨(si _ (by omega)).trans ftn, (si _ (by omega)).trans fts⟩
    · have a := R2.2.1 m (by omega) m1
      have b := C6.1 m (by omega)
      have d := flv m m0 m1
      rw [lv6]; omega
    · have a := R2.2.1 m m0 (by omega)
      rw [flow m m0 m1, lS_out (L := L2) (fun e he w => by have := (V2 e he).1; omega), lS_out (L := L1) (fun e he w => by have := (x6 e he).1; omega)] at a
      rw [lv6]; omega
    · rw [us6, hus m, hdk m, lv3, if_pos (⟨m0, m1⟩ : _ ∧ _), if_pos q, if_pos (⟨⟨m0, m1⟩, q⟩ : _ ∧ _)]
      exact ⟨rfl, rfl⟩
    · rw [us6, hus m, hdk m, lv3, if_pos (⟨m0, m1⟩ : _ ∧ _), if_neg q, if_neg (fun w => q w.2)]
      obtain ⟨u1, u2⟩ := up m m0 m1 q
      obtain ⟨a1, -, a3⟩ := old m m0 m1 u1
      refine ⟨rfl, rfl, ?_, a3⟩
      unfold lmF at u2 ⊢
      rw [a1]; exact u2
    · refine ⟨knE.ck X6.1 C6 fkn x hx hf, ?_⟩
      obtain ⟨c1, c2, c3⟩ := C6.2.1 x hx hf
      rw [c3.2.1]
      exact (fkx x c1 (by rw [← c3.1]; exact hf)).1
    · exact C6.2.2.1 (fun n s => isx σc l z tn n ∧ 32 ≤ s ∧ s ≤ 256) fol (fun x hx hf => ⟨(fkx x hx hf).1, (fkn x hx hf).sz (krt_cnt x1.1 x hx)⟩)
    · rw [ox6]
      obtain ⟨a, b⟩ := (fix m m0 m1).1 q
      have := S2 m
      have := lS0 m
      exact ⟨a, by omega⟩
    · rw [ox6]; exact (fix m m0 m1).2 q
  have Xs : X ≤ gI σ6 202 0 := by
    rw [sr6]
    rcases hser with q | ⟨q1, q2, q3⟩
    · have a : srl (db lg) (128 * (dk lg - 1)) ≤ gI τ1 202 0 := by
        obtain ⟨y1, y2⟩ := same lg (by omega) (by omega) (by omega)
        have w := fs4 (dk lg - 1) (by omega) (by omega)
        rw [srl_ext (h := db1 lg) (g := db lg) (n := 16) (by omega) (fun p p0 p1 => y2 p (by omega) (by omega))] at w
        exact w
      unfold lgY at q
      omega
    · obtain ⟨y1, y2⟩ := same (5 - lg) (by omega) (by omega) (by omega)
      have := fs5 ⟨by omega, by rw [rI4_ext (h := db (5 - lg)) (fun i i0 i1 => y2 i (by omega) (by omega))]; exact q2⟩
      omega
  have nl0 : nlL (AM db1 L2) = [] := by
    rw [am2]
    refine mfgs_nl (by rw [← x2]; exact x6.ino) (fun x hx => x4.mem_iff.mpr hx)
  have or6 : (orL σ6 0).Perm (nlL (AM db1 L2)) ∧ 0 ≤ gI σ6 218 0 ∧ gI σ6 218 0 ≤ 8 := by
    refine ⟨?_, by omega, by omega⟩
    rw [nl0]
    unfold orL
    rw [oc6]
    exact List.Perm.refl _
  have hcp2 : cpM (AM db1 L2) ≤ capa cf := by
    rw [am2]
    refine Int.le_trans (cpM_fgs (fun x hx => ?_)) hcp
    rw [← x2] at hx
    have := x6.szs x hx
    omega
  have nx6 : gI σ6 203 0 = S'.2 := (si _ (by omega)).trans x3
  have I6 : SIc tv cf σ6 dk4 db1 L2 (gI σ6 202 0) (B + 348) := ⟨S6, ⟨by omega, hcp2⟩, by rw [nx6]; exact hnx, ⟨rfl, by omega⟩, or6, by omega, fun e he => by have := x7 e (mem2 e he); omega⟩
  have d4lo : ∀ m, m < 4 + cf.2.2 → dk4 m = dk1 m := fun m m1 => by rw [hdk m, if_neg (by omega)]
  have uz : ∀ m, 4 + cf.2.2 ≤ m → m < cf.1 - 6 → gA σ6 323 0 m ≠ 0 → ¬ gA σ6 324 0 m ≤ 0 ∧ gA σ6 323 0 m = 1 := fun m m0 m1 q => by
    rw [us6, hus m, lv3, if_pos (⟨m0, m1⟩ : _ ∧ _)] at q ⊢
    by_cases w : gA σ6 324 0 m ≤ 0
    · rw [if_pos w] at q; exact absurd rfl q
    · rw [if_neg w]; exact ⟨w, rfl⟩
  have N6 : BCn tv cf σ6 dk4 db1 L2 (c + 1) c lg (gI σ6 202 0) := by
    refine ⟨⟨(si _ (by omega)).trans flg, hlg, (si _ (by omega)).trans fc, hc0, hc1⟩, ⟨fun q => ?_, fun q => ?_⟩, fun m hm j j0 j1 => ?_, ⟨fun m m0 m1 q => ?_, fun x hx hf => ?_⟩, fun q => absurd nW6.1 q, or6, ⟨by omega, fun j j0 j1 => by omega⟩, ?_, fun m m0 m1 _ q => ?_⟩
    · rw [d4lo _ (by omega)] at q
      by_cases w : dk (5 - lg) = -1
      · rcases (fn1 (5 - lg) (by omega) (by omega)).2 w with y | ⟨y1, y2⟩
        · omega
        · rcases (y2 (dk1 (5 - lg)) y1 (Int.le_refl _)).1 (by omega) (by omega) with u | u
          · omega
          · rw [rI4_ext (h := db1 (5 - lg)) (fun i i0 i1 => pg0 (5 - lg) i)] at u
            omega
      · obtain ⟨y1, y2⟩ := same (5 - lg) (by omega) (by omega) w
        rw [rI4_ext (h := db (5 - lg)) (fun i i0 i1 => y2 i (by omega) (by omega))]
        exact hlg1 (by omega)
    · obtain ⟨y1, y2⟩ := same lg (by omega) (by omega) (by omega)
      rw [rI4_ext (h := db lg) (fun i i0 i1 => y2 i (by omega) (by omega))]
      exact hlg2 dlg
    · have d1 := (ms0 m hm).1
      obtain ⟨y1, y2⟩ := same m (by omega) (by omega) (by omega)
      rw [d4lo _ (by omega), y1] at j1
      rw [srl_ext (h := db1 m) (g := db m) (n := 16) (by omega) (fun p p0 p1 => y2 p (by omega) (by omega))]
      exact Int.le_trans (hms m hm j j0 j1) Xs
    · obtain ⟨w, -⟩ := uz m m0 m1 q
      obtain ⟨u1, u2⟩ := up m m0 m1 w
      obtain ⟨a1, ⟨a2, a3⟩, -⟩ := old m m0 m1 u1
      refine ⟨?_, a2, by omega⟩
      rw [eE_no (fun v hv => by
        have : gI σ6 451 v = -1 := by
          rcases hv with e | e | e
          · rw [e]; exact nW6.1
          · rw [e]; exact nW6.2.1
          · rw [e]; exact nW6.2.2
        omega)]
      unfold lmF
      rw [hdk m, if_neg (fun y => by rw [lv3] at y; exact w y.2), a1]
      omega
    · obtain ⟨c1, c2, c3⟩ := C6.2.1 x hx hf
      rw [c3.2.1, c3.2.2.1]
      have := (fkx x c1 (by rw [← c3.1]; exact hf)).2
      omega
    · have := C6.2.2.2
      omega
    · have := (uz m m0 m1 (by omega)).2
      omega
  have cm : ∀ {p q : Int → Prop} {i : DecidablePred p} {j : DecidablePred q} {x : Int}, x ≤ ((@cnt p i (cf.1 - 6).toNat : Nat) : Int) → (∀ m, 0 ≤ m → m < cf.1 - 6 → p m → q m) → x ≤ ((@cnt q j (cf.1 - 6).toNat : Nat) : Int) := fun a b => Int.le_trans a (Int.ofNat_le.mpr (cnt_le _ (fun i i0 i1 => b i i0 (by omega))))
  have z0 : ∀ m, 4 + cf.2.2 ≤ m → m < cf.1 - 6 → lm m = 0 → gA σ6 323 0 m = 0 := fun m m0 m1 q => by
    have a := lvle m (by omega) m1
    have b := flm m (by omega) m1
    rw [us6, hus m, lv3, if_pos (⟨m0, m1⟩ : _ ∧ _), if_pos (by omega)]
  have hE : whl cf ≤ emp cf (gA σ6 323 0) := cm hE1 (fun m m0 m1 q => ⟨q.1, z0 m q.1 m1 q.2⟩)
  have hRm : 2 * whl cf + 2 ≤ rmy cf (gA σ6 323 0) (gA σ6 325 0) := cm hE2 (fun m m0 m1 q => ⟨q.1, by
    rcases q.2 with w | w
    · exact Or.inl (z0 m q.1 m1 w)
    · right
      rw [ox6, ((fix m m0 m1).1 w).1]; decide⟩)
  refine sp_commitF hc I6 D6 N6 ⟨Xs, by omega⟩ hE ⟨(si _ (by omega)).trans fw, (si _ (by omega)).trans fcm⟩ ⟨by omega, by omega⟩ (fun m m0 m1 q => by have := (uz m m0 m1 (by omega)).2; omega) (by omega) (fun τ7 dk7 db7 P7 am7 rm7 ro7 f7 k7 _ _ => ?_)
  have nx7 : gI τ7 203 0 = S'.2 := by
    rw [← nx6]
    exact f7.i _ _ (fun q => by unfold mCw mCf mCm mEc mTb mWt mMd mRow mRm mWc mSf mWr mMl mBw mMv mBh mBg mIx mB2 mWr mMl mBw mMv mRow at q; omega)
  have am7' : AM db7 L2 = mfgs (orL τ1 0) S'.1 := am7.trans am2
  rw [am7', nx7, show B + 348 + 408 = B + 756 by omega] at P7
  refine hQ τ7 dk7 db7 L2 (orL τ1 0) x4 P7 am7' nx7 (ro7 (by omega)) ((f1.mono (fun f o' q => Or.inl q)).tr ((F16.mono (fun f o' q => ?_)).tr (f7.mono (fun f o' q => Or.inr (Or.inr q))))) k7
  rcases q with q | q | q | q
  · exact Or.inl (Or.inr (Or.inr (Or.inr (Or.inl q))))
  · exact Or.inl (Or.inr (Or.inr (Or.inr (Or.inr (Or.inl ⟨by omega, q.2⟩)))))
  · exact Or.inr (Or.inl q)
  · exact Or.inl (Or.inr (Or.inr (Or.inr (Or.inr (Or.inl ⟨by omega, q.2⟩)))))
