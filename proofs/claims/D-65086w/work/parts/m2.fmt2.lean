/-! a new store: format, whole -/
theorem sp_format {tv : Nat → Int} {cf : Cf} {σ : St} {r : RT} {Q : St → Prop} (hc : CfOK cf) (hrk : RK σ) (h : FM0 cf σ) (hr0 : RR0 cf r)
    (hQ : ∀ τ dk db L, PR tv cf τ dk db L ([rtN], 2) [] r 828 → AM db L = [rtN] → gI τ 203 0 = 2 → rom cf τ (whl cf + 1) (2 * whl cf + 2) → Fr mFm σ τ → RK τ → Q τ) : wp_Store_format cf tv 0 Q σ := by
  have hR : 0 ≤ cf.2.2 ∧ cf.2.2 ≤ 4 := hc.2.2
  have hP : 8 ≤ cf.2.1 ∧ cf.2.1 ≤ 32 := hc.2.1
  have hBl : 24 ≤ cf.1 ∧ cf.1 ≤ 64 := hc.1
  have wN := whl_N hc
  obtain ⟨-, -, h4, h5, h6a, h6b, h6c, h6d, h6e, h6f⟩ := id h
  refine sp_fmt1 (r := r) hc hrk h hr0 (fun τ1 t g D1 S1 kr1 ft1 o1 u1 b1 n1 oc1 s1 f1 k1 => ?_)
  have e1 := emp_one (u := gA τ1 323 0) (n := 0) hc (fun k ka kb _ => (u1 k ka kb).1)
  have w1 : ∀ w, isW 0 w → gI τ1 451 w = -1 := fun w hw => by
    rw [f1.i _ _ (fun q => by unfold isW at hw; unfold mF1 mF0 mBl mIc mRow at q; omega)]
    exact h4 w hw
  refine sp_sfetch hc k1 D1 (by omega) (fun k ka kb kc => rfl) (fun k τ2 ka kc D2 us2 li2 of2 f2 k2 _ _ => ?_)
  unfold wp_Writer_open
  intro σ3 e3 σ4 e4 _
  have f4 : Fr (fun f o' => (f = 451 ∨ f = 452) ∧ o' = 2) τ2 σ4 := by rw [e4, e3]; exact ((Fr.rf _ _).sI ⟨Or.inl rfl, rfl⟩).sI ⟨Or.inr rfl, rfl⟩
  have n4 : gI σ4 451 2 = k := by rw [e4, gI_sI, if_neg (fun q => absurd q.1 (by decide)), e3, gI_sI1]
  have p4 : gI σ4 452 2 = 0 := by rw [e4, gI_sI1]
  have k4 : RK σ4 := by rw [e4, e3]; exact (k2.sI (by show rI k; unfold rI; omega)).sI (by show rI 0; unfold rI; omega)
  have w2 : ∀ w, isW 0 w → gI τ2 451 w = -1 := fun w hw => by
    rw [f2.i _ _ (fun q => by unfold mSf mMv at q; omega)]
    exact w1 w hw
  have hw : isW 0 2 := Or.inr (Or.inl rfl)
  have W2 : WW cf τ2 0 (fun _ => -1) (fun _ _ => 0) := S1.1.1.fr f2 (fun f v _ a b q => by unfold mSf mMv at q; omega)
  obtain ⟨W4, ek, em⟩ := W2.opn hc hw ka rfl (fun v hv q => by rw [w2 v hv] at q; omega) n4 p4 f4
  have f24 : Fr (mRm 0 2) τ1 σ4 := (f2.mono (fun f o' q => Or.inr (Or.inl q))).tr (f4.mono (fun f o' q => by
    rcases q.1 with e | e
    · exact Or.inl (Or.inr (Or.inl ⟨e, q.2⟩))
    · exact Or.inr (Or.inr ⟨e, q.2⟩)))
  have us4 : gA σ4 323 0 = upF (gA τ1 323 0) k 2 := by rw [f4.a _ _ (fun q => by omega)]; exact us2
  have li4 : gA σ4 324 0 = upF (gA τ1 324 0) k 0 := by rw [f4.a _ _ (fun q => by omega)]; exact li2
  have of4 : gA σ4 325 0 = upF (gA τ1 325 0) k 0 := by rw [f4.a _ _ (fun q => by omega)]; exact of2
  have N : NEo cf τ1 σ4 0 2 (fun _ => -1) (fun _ => -1) (fun _ _ => 0) (fun _ _ => 0) (-1) k := by
    refine ⟨ka, kc, by omega, n4, p4, fun m m0 => ?_, li4, by rw [if_neg (by omega)]; exact of4, fun _ _ => rfl, rfl, fun m m0 mn mk => ?_, ek, fun _ _ _ _ _ => rfl, fun q => absurd rfl q⟩
    · rw [us4]
      unfold upF
      by_cases e : m = k
      · rw [if_pos e, if_pos e]
      · rw [if_neg e, if_neg e, if_neg (by omega)]
    · rw [em m m0 mk (by rw [w2 2 hw]; omega), eE_fr f2 (fun f v _ a b q => by unfold mSf mMv at q; omega)]
  have S4 := S1.neo hc hw (w1 2 hw) N W4 f24 k4
  have D4 := D2.fr f4 (fun f o' a q => by unfold rBI at a; omega)
  have f14 : ∀ g, (g = 514) → gI σ4 g 2 = gI τ1 g 2 := fun g hg => f24.i _ _ (fun q => by unfold mRm mWc mWr mBw mSf mMv at q; omega)
  have b4 : gA σ4 512 2 = nCls tv (rtR g) 0 1 1 48 := by rw [f24.a _ _ (fun q => by unfold mRm mWc mWr mBw mSf mMv at q; omega)]; exact b1
  have e48 : gI σ4 514 2 = 48 := by rw [f14 _ rfl]; exact n1
  rw [e48]
  refine sp_put3 hc (Or.inl rfl) k4 hw D4 W4 n4 (by omega) p4 (by omega) (by omega) rfl (by omega) (by have := rowL_r 2; show (0 : Int) + 48 ≤ rowL 2; omega) (by omega) (fun q => by unfold mWr mBw at q; omega) (fun τ5 dk5 D5 W5 G5 n5 p5 f5 k5 _ _ => ?_)
  generalize hdb : putB (fun _ _ => 0) k 0 48 (fun i => gA σ4 512 2 (0 + i)) = db5 at D5 W5 G5
  have d5 : ∀ p, 0 ≤ p → p < 0 + 48 → db5 k p = nCls tv (rtR g) 0 1 1 48 p := fun p p0 p1 => by
    rw [← hdb]
    unfold putB
    rw [if_pos ⟨rfl, p0, p1⟩, b4, Int.sub_zero]
    show nCls tv (rtR g) 0 1 1 48 (0 + p) = _
    rw [Int.zero_add]
  obtain ⟨c1, c2, c3, c4, c5, c6⟩ := rtR_c (tv := tv) (g := g)
  have j5 : jnV tv (db5 k) 0 48 := c1.ext d5
  have x5 : eE τ5 0 dk5 k = 48 := by rw [eE_at W5 hw n5 (by omega), p5]; rfl
  have S5 := S4.grow (t := [48]) hc hw n4 (by omega) n5 W5 G5 f5 k5 (by
    rw [ek, x5]
    show if (48 : Int) = 0 then _ else ndV tv (db5 k) 0 48 ∧ chn tv (db5 k) [] (0 + 48) 48
    rw [if_neg (by omega)]
    exact ⟨j5.v, rfl⟩)
  refine sp_keyOf (by unfold rI; omega) (by omega) (fun _ _ => ?_)
  have e485 : gI τ5 514 2 = 48 := by rw [f5.i _ _ (fun q => by unfold mWr mBw at q; omega)]; exact e48
  rw [n5, e485]
  have ns : ∀ m, m ≠ k → gA τ5 323 0 m = gA τ1 323 0 m := fun m e => by
    rw [f5.a _ _ (fun q => by unfold mWr mBw at q; omega), us4]
    unfold upF
    rw [if_neg e]
  have us5 : gA τ5 323 0 k = 2 := by
    rw [f5.a _ _ (fun q => by unfold mWr mBw at q; omega), us4]
    unfold upF
    rw [if_pos rfl]
  have of5 : ∀ m, 0 ≤ m → m < cf.1 - 6 → gA τ5 325 0 m = 0 := fun m m0 m1 => by
    rw [f5.a _ _ (fun q => by unfold mWr mBw at q; omega), of4]
    unfold upF
    split
    · rfl
    · exact (u1 m m0 m1).2.2
  have li5 : ∀ m, 0 ≤ m → m < cf.1 - 6 → gA τ5 324 0 m = 0 := fun m m0 m1 => by
    rw [f5.a _ _ (fun q => by unfold mWr mBw at q; omega), li4]
    unfold upF
    split
    · rfl
    · exact (u1 m m0 m1).2.1
  refine sp_xput (Or.inl rfl) k5 (by unfold rJ; omega) (by unfold rJ; omega) S5.2.1.1 (Nat.zero_le _) (by omega) (by omega) (fun τ6 X6 R6 k6 σ7 e7 => ?_)
  have eL : lput (4 * 1 + 0, 0, k, 0, 48, -1) [] = [((4 : Int), (0 : Int), k, (0 : Int), (48 : Int), (-1 : Int))] := rfl
  rw [eL] at X6 R6
  generalize hL : [((4 : Int), (0 : Int), k, (0 : Int), (48 : Int), (-1 : Int))] = L at X6 R6
  have mL : ∀ e, e ∈ L → e = (4, 0, k, 0, 48, -1) := fun e he => by rw [← hL] at he; exact List.mem_singleton.mp he
  have f6 : Fr (mIx 0) τ5 τ6 := R6.2.2
  have l6 : ∀ m, lS L m = if k = m then 48 else 0 := fun m => by
    rw [← hL, lS_cons]
    show (if k = m then 48 else 0) + 0 = _
    omega
  have S6 : SA tv cf τ6 dk5 db5 L := by
    refine S5.ix hc X6 R6.1 R6.2.1 (f6.mono (fun f o' q => Or.inl q)) k6 (by rw [← hL]; show 1 ≤ 885; omega) (fun e he => ?_) (fun m m0 m1 => ?_) (fun e he => ?_)
    · rw [mL e he]
      refine ⟨ka, j5, ?_, ?_, ?_, ⟨by show (0 : Int) ≤ 0; omega, [], rfl⟩, by show (0 : Int) + 48 ≤ eE τ5 0 dk5 k; rw [x5]; omega⟩
      · show lfT (db5 k (0 + 16))
        rw [d5 _ (by omega) (by omega), c5]
        exact Or.inl rfl
      · exact (hiN_ext (n := 48) (by omega) d5).trans c3
      · show loN (db5 k) 0 = 0
        unfold loN
        rw [d5 (0 + 16) (by omega) (by omega), c5, if_pos rfl]
    · have a := R6.2.1 m (by omega) m1
      rw [l6, li5 m (by omega) m1] at a
      have b : lS [] m = 0 := rfl
      rw [b] at a
      by_cases e : k = m
      · rw [if_pos e] at a
        rw [← e, x5]
        rw [← e] at a
        omega
      · rw [if_neg e] at a
        have q := (S5.2.2.1 m m0 m1).2.2.2.1
        rw [li5 m (by omega) m1] at q
        omega
    · rw [mL e he]
      exact ⟨by rw [us5]; omega, of5 k (by omega) (by omega)⟩
  have f7 : Fr (fun f o' => f = 208 ∧ o' = 0) τ6 σ7 := by rw [e7]; exact (Fr.rf _ _).sI ⟨rfl, rfl⟩
  have k7 : RK σ7 := by rw [e7]; exact k6.sI (by show rI 2; unfold rI; omega)
  have lg7 : gI σ7 208 0 = 2 := by rw [e7, gI_sI1]
  have S7 := S6.fr f7 (fun f o' a q => by unfold mSA at a; omega) k7
  have D7 : DJ tv cf σ7 0 dk5 db5 (SpC cf 0 0 r) 420 := (D5.fr f6 (fun f o' a q => by unfold rBI at a; unfold mIx at q; omega)).fr f7 (fun f o' a q => by unfold rBI at a; omega)
  have am : AM db5 L = [rtN] := by
    rw [← hL]
    show [((4 : Int), (0 : Int), (48 : Int), pay (db5 k) 0 48)] = [(4, 0, 48, pay rtG 0 48)]
    rw [← c6, show pay (db5 k) 0 48 = pay (nCls tv (rtR g) 0 1 1 48) 0 48 from funext (fun i => by
      unfold pay
      by_cases q : 24 ≤ i ∧ i < 48
      · rw [if_pos q, if_pos q, Int.zero_add, d5 i (by omega) (by omega)]
      · rw [if_neg q, if_neg q])]
  have f27 : Fr (fun f o' => mSf 0 f o' ∨ ((f = 451 ∨ f = 452) ∧ o' = 2) ∨ mWr 2 f o' ∨ mIx 0 f o' ∨ (f = 208 ∧ o' = 0)) τ1 σ7 := ((((f2.mono (fun f o' q => Or.inl q)).tr (f4.mono (fun f o' q => Or.inr (Or.inl q)))).tr (f5.mono (fun f o' q => Or.inr (Or.inr (Or.inl q))))).tr (f6.mono (fun f o' q => Or.inr (Or.inr (Or.inr (Or.inl q)))))).tr (f7.mono (fun f o' q => Or.inr (Or.inr (Or.inr (Or.inr q)))))
  have si : ∀ g, (g = 203 ∨ g = 205 ∨ g = 213 ∨ g = 211 ∨ g = 212) → gI σ7 g 0 = gI σ g 0 := fun g hg => (f27.i _ _ (fun q => by unfold mSf mMv mWr mBw mIx at q; omega)).trans (f1.i _ _ (fun q => by unfold mF1 mF0 mBl mIc mRow at q; omega))
  have si1 : ∀ g, (g = 218 ∨ g = 202) → gI σ7 g 0 = gI τ1 g 0 := fun g hg => f27.i _ _ (fun q => by unfold mSf mMv mWr mBw mIx at q; omega)
  have wn7 : ∀ w, (w = 0 ∨ w = 4) → gI σ7 451 w = -1 := fun w hw => (f27.i _ _ (fun q => by unfold mSf mMv mWr mBw mIx at q; omega)).trans (w1 w (by unfold isW; omega))
  have f67 : Fr (fun f o' => mIx 0 f o' ∨ (f = 208 ∧ o' = 0)) τ5 σ7 := (f6.mono (fun f o' q => Or.inl q)).tr (f7.mono (fun f o' q => Or.inr q))
  have us7 : gA σ7 323 0 = gA τ5 323 0 := f67.a _ _ (fun q => by unfold mIx at q; omega)
  have of7 : gA σ7 325 0 = gA τ5 325 0 := f67.a _ _ (fun q => by unfold mIx at q; omega)
  have n7 : gI σ7 451 2 = k := (f67.i _ _ (fun q => by unfold mIx at q; omega)).trans n5
  have p7 : gI σ7 452 2 = gI τ5 452 2 := f67.i _ _ (fun q => by unfold mIx at q; omega)
  have x7 : eE σ7 0 dk5 k = 48 := by
    rw [eE_at S7.1.1 hw n7 (by omega), p7, p5]; rfl
  have uz : ∀ m, 0 ≤ m → m < cf.1 - 6 → gA σ7 323 0 m ≠ 0 → m = k := fun m m0 m1 q => by
    apply Classical.byContradiction
    intro e
    exact q (by rw [us7, ns m e]; exact (u1 m m0 m1).1)
  have dz : ∀ m, m ≠ k → dk5 m = -1 := fun m e => (G5.1 m e).1
  have kf4 := krt_fr (o := 0) f24 (fun f x a b q => by unfold mRm mWc mWr mBw mSf mMv at q; omega) (fun q => by unfold mRm mWc mWr mBw mSf mMv at q; omega)
  have kf5 := krt_fr (o := 0) f5 (fun f x a b q => by unfold mWr mBw at q; omega) (fun q => by unfold mWr mBw at q; omega)
  have kf7 := krt_fr (o := 0) f7 (fun f x a b q => by omega) (fun q => by omega)
  have kt5 : krt τ5 0 = [t] ∧ gI τ5 584 t = 1 := ⟨kf5.1.trans (kf4.1.trans kr1), ((kf5.2 t).2.1.trans (kf4.2 t).2.1).trans ft1⟩
  have nf : ∀ x, x ∈ krt σ7 0 → gI σ7 584 x ≠ 0 := fun x hx q => by
    rw [kf7.1] at hx
    rw [(kf7.2 x).2.1] at q
    obtain ⟨a, -, b⟩ := R6.1.2.1 x hx q
    rw [kt5.1, List.mem_singleton] at a
    rw [a] at b q
    rw [b.1, kt5.2] at q
    omega
  have ol7 : gI σ7 390 0 + nfr σ7 (krt σ7 0) ≤ 320 := by
    have a := R6.1.2.2.2
    have b : gI τ5 390 0 = 0 := by
      rw [f5.i _ _ (fun q => by unfold mWr mBw at q; omega), f24.i _ _ (fun q => by unfold mRm mWc mWr mBw mSf mMv at q; omega)]
      exact o1
    have c : nfr τ5 (krt τ5 0) = 0 := by
      rw [kt5.1, nfr_cons, if_neg (by rw [kt5.2]; omega)]; rfl
    rw [kf7.1, nfr_ext (σ := τ6) (fun x _ => (kf7.2 x).2.1), f7.i _ _ (fun q => by omega)]
    omega
  have pm : (orL σ7 0).Perm (nlL (AM db5 L)) ∧ 0 ≤ gI σ7 218 0 ∧ gI σ7 218 0 ≤ 8 := by
    have e := (si1 _ (Or.inl rfl)).trans oc1
    refine ⟨?_, by omega, by omega⟩
    rw [am, rtN_nl]
    unfold orL
    rw [e]
    exact List.Perm.refl _
  have e7e := emp_one (u := gA σ7 323 0) (n := k) hc (fun m m0 m1 e => by rw [us7, ns m e]; exact (u1 m m0 m1).1)
  have e7r := emp_le (cf := cf) (gA σ7 323 0) (gA σ7 325 0)
  have sr7 : srl (db5 k) 0 = 1 := (srl_ext (n := 48) (by omega) d5).trans c2
  have sk7 : rI4 (db5 k) 4 ≠ 0 := by
    have := j5.1.2.1
    rw [Int.zero_add] at this
    omega
  have cap : cpM [rtN] ≤ capa cf := by
    show (48 + 192 + 0 : Int) ≤ (cf.1 - 10 - cf.2.2 - 8) * ((cf.2.1 - 2) * 128 - 256)
    have : (2 : Int) * 512 ≤ (cf.1 - 10 - cf.2.2 - 8) * ((cf.2.1 - 2) * 128 - 256) := Int.mul_le_mul (by omega) (by omega) (by omega) (by omega)
    omega
  have I7 : SIc tv cf σ7 dk5 db5 L 1 420 := ⟨S7, ⟨by rw [← hL]; show 1 ≤ 880; omega, by rw [am]; exact cap⟩, by rw [si _ (Or.inl rfl), h6f]; omega, ⟨(si1 _ (Or.inr rfl)).trans s1, by omega⟩, pm, by omega, fun e he => by rw [mL e he]; show srl (db5 k) 0 ≤ 1; omega⟩
  have N7 : BCn tv cf σ7 dk5 db5 L 0 0 2 1 := by
    refine ⟨⟨lg7, Or.inl rfl, (si _ (by omega)).trans h6d, by omega, by omega⟩, ⟨fun q => ?_, fun q => ?_⟩, fun m hm j j0 j1 => ?_, ⟨fun m m0 m1 q => ?_, fun x hx q => absurd q (nf x hx)⟩, fun q => absurd (wn7 0 (Or.inl rfl)) q, pm, ⟨by rw [si _ (by omega), h6c]; omega, fun j j0 j1 => by rw [si _ (by omega), h6c] at j1; omega⟩, ol7, fun m m0 m1 q => absurd (by rw [of7]; exact of5 m (by omega) m1) q⟩
    · rw [dz _ (by omega)] at q; omega
    · rw [dz _ (by omega)] at q; omega
    · rw [dz _ (by omega)] at j1; omega
    · rw [uz m (by omega) m1 q, x7, sr7]
      exact ⟨by omega, sk7, by omega⟩
  refine sp_commitF hc I7 D7 N7 ⟨by omega, by omega⟩ (by omega) ⟨(si _ (by omega)).trans h6a, (si _ (by omega)).trans h6b⟩ ⟨by omega, by omega⟩ (fun m m0 m1 q => ⟨2, hw, by rw [n7]; exact (uz m (by omega) m1 (by omega)).symm⟩) (by omega) (fun υ dk' db' P8 am8 rm8 ro8 f8 k8 _ => ?_)
  have nx8 : gI υ 203 0 = 2 := (f8.i _ _ (fun q => by unfold mCw mCf mCm mEc mTb mWt mMd mRow mRm mWc mSf mWr mMl mBw mMv mBh mBg mIx mB2 mWr mMl mBw mMv mRow at q; omega)).trans ((si _ (Or.inl rfl)).trans h6f)
  rw [am] at am8
  rw [am8, nx8] at P8
  refine hQ υ dk' db' L P8 am8 nx8 (ro8 (by omega)) ((f1.mono (fun f o' q => Or.inl (Or.inl q))).tr ((f27.mono (fun f o' q => ?_)).tr (f8.mono (fun f o' q => Or.inr q)))) k8
  rcases q with q | q | q | q | q
  · exact Or.inl (Or.inr (Or.inl q))
  · exact Or.inl (Or.inr (Or.inr (Or.inl q)))
  · exact Or.inl (Or.inr (Or.inr (Or.inr (Or.inl q))))
  · rcases q with q | q | q
    · exact Or.inl (Or.inl (Or.inl (Or.inr (Or.inr (Or.inl (Or.inl q))))))
    · exact Or.inl (Or.inl (Or.inl (Or.inr (Or.inr (Or.inl (Or.inr q))))))
    · exact Or.inl (Or.inl (Or.inl (Or.inr (Or.inl ⟨by omega, q.2⟩))))
  · exact Or.inl (Or.inr (Or.inr (Or.inr (Or.inr q))))
