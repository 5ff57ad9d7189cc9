/-! House.copy -/
theorem sp_Hcopy {tv : Nat → Int} {cf : Cf} {σ : St} {S S' : List (Int × Int × Int × (Int → Int)) × Int} {W : List (Int × (List (Int × Int × Int × (Int → Int)) × Int))} {r : RT} {B : Int} {h a h2 to n : Int} {Q : Int → St → Prop} (hc : CfOK cf) (hp : HP tv cf σ S S' W r B) (hC : HC σ S) (hrk : RK σ) (hB : B + 1642476 < 1073741000) (ha : rI a) (hto : rI to) (hn : rI n) (hh : HH (gA σ 70 0) (nds S.1))
    (h0 : ¬ cpOk (gA σ 70 0) h a h2 to n → Q (-3) σ)
    (hz : ∀ τ s, cpOk (gA σ 70 0) h a h2 to n → (gA σ 70 0 h, 2, s) ∈ nds S.1 → min n (s - a) ≤ 0 → HP tv cf τ S S' W r B → Fr mHs σ τ → RK τ → Q 0 τ)
    (h1 : ∀ τ w s w2 s2 d Sn Sn' Wn pn Bn, cpOk (gA σ 70 0) h a h2 to n → gA σ 70 0 h = w → (w, 2, s) ∈ nds S.1 → 0 < min n (s - a) → gA σ 70 0 h2 = w2 → (w2, 2, s2) ∈ nds S.1 → WTr cf w2 to (min n (s - a)) (byC S w a) 0 S S' W (plH cf σ) d Sn Sn' Wn pn → HP tv cf τ Sn Sn' Wn r Bn → Bn ≤ B + 1642476 → HC τ Sn → plH cf τ = pn → Fr (fun f o' => mHo f o' ∨ (f = 85 ∧ o' = 0)) σ τ → RK τ → Q (if d = 0 then -10 else d) τ) : wp_House_copy cf tv h a h2 to n Q σ := by
  have wf := hp.wf
  have wr := wf.wr
  have on : gI σ 69 0 = 1 := hC.2.2
  unfold rI at ha hto hn
  unfold wp_House_copy
  refine ⟨fun _ => ?_, fun w => by have w : gI σ 69 0 = 0 := w; omega⟩
  refine sp_HisHandle hrk (fun hd _ _ => ⟨fun w => absurd w (by decide), fun _ => ?_⟩) (fun hd _ _ => ⟨fun _ => h0 (fun q => hd ⟨q.1.1, (hh.pos wf q.1.1 q.1.2).1⟩), fun w => absurd rfl w⟩)
  refine sp_HisHandle hrk (fun hd2 _ _ => ⟨fun w => absurd w (by decide), fun _ => ?_⟩) (fun hd2 _ _ => ⟨fun _ => h0 (fun q => hd2 ⟨q.2.1.1, (hh.pos wf q.2.1.1 q.2.1.2).1⟩), fun w => absurd rfl w⟩)
  refine sp_isIn (fun q1 _ _ => ⟨fun w => absurd w (by decide), fun _ => ⟨fun w => h0 (fun q => by have := q.2.2.2.1; omega), fun q2 => ?_⟩⟩) (fun q1 _ _ => ⟨fun _ => h0 (fun q => q1 q.2.2.1), fun w => absurd rfl w⟩)
  rw [w32_id (x := 16384 - n) (by unfold rI; omega)]
  refine sp_isIn (fun q3 _ _ => ⟨fun _ => ⟨hd.1, ?_⟩, fun w => absurd w (by decide)⟩) (fun q3 _ _ => ⟨fun w => absurd rfl w, fun _ => h0 (fun q => q3 q.2.2.2.2)⟩)
  have okc : cpOk (gA σ 70 0) h a h2 to n := ⟨⟨hd.1, by omega⟩, ⟨hd2.1, by omega⟩, q1, by omega, q3⟩
  obtain ⟨-, s, row⟩ := hh.pos wf hd.1 (by omega)
  obtain ⟨-, s2, row2⟩ := hh.pos wf hd2.1 (by omega)
  have row : (gA σ 70 0 h, 2, s) ∈ nds S.1 := row
  have row2 : (gA σ 70 0 h2, 2, s2) ∈ nds S.1 := row2
  have ry : rI (gA σ 70 0 h) := hrk.2 70 0 h
  have sR : 0 ≤ s ∧ s ≤ 16384 := (wf.nk row).2.2
  refine sp_Pread hc hp ry (fun τ no => absurd row (no _ _)) (fun τ z z1 z2 z3 z4 z5 H f k _ _ => ?_)
  have z4' := z4
  rw [z3] at z4'
  have u := wr.u row z4' rfl
  rw [Prod.mk.injEq, Prod.mk.injEq] at u
  have g0 : Fr mHs σ τ := f.mono (fun f o' => Ri_s)
  intro y6 e6
  rw [show gI τ 643 0 = s from z5.2.2.2.1.trans u.2.2.symm, w32_id (by unfold rI; omega)] at e6
  refine ⟨fun gt => ?_, fun gt => hz τ s okc row (by omega) H g0 k⟩
  have zn : gI τ 640 0 = gA σ 70 0 h := z5.1.trans (by omega)
  refine lQ2_rule (fun y j υ => y = y6 ∧ (0 ≤ j ∧ j ≤ y6) ∧ HP tv cf υ S S' W r B ∧ Fr (fun f o' => mHs f o' ∨ (f = 85 ∧ o' = 0)) σ υ ∧ RK υ ∧ gI υ 640 0 = gA σ 70 0 h ∧ ∀ i, 0 ≤ i → i < j → gA υ 85 0 i = byC S (gA σ 70 0 h) a i) (fun _ j _ => (y6 - j).toNat) ?_ y6 0 τ ⟨rfl, by omega, H, g0.mono (fun f o' => Or.inl), k, zn, fun i i0 i1 => by omega⟩
  intro K y j υ hI kK
  obtain ⟨ey, hj, Hυ, gυ, kυ, nυ, cυ⟩ := hI
  rw [ey]
  have nb : ∀ g, (g = 69 ∨ g = 70 ∨ g = 71 ∨ g = 72) → ¬ (mHs g 0 ∨ (g = 85 ∧ (0 : Int) = 0)) := fun g hg q => by
    rcases q with q | q
    · exact q.2 (by unfold hK; omega)
    · omega
  have h70 : gA υ 70 0 = gA σ 70 0 := gυ.a _ _ (nb _ (by omega))
  unfold wp_House_copy_L101
  refine ⟨fun g => ⟨hd2.1, ?_⟩, fun g => ?_⟩
  · have hCυ : HC υ S := ⟨by rw [gυ.i _ _ (nb _ (by omega))]; exact hC.1, by rw [gυ.i _ _ (nb _ (by omega))]; exact hC.2.1, by rw [gυ.i _ _ (nb _ (by omega))]; exact hC.2.2⟩
    have plE : plH cf υ = plH cf σ := by
      unfold plH
      rw [gυ.i 451 0 (fun q => by
        rcases q with q | q
        · exact (mHs_W q).1 rfl
        · omega), gυ.i 452 0 (fun q => by
        rcases q with q | q
        · exact (mHs_W q).2 rfl
        · omega)]
    rw [h70]
    refine sp_Hput (by' := byC S (gA σ 70 0 h) a) hc Hυ hCυ kυ hB row2 (by omega) (by omega) (by omega) (fun τ' i Q' i0 i1 ec kτ kk => ?_) (fun τ' d Sn Sn' Wn pn Bn t1 t2 t3 t4 t5 t6 t7 _ _ => h1 τ' _ s _ s2 d Sn Sn' Wn pn Bn okc rfl row (by omega) rfl row2 (by rw [← e6, ← plE]; exact t1) t2 t3 t4 t5 ((gυ.mono (fun f o' q => q.elim (fun z => Or.inl (Or.inl z)) Or.inr)).tr (t6.mono (fun f o' => Or.inl))) t7)
    unfold wp_House_byteOf
    refine ⟨fun _ => ⟨fun _ => ⟨by omega, ?_⟩, fun w => absurd w (by decide)⟩, fun w => absurd w (by decide)⟩
    rw [show gA τ' 85 0 i = byC S (gA σ 70 0 h) a i by rw [show gA τ' 85 0 = gA υ 85 0 from ec]; exact cυ i i0 (by omega)]
    exact fun rb _ => kk rb
  · intro y8 e8 y9 e9
    rw [w32_id (x := a + j) (by unfold rI; omega), jrm_nn (by omega) (by omega) (by omega)] at e8
    rw [w32_id (x := y6 - j) (by unfold rI; omega), w32_id (x := 64 - y8) (by unfold rI; omega)] at e9
    rw [nυ, w32_id (x := a + j) (by unfold rI; omega), jdv_nn (by omega) (by omega) (by omega)]
    refine sp_Ppc hc Hυ ry (by unfold rI; omega) (fun τ1 l b P0 pI hl hb hbz H1 f1 k1 _ _ => ⟨by omega, fun σ45 e45 y7 e7 => ?_⟩)
    rw [w32_id (by unfold rI; omega)] at e7
    rw [e7]
    have f45 : Fr (fun f o' => f = 85 ∧ o' = 0) τ1 σ45 := by rw [e45]; exact (Fr.rf _ _).sAr ⟨rfl, rfl⟩
    have cop1 : gA τ1 85 0 = gA υ 85 0 := f1.a _ _ (fun q => (Rpc_s q).2 (by unfold hK; omega))
    have c45 : ∀ i, gA σ45 85 0 i = if j ≤ i ∧ i < j + y9 then gA τ1 77 0 (y8 + (i - j)) else gA υ 85 0 i := fun i => by
      rw [e45, gA_sAr1, cop1]; rfl
    have k45 : RK σ45 := by
      rw [e45]
      refine k1.sAr (fun i => ?_)
      unfold cpy
      split
      · exact k1.2 77 0 _
      · exact k1.2 85 0 _
    have pO := pI.o (cf := cf) (M := S.1) (nx := S.2) wf
    refine kK y6 (j + y9) σ45 ⟨rfl, by omega, H1.frH f45 (fun f o' q => by unfold mHR; omega) k45, (gυ.tr (f1.mono (fun f o' q => Or.inl (Rpc_s q)))).tr (f45.mono (fun f o' => Or.inr)), k45, ?_, fun i i0 i1 => ?_⟩ (by omega)
    · rw [f45.i _ _ (by omega), f1.i 640 0 (fun q => by unfold mRpc mR0 mRd2 mPg mRow mIs at q; omega)]; exact nυ
    · rw [c45]
      by_cases v : j ≤ i ∧ i < j + y9
      · rw [if_pos v]
        have e1 : (a + i) / 64 = (a + j) / 64 := by omega
        have e2 : (a + i) % 64 = y8 + (i - j) := by omega
        have fe := fbt_e (w := gA σ 70 0 h) (i := a + i) wf (by rw [e1]; exact pO)
        show gA τ1 77 0 (y8 + (i - j)) = fbt (pcs S.1) (gA σ 70 0 h) (a + i)
        rw [fe, e2]
        exact hb _ (by omega) (by omega)
      · rw [if_neg v]; exact cυ i i0 (by omega)
