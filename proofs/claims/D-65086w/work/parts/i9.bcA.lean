/-! Store.beginCommit, from the flush of the mover on: the walk up to the log -/
theorem sp_bc47 {tv : Nat → Int} {cf : Cf} {σ : St} {dk : Int → Int} {db : Int → Int → Int} {B c0 b0 cO lO s G : Int} {r : RT} {L : List (Int × Int × Int × Int × Int × Int)} {Q : St → Prop} (hc : CfOK cf) (h : SA tv cf σ dk db L) (hD : DJ tv cf σ 0 dk db (SpC cf c0 b0 r) B) (hB : B + 6 < 1073741000) (hL : L.length ≤ 880) (hs : gI σ 202 0 = s) (hr : 0 ≤ s ∧ s < 3000000000000000000) (hN : BCn tv cf σ dk db L c0 cO lO s) (hG : cst cf (fS σ (krt σ 0)) + G ≤ emp cf (gA σ 323 0))
    (hQ : ∀ τ dk' db' R NW, SA tv cf τ dk' db' L → DJ tv cf τ 0 dk' db' (SpC cf c0 b0 r) (B + 6) → CI tv cf τ dk' db' L (cO + 1) (5 - lO) (s + 1) (gI τ 202 0) 0 0 G R NW ((krt σ 0).filter (fun x => decide (gI σ 584 x = 0))) → fS τ R = fS σ (krt σ 0) → NBd tv τ dk' db' (5 - lO) s → BCo cf σ τ dk dk' db db' lO → RK τ → Q τ) : wp_Store_beginCommit_b47 cf tv 0 Q σ := by
  have hR : 0 ≤ cf.2.2 ∧ cf.2.2 ≤ 4 := hc.2.2
  have hP : 8 ≤ cf.2.1 ∧ cf.2.1 ≤ 32 := hc.2.1
  have hBl : 24 ≤ cf.1 ∧ cf.1 ≤ 64 := hc.1
  have hN' := hN
  have lOr : 2 ≤ 5 - lO ∧ 5 - lO ≤ 3 := by have := hN.1.2.1; omega
  obtain ⟨⟨g1, g2, g3, g4⟩, ⟨g5, g6⟩, g7, ⟨g8, g9⟩, g10, ⟨g11, g12⟩, ⟨g13, g14⟩, g15, g16⟩ := hN'
  clear g8 g9 g14 g15 g16
  have n2 : gI σ 451 2 = -1 ∨ 4 + cf.2.2 ≤ gI σ 451 2 := by
    rcases h.1.1.all.1 2 (Or.inr (Or.inl rfl)) with q | q
    · exact Or.inl q
    · exact Or.inr q.1.1
  unfold wp_Store_beginCommit_b47
  refine sp_saflush hc h hD (w := 0 + 2) (Or.inr (Or.inl rfl)) (fun σ1 dk1 db1 S1 D1 n1 fl1 p1 d1 lg1 f1 σ2 e2 σ3 e3 => ?_)
  have d1' : ∀ m, m < 4 + cf.2.2 → 0 ≤ m → dk1 m = dk m ∧ ∀ p, db1 m p = db m p := fun m m1 m0 => d1 m (by show m ≠ gI σ 451 2; omega)
  have nf1 : ∀ {g : Nat} {x : Int}, (g = 208 ∨ g = 212 ∨ g = 218 ∨ g = 202 ∨ g = 211) → gI σ1 g x = gI σ g x := fun {g x} hg => f1.i _ _ (fun q => by unfold mWr mBw at q; omega)
  have l2 : gI σ2 208 0 = lO := by rw [e2, gI_sIo (by decide), nf1 (by omega)]; exact g1
  rw [l2, w32_id (by unfold rI; omega)] at e3
  rw [nf1 (by omega), g1] at e2
  have f13 : Fr (fun f o' => (f = 219 ∨ f = 208) ∧ o' = 0) σ1 σ3 := by rw [e3, e2]; exact ((Fr.rf _ _).sI ⟨Or.inl rfl, rfl⟩).sI ⟨Or.inr rfl, rfl⟩
  have k3 : RK σ3 := by rw [e3, e2]; exact (S1.1.2.sI (by show rI _; unfold rI; omega)).sI (by show rI _; unfold rI; omega)
  have l3 : gI σ3 208 0 = 5 - lO := by rw [e3, gI_sI1]
  have ol3 : gI σ3 219 0 = lO := by rw [e3, gI_sIo (by decide), e2, gI_sI1]
  have S3 := S1.fr f13 (fun f o' a q => by unfold mSA isW at a; omega) k3
  have D3 := D1.fr f13 (fun f o' a q => by unfold rBI at a; omega)
  rw [l3]
  have dl : dk1 (5 - lO) = dk (5 - lO) ∧ ∀ p, db1 (5 - lO) p = db (5 - lO) p := d1' _ (by omega) (by omega)
  refine sp_jdrop hc k3 D3 (n := 5 - lO) ⟨by omega, by omega⟩ (by omega) (fun w w0 w1 => ⟨fun _ _ => ?_, fun a => absurd a (by omega), fun a => absurd a (by omega)⟩) hB (fun σ4 D4 _ f4 k4 _ σ5 e5 => ?_)
  · by_cases q : w ≤ 0
    · exact Or.inl q
    · refine Or.inr ?_
      rw [dl.1] at w1
      have e : rI4 (pgs db1 (5 - lO) 0) 24 = rI4 (db (5 - lO)) 24 := rI4_ext (fun i i0 i1 => by
        show db1 (5 - lO) (128 * 0 + i) = _
        rw [dl.2, show 128 * 0 + i = i by omega])
      rw [e]
      exact g5 (by omega)
  have S4 := (S3.low (dk' := upF dk1 (5 - lO) (-1)) (db' := db1) (fun m m0 m1 => ⟨by unfold upF; rw [if_neg (by omega)], fun _ => rfl⟩)).fr f4 (fun f o' a q => by unfold mSA isW at a; unfold mMv at q; omega) k4
  have c4 : gI σ4 212 0 = cO := by rw [f4.i _ _ (fun q => by unfold mMv at q; omega), f13.i _ _ (fun q => by omega), nf1 (by omega)]; exact g3
  rw [c4, w32_id (by unfold rI; omega)] at e5
  have f5 : Fr (fun f o' => f = 212 ∧ o' = 0) σ4 σ5 := by rw [e5]; exact (Fr.rf _ _).sI ⟨rfl, rfl⟩
  have k5 : RK σ5 := by rw [e5]; exact k4.sI (by show rI _; unfold rI; omega)
  have c5 : gI σ5 212 0 = cO + 1 := by rw [e5, gI_sI1]
  have F5 : Fr mBg σ σ5 := (((f1.mono (fun f o' q => Or.inl q)).tr (f13.mono (fun f o' q => Or.inr (Or.inr (Or.inr (Or.inr ⟨by omega, q.2⟩)))))).tr (f4.mono (fun f o' q => Or.inr (Or.inl (Or.inr q))))).tr (f5.mono (fun f o' q => Or.inr (Or.inr (Or.inr (Or.inr ⟨by omega, q.2⟩)))))
  have oc5 : gI σ5 218 0 = gI σ 218 0 := F5.i _ _ (fun q => by unfold mBg mWr mMl mBw mMv mRow mB2 at q; omega)
  rw [c5, oc5]
  refine sp_sheetOf (Or.inl rfl) (by omega) (by unfold rI; omega) (by unfold rI; omega) (fun σ6 b6 a6 f6 k6 _ => ?_)
  have F6 : Fr mBg σ σ6 := F5.tr (f6.mono (fun f o' q => Or.inr (Or.inr (Or.inl q))))
  have n6 : ∀ {g : Nat}, (g = 218 ∨ g = 217) → ¬ mBg g 0 := fun {g} hg q => by unfold mBg mWr mMl mBw mMv mRow mB2 at q; omega
  refine sp_bcorp (c := cO + 1) (n := gI σ 218 0) k6 (F6.i _ _ (n6 (by omega))) g12 a6 b6 (fun σ7 K b7 o7 a7 f7 k7 => ?_)
  have F7 : Fr mBg σ σ7 := F6.tr (f7.mono (fun f o' q => Or.inr (Or.inr (Or.inl ⟨Or.inl q.1, q.2⟩))))
  unfold wp_Store_beginCommit_L109
  rw [F7.i 218 0 (n6 (by omega))]
  refine ⟨fun _ => ?_, fun q => absurd (Int.le_refl _) q⟩
  have f57 : Fr (mRow 4) σ5 σ7 := f6.tr (f7.mono (fun f o' q => ⟨Or.inl q.1, q.2⟩))
  have s7 : gI σ7 202 0 = s := by rw [f57.i _ _ (fun q => by unfold mRow at q; omega), f5.i _ _ (fun q => by omega), f4.i _ _ (fun q => by unfold mMv at q; omega), f13.i _ _ (fun q => by omega), nf1 (by omega)]; exact hs
  refine sp_shclose (Or.inl rfl) a7 b7 s7 ⟨hr.1, by omega⟩ (fun σ8 b8 c8 s8 a8 f8 k8 => ?_)
  have F8 : Fr mBg σ σ8 := F7.tr (f8.mono (fun f o' q => by
    rcases q with q | q
    · exact Or.inr (Or.inr (Or.inl ⟨Or.inl q.1, q.2⟩))
    · exact Or.inr (Or.inr (Or.inr (Or.inr ⟨by omega, q.2⟩)))))
  have f48 : Fr (fun f o' => mRow 4 f o' ∨ ((f = 212 ∨ f = 202) ∧ o' = 0)) σ4 σ8 := ((f5.mono (fun f o' q => Or.inr ⟨Or.inl q.1, q.2⟩)).tr (f57.mono (fun f o' q => Or.inl q))).tr (f8.mono (fun f o' q => by
    rcases q with q | q
    · exact Or.inl ⟨Or.inl q.1, q.2⟩
    · exact Or.inr ⟨Or.inr q.1, q.2⟩))
  have S8 := S4.fr f48 (fun f o' a q => by unfold mSA isW at a; unfold mRow at q; omega) k8
  have D8 := D4.fr f48 (fun f o' a q => by unfold rBI at a; unfold mRow at q; omega)
  have l8 : gI σ8 208 0 = 5 - lO := by rw [f48.i _ _ (fun q => by unfold mRow at q; omega), f4.i _ _ (fun q => by unfold mMv at q; omega)]; exact l3
  rw [l8]
  have u4 : upF dk1 (5 - lO) (-1) (5 - lO) = -1 := by unfold upF; rw [if_pos rfl]
  refine sp_shwrite hc (Or.inl rfl) k8 D8 (n := 5 - lO) (k := 0) ⟨by omega, by omega⟩ (by omega) (by rw [u4]; rfl) (by omega) (fun σ9 D9 f9 k9 _ σ10 e10 => ?_)
  have f10 : Fr (fun f o' => f = 209 ∧ o' = 0) σ9 σ10 := by rw [e10]; exact (Fr.rf _ _).sI ⟨rfl, rfl⟩
  have k10 : RK σ10 := by rw [e10]; exact k9.sI (by show rI 1; unfold rI; omega)
  have F10 : Fr mBg σ σ10 := (F8.tr (f9.mono (fun f o' q => Or.inr (Or.inl (Or.inl q))))).tr (f10.mono (fun f o' q => Or.inr (Or.inr (Or.inr (Or.inr ⟨by omega, q.2⟩)))))
  generalize hdk9 : upF (upF dk1 (5 - lO) (-1)) (5 - lO) (0 + 1) = dk9 at D9
  generalize hdb9 : putB db1 (5 - lO) (128 * 0) 128 (gA σ8 512 (0 + 4)) = db9 at D9
  have dk9e : ∀ m, m ≠ 5 - lO → dk9 m = dk1 m := fun m ne => by rw [← hdk9]; unfold upF; rw [if_neg ne, if_neg ne]
  have dk9l : dk9 (5 - lO) = 1 := by rw [← hdk9]; unfold upF; rw [if_pos rfl]; rfl
  have db9e : ∀ m, m ≠ 5 - lO → ∀ p, db9 m p = db1 m p := fun m ne p => by rw [← hdb9]; unfold putB; rw [if_neg (fun q => ne q.1)]
  have db9l : ∀ i, 0 ≤ i → i < 128 → db9 (5 - lO) i = gA σ8 512 4 i := fun i i0 i1 => by
    rw [← hdb9]; unfold putB
    rw [if_pos ⟨rfl, by omega, by omega⟩]
    show gA σ8 512 4 (i - 128 * 0) = _
    congr 1
    omega
  have S10 := ((S8.low (dk' := dk9) (db' := db9) (fun m m0 m1 => ⟨by rw [dk9e m (by omega)]; unfold upF; rw [if_neg (by omega)], db9e m (by omega)⟩)).fr f9 (fun f o' a q => by unfold mSA isW at a; unfold mBw at q; omega) k9).fr f10 (fun f o' a q => by unfold mSA isW at a; omega) k10
  have D10 := D9.fr f10 (fun f o' a q => by unfold rBI at a; omega)
  have bc10 : gI σ10 211 0 = gI σ 211 0 := by
    rw [f10.i _ _ (fun q => by omega), f9.i _ _ (fun q => by unfold mBw at q; omega), f48.i _ _ (fun q => by unfold mRow at q; omega), f4.i _ _ (fun q => by unfold mMv at q; omega), f13.i _ _ (fun q => by omega), nf1 (by omega)]
  have bd10 : gA σ10 210 0 = gA σ 210 0 := by
    rw [f10.a _ _ (fun q => by omega), f9.a _ _ (fun q => by unfold mBw at q; omega), f48.a _ _ (fun q => by unfold mRow at q; omega), f4.a _ _ (fun q => by unfold mMv at q; omega), f13.a _ _ (fun q => by omega), f1.a _ _ (fun q => by unfold mWr mBw at q; omega)]
  have us10 : gA σ10 323 0 = gA σ 323 0 := by
    rw [f10.a _ _ (fun q => by omega), f9.a _ _ (fun q => by unfold mBw at q; omega), f48.a _ _ (fun q => by unfold mRow at q; omega), f4.a _ _ (fun q => by unfold mMv at q; omega), f13.a _ _ (fun q => by omega), f1.a _ _ (fun q => by unfold mWr mBw at q; omega)]
  -- page 0 of the log
  have R8 : ∀ j, 18 ≤ j → rI4 (gA σ8 512 4) j = rI4 (gA σ7 512 4) j := fun j j0 => rI4_ext (fun i i0 i1 => c8 i (by omega))
  have R9 : ∀ j, 0 ≤ j → j + 4 ≤ 128 → rI4 (db9 (5 - lO)) j = rI4 (gA σ8 512 4) j := fun j j0 j1 => rI4_ext (fun i i0 i1 => db9l i (by omega) (by omega))
  have am9 : AM db9 L = AM db L := AM.grow h.2.1.2.2 (fun e he p p0 p1 => by
    have q := h.2.1.2.2 e he
    rw [db9e _ (by omega)]
    exact (lg1.1 _ (by omega) q.1.2).2.2 p (by have := q.2.2.2.2.2.2; omega))
  have cnt9 : rI4 (db9 (5 - lO)) 28 = gI σ 218 0 := by rw [R9 _ (by omega) (by omega)]; exact b8.2.2.2.2
  have LP9 : lgP tv dk9 db9 (5 - lO) (s + 1) (cO + 1) (AM db9 L) := by
    refine ⟨by rw [dk9l]; omega, b8.1.ext (fun i i0 i1 => by rw [Int.zero_add, Int.zero_add, db9l i (by omega) (by omega)]), ?_, ?_, ?_, by rw [cnt9]; exact g12, ?_⟩
    · rw [db9l _ (by omega) (by omega)]; exact b8.2.1
    · rw [← b8.2.2.1]
      exact rL8_ext (fun i i0 i1 => db9l i (by omega) (by omega))
    · rw [R9 _ (by omega) (by omega)]; exact b8.2.2.2.1
    · rw [cnt9, am9]
      have e : cat1 (fun k => rI4 (db9 (5 - lO)) (32 + 4 * k)) (gI σ 218 0).toNat = orL σ 0 := cat1_ext _ (fun k k0 k1 => by
        show rI4 (db9 (5 - lO)) (32 + 4 * k) = _
        rw [R9 _ (by omega) (by omega), R8 _ (by omega), o7 k k0 (by omega)]
        rw [F6.a 217 0 (n6 (by omega))])
      rw [e]; exact g11
  have dk9d : ∀ m, m ≠ 5 - lO → dk9 m = dk1 m ∧ ∀ p, db9 m p = db1 m p := fun m ne => ⟨dk9e m ne, db9e m ne⟩
  have f110 : Fr mB3 σ1 σ10 := (((f13.mono (fun f o' q => Or.inr (Or.inr (Or.inr ⟨by omega, q.2⟩)))).tr (f4.mono (fun f o' q => Or.inl (Or.inr q)))).tr (f48.mono (fun f o' q => by
    rcases q with q | q
    · exact Or.inr (Or.inl q)
    · exact Or.inr (Or.inr (Or.inr ⟨by omega, q.2⟩))))).tr ((f9.mono (fun f o' q => Or.inl (Or.inl q))).tr (f10.mono (fun f o' q => Or.inr (Or.inr (Or.inr ⟨by omega, q.2⟩)))))
  refine sp_bcB hc h hL hr hN hG fl1 (fun q => by
    have q' : gI σ1 452 2 = (gI σ 452 2 + 127) / 128 * 128 := (p1 q).1
    omega) lg1 d1 dk9d dk9l S10 D10 k10 F10 f110 bc10 bd10 us10 LP9 ?_ ?_ ?_ ?_ (by rw [e10, gI_sI1]) hQ
  · rw [f10.i _ _ (fun q => by omega), f9.i _ _ (fun q => by unfold mBw at q; omega)]; exact s8
  · rw [f10.i _ _ (fun q => by omega), f9.i _ _ (fun q => by unfold mBw at q; omega)]; exact l8
  · rw [f10.i _ _ (fun q => by omega), f9.i _ _ (fun q => by unfold mBw at q; omega), f48.i _ _ (fun q => by unfold mRow at q; omega), f4.i _ _ (fun q => by unfold mMv at q; omega)]; exact ol3
  · rw [f10.i _ _ (fun q => by omega), f9.i _ _ (fun q => by unfold mBw at q; omega), f8.i _ _ (fun q => by unfold mRb at q; omega), f57.i _ _ (fun q => by unfold mRow at q; omega)]; exact c5
