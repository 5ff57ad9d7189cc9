/-- the free block that was filled in vain is lost -/
theorem FI.lose {tv : Nat → Int} {cf : Cf} {σ : St} {o : Int} {lp : Int → Int → Int} {vw : Int → Int} {vp : Int → Int → Int → Int} {Sp : Int → Int → (Int → Int → Int) → Prop} {T : Int} (hc : CfOK cf) {b S : Int} {Q : St → Prop} (h : FI tv cf σ o lp vw vp Sp T b S) (hb : 0 ≤ b ∧ b < cf.1) (hf : gI σ 136 0 < 0) (hk : brk σ cf.1.toNat + 1 ≤ fl σ)
    (hQ : ∀ τ, BI tv cf τ o lp vw vp Sp T NoE → UT cf o σ lp τ lp → gI τ 136 0 < 0 → Fr (mSt o) σ τ → Q τ) : wp_Blocks_lose cf tv o b Q σ := by
  obtain ⟨n1, n2⟩ := h.1.nb hb.1 (Or.inl h.2.1)
  refine sp_lose hc h.1 hb rfl (E' := NoE) (fun b' _ ne q => ne q) n1 n2 hf hk (fun τ H c1 c2 c3 f => ?_)
  have nn : ∀ f o', f ≠ 259 → f ≠ 134 → ¬ ((f = 259 ∧ o' = o) ∨ (f = 134 ∧ o' = 0)) := fun f o' x y q => by omega
  refine hQ τ H ?_ ?_ (f.mono (fun f o' q => by unfold mSt; omega))
  · intro y y0 y1 z1 z2
    have ne : y ≠ b := fun e => by rw [e] at z2; exact z2 c2
    exact ⟨c1 y ne, by rw [f.a _ _ (nn 133 0 (by decide) (by decide))], fun _ _ _ => rfl⟩
  · rw [f.i _ _ (nn 136 0 (by decide) (by decide))]; exact hf
theorem sp_carry {tv : Nat → Int} {cf : Cf} {σ : St} {o : Int} {lp : Int → Int → Int} {vw : Int → Int} {vp : Int → Int → Int → Int} {Sp : Int → Int → (Int → Int → Int) → Prop} {T : Int} (hc : CfOK cf) (hrk : RK σ) {n from' many : Int} {Q : St → Prop} (h : BI tv cf σ o lp vw vp Sp T NoE) (hn : 0 ≤ n ∧ n < cf.1 - 6) (hm : gI σ 265 o ≠ n) (hmany : 0 ≤ many ∧ many ≤ cf.2.1 - 2) (hfrom : many = 0 ∨ (from' = gA σ 258 o n ∧ many ≤ vw n)) (hS : WS tv cf σ o lp Sp n (vp n) many) (hT : T + 6 < 1073741824)
    (hQ : ∀ τ lp', BI tv cf τ o lp' (upF vw n many) vp Sp (T + 6) (OneE (gA σ 258 o n)) → gA τ 258 o n ≠ gA σ 258 o n → (gA σ 258 o n ≠ -1 → gA τ 259 o (gA σ 258 o n) = n) → FK σ τ → Fr (mCa o) σ τ → RK τ → Q τ) : wp_Blocks_carry cf tv o n from' many Q σ := by
  have hP : 8 ≤ cf.2.1 ∧ cf.2.1 ≤ 32 := hc.2.1
  have hB : 24 ≤ cf.1 ∧ cf.1 ≤ 64 := hc.1
  unfold wp_Blocks_carry
  refine lQ1_rule (fun y τ => (y ≠ 0 → Q τ) ∧ (y = 0 → ∃ lp1 T1, BI tv cf τ o lp1 vw vp Sp T1 NoE ∧ RK τ ∧ Fr (mSt o) σ τ ∧ FK σ τ ∧ UT cf o σ lp τ lp1 ∧ ((0 ≤ gI τ 136 0 ∧ T1 ≤ T) ∨ (gI τ 136 0 < 0 ∧ T1 ≤ T + 3)))) (fun y τ => if y = 0 then (if 0 ≤ gI τ 136 0 then 2 else 1) else 0) ?_ 0 σ ⟨fun q => absurd rfl q, fun _ => ⟨lp, T, h, hrk, Fr.rf _ _, FK.rf _, UT.rf _ _ _ _, by omega⟩⟩
  intro K y τ hI hK
  unfold wp_Blocks_carry_L3
  refine ⟨fun q => hI.1 q, fun q => ?_⟩
  obtain ⟨lp1, T1, h1, h2, h3, h4, h5, h6⟩ := hI.2 q
  refine sp_fetch hc h2 h1 (by omega) (fun b σ1 lp2 H hb hcb k1 u1 f1 r1 _ _ => ⟨fun _ => ?_, fun e => by omega⟩)
  obtain ⟨G, wb⟩ := FI.beg H hb hcb
  have bt := H.2.2.2.2.2.2.2.2.2
  unfold BT at bt
  refine sp_writeHead hc H.1 hb wb (by unfold rI; omega) (by unfold rZ; omega) (by unfold rI; omega) (by unfold rI; omega) (by omega) (fun r τ1 x rz hF ew es h0 h11 hx fr _ r2 => ?_)
  have nw : ∀ f o', (f = 134 ∨ f = 259 ∨ f = 260) → ¬ (mBp o f o' ∨ (f = 261 ∧ o' = o)) := fun f o' a q => by unfold mBp mFw at q; omega
  have frs : Fr (mSt o) σ1 τ1 := fr.mono (fun f o' q => by unfold mBp mFw at q; unfold mSt; omega)
  obtain ⟨G1, u2, bk2, k2⟩ := G.w hc hb (p := 1) (r := r) (T' := T1 + 3) ⟨by omega, by omega⟩ wb rz hF ew h0 h11 (fr.a _ _ (nw _ _ (by decide))) (fr.a _ _ (nw _ _ (by decide))) (fr.a _ _ (nw _ _ (by decide))) frs ⟨by omega, by omega⟩ ⟨by omega, by omega⟩
  have nofail : ∀ υ, FK τ υ → 0 ≤ gI υ 136 0 → 0 ≤ gI τ 136 0 := fun υ k z => by
    apply Classical.byContradiction
    intro z'
    have := (k (by omega)).1
    omega
  refine lQ3_rule (fun y4 y5 y6 υ => y5 = b ∧ rZ y4 ∧ (0 ≤ y6 ∧ y6 ≤ many) ∧ ∃ lp3, FI tv cf υ o lp3 vw vp Sp (T1 + 3) b (gI σ1 261 o) ∧ UT cf o σ lp υ lp3 ∧ FK τ υ ∧ RK υ ∧ Fr (mSt o) σ υ ∧ gI υ 261 o = gI σ1 261 o + 1 ∧ (y4 = 1 → FB tv cf υ o lp3 b n 0 0 0 (vp n) y6) ∧ (y4 = 0 → brk υ cf.1.toNat + 1 ≤ fl υ ∧ gI υ 136 0 < 0 ∧ 0 ≤ gI τ 136 0)) (fun _ _ y6 _ => (many - y6).toNat) ?_ r b 0 τ1 ⟨rfl, rz, by omega, _, G1, (h5.tr u1).tr u2, k1.tr k2, r2, (h3.tr f1).tr frs, es, fun e => ?_, fun e => ⟨bk2 e, (h0 e).2, nofail σ1 k1 (h0 e).1⟩⟩
  · intro K' y4 y5 y6 υ hI' hK'
    obtain ⟨e5, z4, hy6, lp3, g1, g2, g3, g4, g5, g6, g7, g8⟩ := hI'
    have ebo : gA υ 258 o = gA σ 258 o := g5.a _ _ (mSt_no o _ _ (by decide))
    have emv : gI υ 265 o = gI σ 265 o := g5.i _ _ (mSt_no o _ _ (by decide))
    have fin : (y4 = 0 ∨ y6 = many) → wp_Blocks_carry_b99 cf tv o n from' many Q K y4 y5 υ := by
      intro hyy
      unfold wp_Blocks_carry_b99 wp_Blocks_carry_b129
      rw [e5]
      refine ⟨fun e => ?_, fun e => ⟨hb, fun σ29 e29 => ⟨hn, fun σ30 e30 => ?_⟩⟩⟩
      · obtain ⟨q1, q2, q3⟩ := g8 e
        refine g1.lose hc hb q2 q1 (fun τ' H' u' f' fr' k' => ?_)
        refine hK y4 τ' ⟨fun z => absurd e z, fun _ => ⟨lp3, T1 + 3, H', k', g5.tr fr', ?_, g2.tr u', Or.inr ⟨f', by omega⟩⟩⟩ ?_
        · intro z
          have := (h4 z).1
          omega
        · rw [if_pos e, if_pos q, if_neg (by omega), if_pos q3]; omega
      · have y41 : y4 = 1 := by unfold rZ at z4; omega
        have hy : y6 = many := by omega
        have fb := g7 y41
        rw [hy] at fb
        have ws := hS.ut hc g2 g1.1.1
        have D := g1.done hc hb hn fb hmany.1 (by omega) (by omega) (by omega) (Or.inl (by rw [fb.2.2.2.2.1]; decide)) (by rw [emv]; exact hm) ws
        rw [upV_id, ← e29, ← e30, ebo] at D
        obtain ⟨n1, -⟩ := g1.1.nb hb.1 (Or.inl g1.2.1)
        have n1' := n1 n hn.1 hn.2
        rw [ebo] at n1'
        refine hK y4 σ30 ⟨fun _ => ?_, fun z => absurd z e⟩ (by rw [if_neg e, if_pos q]; split <;> omega)
        have k30 : RK σ30 := by
          rw [e30, e29]
          exact (g4.sA (by show rI n; unfold rI; omega)).sA (by show rI b; unfold rI; omega)
        refine hQ σ30 lp3 (D.ex (fun _ z => z) (by omega) hT) ?_ ?_ ?_ ?_ k30
        · rw [e30, sA_eq]; exact Ne.symm n1'
        · intro z
          rw [e30, sA_of (by decide), e29, sA_ne n1']
          have bn := g1.1.2.2.2.1 n hn.1 hn.2
          rw [ebo] at bn
          rcases bn with w | w
          · exact absurd w z
          · exact w.2
        · refine (h4.tr g3).tr ?_
          intro z
          rw [e30, e29]
          exact ⟨z, funext (fun i => by rw [sA_of (by decide), sA_of (by decide)])⟩
        · refine (g5.mono (fun f o' q => Or.inl q)).tr ?_
          rw [e30, e29]
          exact ((Fr.rf _ _).sA (Or.inl (Or.inr ⟨Or.inl (by decide), rfl⟩))).sA (Or.inr ⟨rfl, rfl⟩)
    unfold wp_Blocks_carry_L45
    refine ⟨fun z => fin (Or.inr (by omega)), fun z => ⟨fun e => fin (Or.inl e), fun e => ?_⟩⟩
    have y41 : y4 = 1 := by unfold rZ at z4; omega
    have fb := g7 y41
    obtain ⟨fq1, fq2⟩ : from' = gA σ 258 o n ∧ many ≤ vw n := by
      rcases hfrom with w | w
      · omega
      · exact w
    have bv := g1.1.2.2.2.2.2.2.2.1 n hn.1 hn.2
    have bn := g1.1.2.2.2.1 n hn.1 hn.2
    rw [ebo, ← fq1] at bv bn
    have fne : from' ≠ -1 := fun w => by have := bv.1 w; omega
    obtain ⟨v1, v2⟩ := bv.2 fne
    have fb' : 0 ≤ from' ∧ from' < cf.1 := by
      rcases bn with w | w
      · exact absurd w fne
      · exact w.1
    rw [w32_id (by unfold rI; omega), e5]
    refine sp_flash_read hc g1.1.1 fb' ⟨by omega, by omega⟩ (Or.inr (by decide)) (by omega) (by rw [(al128 cf o).2.1]; omega) (by omega) (fun υ1 ea fa ra => ?_)
    have na : ∀ f o', rBI o f o' → ¬ ((f = 135 ∧ o' = 0) ∨ (f = 263 ∧ o' = o)) := fun f o' a q => by unfold rBI at a; omega
    have G2 := g1.fr fa na
    have FB2 := fb.fr fa na
    refine sp_flash_write hc G2.1.1 ra hb FB2.1.symm (by omega) (Or.inr (by decide)) (by decide) (by omega) (by rw [(al128 cf o).2.1]; omega) (fun r' υ2 x' rz' hF' ew' q0 q1 q2 fw _ rk' => ?_)
    intro y7 hy7
    rw [w32_id (by unfold rI; omega)] at hy7
    rw [hy7]
    have nv : ∀ f o', (f = 134 ∨ 136 < f) → ¬ mFw f o' := fun f o' a q => by unfold mFw at q; omega
    have fws : Fr (mSt o) υ1 υ2 := fw.mono (fun f o' q => by unfold mFw at q; unfold mSt; omega)
    have fas : Fr (mSt o) υ υ1 := fa.mono (fun f o' q => by unfold mSt; omega)
    have es2 : gI υ2 261 o = gI υ1 261 o := fw.i _ _ (nv _ _ (by decide))
    have es1 : gI υ1 261 o = gI υ 261 o := fa.i _ _ (na _ _ (Or.inr ⟨Or.inl (by decide), rfl⟩))
    have bt1 := G2.1.2.2.2.2.2.2.2.2.2
    unfold BT at bt1
    obtain ⟨G3, u3, bk3, k3⟩ := G2.w hc hb (p := 2 + y6) (r := r') (T' := T1 + 3) ⟨by omega, by omega⟩ FB2.1 rz' hF' ew' q0 q1 (fw.a _ _ (nv _ _ (by decide))) (fw.a _ _ (nv _ _ (by decide))) (fw.a _ _ (nv _ _ (by decide))) fws ⟨by omega, by omega⟩ ⟨by omega, by omega⟩
    have ka : FK υ υ1 := FK.fr fa (na _ _ (Or.inl ⟨Or.inr (Or.inl rfl), rfl⟩)) (na _ _ (Or.inl ⟨Or.inl (by decide), rfl⟩))
    refine hK' r' b (y6 + 1) υ2 ⟨rfl, rz', by omega, _, G3, (g2.tr (UT.fr fa na)).tr u3, (g3.tr ka).tr k3, rk', (g5.tr fas).tr fws, by omega, fun e1 => ?_, fun e0 => ⟨bk3 e0, (q0 e0).2, nofail υ1 (g3.tr ka) (q0 e0).1⟩⟩ (by omega)
    refine FB2.nx hc ⟨by omega, by omega⟩ ew' es2 (fun i i0 i1 => ?_)
    rw [q2 e1 i i0 i1, ea]
    dsimp only
    rw [if_pos (by omega), v2 y6 (by omega) (by omega) i i0 i1, show 0 + i - 0 = i by omega]
  · obtain ⟨x1, x2, x3, x4, x5, x6⟩ := hx e
    unfold FB
    rw [upP_at]
    exact ⟨by rw [ew]; unfold upF; rw [if_pos rfl]; omega, x1, x2, by rw [x3]; exact es.symm, x4, x5, x6, fun j j0 j1 => by omega⟩
