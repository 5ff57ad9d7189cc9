/-! a move begins -/
/-- while nothing is moved, target and counts do not matter -/
theorem BI.tgt {tv : Nat → Int} {cf : Cf} {σ : St} {o : Int} {lp : Int → Int → Int} {vw : Int → Int} {vp : Int → Int → Int → Int} {Sp : Int → Int → (Int → Int → Int) → Prop} {T : Int} {τ : St} {E : Int → Prop} (h : BI tv cf σ o lp vw vp Sp T E) (hm0 : gI σ 265 o = -1) (hm : gI τ 265 o = -1) (fr : Fr (mMo o) σ τ) : BI tv cf τ o lp vw vp Sp T E := by
  obtain ⟨h1, h2, h3, h4, h5, h6, h7, h8, h9, h10⟩ := h
  have nm : ∀ f : Nat, ∀ o' : Int, (f < 265 ∨ 268 < f) → ¬ mMo o f o' := fun f o' x q => by unfold mMo at q; omega
  have ew := fr.a 133 0 (nm _ _ (by decide))
  have eb := fr.a 134 0 (nm _ _ (by decide))
  have ec := fr.a 259 o (nm _ _ (by decide))
  have ebo := fr.a 258 o (nm _ _ (by decide))
  have ee := fr.a 260 o (nm _ _ (by decide))
  have es := fr.i 261 o (nm _ _ (by decide))
  have ef := fr.i 136 0 (nm _ _ (by decide))
  have el := fl_fr fr (nm _ _ (by decide))
  have wh : ∀ b, whB tv cf τ lp b ↔ whB tv cf σ lp b := fun b => by unfold whB; rw [ew]
  refine ⟨h1.fr fr (fun f a c => nm f 0 (by omega)), ?_, ?_, ?_, Or.inl hm, ?_, ?_, ?_, ?_, ?_⟩
  · intro b b0 b1 bE
    rw [ew, eb, ee, es]
    exact h2 b b0 b1 bE
  · intro b b0 b1 bE
    rw [ew, eb, ec, ebo, wh]
    obtain ⟨y1, y2, y3, y4, y5⟩ := h3 b b0 b1 bE
    refine ⟨y1, y2, fun z => ?_, y4, y5⟩
    rcases y3 z with w | w
    · exact Or.inl w
    · exact absurd hm0 w.1
  · intro n n0 n1
    rw [ebo, ec]; exact h4 n n0 n1
  · intro b b' b0 b1 b0' b1' bb bE bE'
    rw [ec, eb, ew, wh]
    intro x1 x2 x3 x4 x5
    rcases h6 b b' b0 b1 b0' b1' bb bE bE' x1 x2 x3 x4 x5 with w | w
    · exact Or.inl w
    · omega
  · intro b b0 b1 bE
    rw [ec, ew, wh, ebo]
    exact h7 b b0 b1 bE
  · intro n n0 n1
    rw [ebo, ew]; exact h8 n n0 n1
  · unfold BF brk at h9 ⊢; rw [eb, ef, el]; exact h9
  · unfold BT at h10 ⊢; rw [es]; exact h10
theorem sp_count {tv : Nat → Int} {cf : Cf} (hc : CfOK cf) {σ : St} {o x : Int} {Q : Int → St → Prop} (hQ : ∀ r, (1 ≤ r → ∃ b, (0 ≤ b ∧ b < cf.1) ∧ gA σ 259 o b = x) → Q r σ) : wp_Blocks_count cf tv o x Q σ := by
  have hB : 24 ≤ cf.1 ∧ cf.1 ≤ 64 := hc.1
  unfold wp_Blocks_count
  refine lQ2_rule (fun y2 y3 τ => τ = σ ∧ (0 ≤ y3 ∧ y3 ≤ cf.1) ∧ (0 ≤ y2 ∧ y2 ≤ y3) ∧ (1 ≤ y2 → ∃ b, (0 ≤ b ∧ b < cf.1) ∧ gA σ 259 o b = x)) (fun _ y3 _ => (cf.1 - y3).toNat) ?_ 0 0 σ ⟨rfl, by omega, by omega, fun q => by omega⟩
  intro K y2 y3 τ hI hK
  obtain ⟨rfl, h3, h2, i1⟩ := hI
  unfold wp_Blocks_count_L4
  refine ⟨fun q => hQ y2 i1, fun q => ⟨by omega, fun z e z3 e3 => ?_⟩⟩
  rw [w32_id (by unfold rI; omega)] at e3
  by_cases hx : gA τ 259 o y3 = x
  · rw [if_pos hx, w32_id (by unfold rI; omega)] at e
    rw [e, e3]
    exact hK _ _ _ ⟨rfl, by omega, by omega, fun _ => ⟨y3, by omega, hx⟩⟩ (by omega)
  · rw [if_neg hx, w32_id (by unfold rI; omega)] at e
    rw [e, e3]
    exact hK _ _ _ ⟨rfl, by omega, by omega, fun w => i1 (by omega)⟩ (by omega)
theorem sp_toMove {tv : Nat → Int} {cf : Cf} (hc : CfOK cf) {σ : St} {o : Int} (hN : BN cf σ o) {Q : Int → St → Prop} (hQ : ∀ r, (r ≠ -1 → (0 ≤ r ∧ r < cf.1 - 6) ∧ gA σ 258 o r ≠ -1) → Q r σ) : wp_Blocks_toMove cf tv o Q σ := by
  have hB : 24 ≤ cf.1 ∧ cf.1 ≤ 64 := hc.1
  unfold wp_Blocks_toMove
  refine lQ2_rule (fun y1 y2 τ => τ = σ ∧ (0 ≤ y2 ∧ y2 ≤ cf.1 - 6) ∧ (y1 ≠ -1 → (0 ≤ y1 ∧ y1 < cf.1 - 6) ∧ gA σ 258 o y1 ≠ -1)) (fun _ y2 _ => (cf.1 - y2).toNat) ?_ (-1) 0 σ ⟨rfl, by omega, fun q => absurd rfl q⟩
  intro K y1 y2 τ hI hK
  obtain ⟨rfl, h2, i1⟩ := hI
  have hin : ∀ n, 0 ≤ n → n < cf.1 - 6 → gA τ 258 o n ≠ -1 → 0 ≤ gA τ 258 o n ∧ gA τ 258 o n < cf.1 := by
    intro n n0 n1 q
    rcases hN n n0 n1 with w | w
    · exact absurd w q
    · exact w.1
  have step : ∀ z, (z ≠ -1 → (0 ≤ z ∧ z < cf.1 - 6) ∧ gA τ 258 o z ≠ -1) → y2 < cf.1 - 6 → wp_Blocks_toMove_b75 cf tv o Q K z y2 τ := by
    intro z a c
    unfold wp_Blocks_toMove_b75
    intro y hy
    rw [w32_id (by unfold rI; omega)] at hy
    rw [hy]
    exact hK _ _ _ ⟨rfl, by omega, a⟩ (by omega)
  unfold wp_Blocks_toMove_L4
  refine ⟨fun q => sp_freeOne hc (fun r g1 g2 _ _ => ⟨fun _ => hQ _ (fun z => absurd rfl z), fun z => ⟨fun _ => hQ _ (fun z => absurd rfl z), fun w => ?_⟩⟩), fun q => ⟨by omega, fun z => ⟨by omega, ?_⟩, fun _ => step y1 i1 (by omega)⟩⟩
  · exact ⟨(g2 w).1, (i1 z).1, hin _ (i1 z).1.1 (i1 z).1.2 (i1 z).2, fun _ => hQ _ (fun z => absurd rfl z), fun _ => hQ _ i1⟩
  · have k2 := hin y2 (by omega) (by omega) z
    unfold wp_Flash_isWeak
    refine ⟨k2, fun _ _ => ⟨fun _ => ⟨fun _ => step y2 (fun _ => ⟨by omega, z⟩) (by omega), fun w => ⟨by omega, k2, (i1 w).1, hin _ (i1 w).1.1 (i1 w).1.2 (i1 w).2, fun _ => step y1 i1 (by omega), fun _ => step y2 (fun _ => ⟨by omega, z⟩) (by omega)⟩⟩, fun _ => hQ _ (fun _ => ⟨by omega, z⟩)⟩⟩
theorem sp_beginMove {tv : Nat → Int} {cf : Cf} {σ : St} {o : Int} {lp : Int → Int → Int} {vw : Int → Int} {vp : Int → Int → Int → Int} {Sp : Int → Int → (Int → Int → Int) → Prop} {T : Int} (hc : CfOK cf) {Q : Int → St → Prop} (h : BI tv cf σ o lp vw vp Sp T NoE) (hm : gI σ 265 o = -1) (hT : T + 1 < 1073741824) (hQ0 : Q 0 σ)
    (hQ : ∀ τ lp', BI tv cf τ o lp' vw vp Sp (T + 1) NoE → Fr (mBl o) σ τ → RK τ → Q 1 τ) : wp_Blocks_beginMove cf tv o Q σ := by
  have hP : 8 ≤ cf.2.1 ∧ cf.2.1 ≤ 32 := hc.2.1
  have hB : 24 ≤ cf.1 ∧ cf.1 ≤ 64 := hc.1
  obtain ⟨h1, h2, h3, h4, h5, h6, h7, h8, h9, h10⟩ := id h
  have h10' := h10
  unfold BT at h10'
  unfold wp_Blocks_beginMove
  refine sp_count hc (fun r0 c0 _ _ => ⟨fun q0 => ?_, fun _ => hQ0⟩)
  refine sp_toMove hc h4 (fun n c1 _ _ => ⟨fun q1 => ?_, fun _ => hQ0⟩)
  obtain ⟨hn, hs1⟩ := c1 q1
  refine ⟨hn, fun s es => ?_⟩
  have hs : (0 ≤ s ∧ s < cf.1) ∧ gA σ 259 o s = n := by
    rcases h4 n hn.1 hn.2 with w | w
    · exact absurd w hs1
    · rw [← es] at w; exact w
  unfold wp_Flash_isWeak
  refine ⟨hs.1, fun _ _ => sp_freeOne hc (fun t g1 g2 _ _ σ32 e32 => ?_)⟩
  have ht1 : t ≠ -1 := by
    intro e
    obtain ⟨b, hb, e'⟩ := c0 (by omega)
    exact g1 e b hb.1 hb.2 e'
  obtain ⟨ht, hct⟩ := g2 ht1
  obtain ⟨hnb, -⟩ := h.nb ht.1 (Or.inl hct)
  have hwt := (h3 t ht.1 ht.2 (fun z => z)).2.1 hct
  have hst : s ≠ t := fun e => by rw [e] at hs; omega
  have hsb : gA σ 134 0 s = 0 := by
    apply Classical.byContradiction
    intro z
    have := (h3 s hs.1.1 hs.1.2 (fun z => z)).2.2.2.1 z
    omega
  have hsw := ((h3 s hs.1.1 hs.1.2 (fun z => z)).2.2.2.2 (by omega)).2.2.1
  have wS := (h1 s hs.1.1 hs.1.2).1
  have hvn := ((h8 n hn.1 hn.2).2 hs1).1
  rw [← es] at hvn
  have f32 : Fr (mMo o) σ σ32 := by rw [e32]; exact (Fr.rf _ _).sI ⟨by omega, rfl⟩
  have m32 : gI σ32 265 o = -1 := by rw [e32, gI_sI, if_neg (fun q => absurd q.1 (by decide))]; exact hm
  have t32 : gI σ32 266 o = t := by rw [e32, gI_sI, if_pos ⟨rfl, rfl⟩]
  have H32 := h.tgt hm m32 f32
  refine sp_written H32 hc hn (fun _ k32 σ35 e35 σ36 e36 σ37 e37 => ?_)
  have hmx : max 0 (vw n) = vw n := by omega
  rw [hmx] at e35
  have f37 : Fr (mMo o) σ σ37 := by
    rw [e37, e36, e35]
    exact ((f32.sI ⟨by omega, rfl⟩).sI ⟨by omega, rfl⟩).sI ⟨by omega, rfl⟩
  have m37 : gI σ37 265 o = n := by rw [e37, gI_sI, if_pos ⟨rfl, rfl⟩]
  have t37 : gI σ37 266 o = t := by
    rw [e37, gI_sI, if_neg (fun q => absurd q.1 (by decide)), e36, gI_sI, if_neg (fun q => absurd q.1 (by decide)), e35, gI_sI, if_neg (fun q => absurd q.1 (by decide))]; exact t32
  have o37 : gI σ37 268 o = vw n := by
    rw [e37, gI_sI, if_neg (fun q => absurd q.1 (by decide)), e36, gI_sI, if_neg (fun q => absurd q.1 (by decide)), e35, gI_sI, if_pos ⟨rfl, rfl⟩]
  have d37 : gI σ37 267 o = 0 := by
    rw [e37, gI_sI, if_neg (fun q => absurd q.1 (by decide)), e36, gI_sI, if_pos ⟨rfl, rfl⟩]
  have k37 : RK σ37 := by
    rw [e37, e36, e35]
    exact ((k32.sI (by show rI _; unfold rI; omega)).sI (by show rI 0; unfold rI; omega)).sI (by show rI n; unfold rI; omega)
  have H37 : BI tv cf (sI σ37 265 o (-1)) o lp vw vp Sp T NoE := h.tgt hm (by rw [gI_sI, if_pos ⟨rfl, rfl⟩]) (f37.sI ⟨by omega, rfl⟩)
  clear e32 e35 e36 e37
  rw [t37]
  refine ⟨ht, fun σ38 e38 => ?_⟩
  have f38 : Fr (fun f o' => f = 259 ∧ o' = o) σ37 σ38 := by rw [e38]; exact (Fr.rf _ _).sA ⟨rfl, rfl⟩
  have c38 : ∀ x, gA σ38 259 o x = if x = t then -3 else gA σ37 259 o x := fun x => by rw [e38, sA_if]
  have k38 : RK σ38 := by rw [e38]; exact k37.sA (by show rI (-3); unfold rI; omega)
  clear e38
  have nc : ∀ f o', f ≠ 259 → ¬ (f = 259 ∧ o' = o) := fun f o' a q => a q.1
  have nm : ∀ f : Nat, ∀ o' : Int, (f < 265 ∨ 268 < f) → ¬ mMo o f o' := fun f o' x q => by unfold mMo at q; omega
  have o38 : gI σ38 268 o = vw n := by rw [f38.i _ _ (nc _ _ (by decide))]; exact o37
  have t38 : gI σ38 266 o = t := by rw [f38.i _ _ (nc _ _ (by decide))]; exact t37
  have w38 : gA σ38 133 0 = gA σ 133 0 := (f38.a _ _ (nc _ _ (by decide))).trans (f37.a _ _ (nm _ _ (by decide)))
  have F38 : FlI cf σ38 lp := (h1.fr f37 (fun f a c => nm f 0 (by omega))).fr f38 (fun f a c => nc f 0 (by omega))
  rw [o38, t38]
  refine sp_checkOf hc F38 hs.1 (by rw [w38]; omega) (fun σ40 f40' rck k40 => ?_)
  have f40 : Fr (mRd o) σ38 σ40 := f40'.mono (mCk_rd o)
  have nr : ∀ f o', ((f < 135 ∨ 135 < f) ∧ f ≠ 262 ∧ f ≠ 263 ∧ (f < 269 ∨ 273 < f)) → ¬ mRd o f o' := fun f o' a q => by unfold mRd at q; omega
  have w40 : gA σ40 133 0 = gA σ 133 0 := (f40.a _ _ (nr _ _ (by decide))).trans w38
  have s40 : gI σ40 261 o = gI σ 261 o := ((f40.i _ _ (nr _ _ (by decide))).trans (f38.i _ _ (nc _ _ (by decide)))).trans (f37.i _ _ (nm _ _ (by decide)))
  have i40 : gI σ40 136 0 = gI σ 136 0 := ((f40.i _ _ (nr _ _ (by decide))).trans (f38.i _ _ (nc _ _ (by decide)))).trans (f37.i _ _ (nm _ _ (by decide)))
  have F40 : FlI cf σ40 lp := F38.fr f40 (fun f a c => nr f 0 (by omega))
  refine sp_writeHead hc F40 ht (by rw [w40]; exact hwt.2) (by unfold rI; omega) (by unfold rZ; omega) (by unfold rI; omega) rck (by rw [s40]; omega) (fun r υ x rz hF ew es' q0 q1 q2 fw _ rk => ?_)
  rw [w40] at ew
  rw [s40] at es' q2
  rw [i40] at q0 q1
  have fS : Fr (mSt o) σ37 υ := (f38.mono (fun f o' q => by unfold mSt; omega)).tr ((f40.mono (fun f o' q => by unfold mRd at q; unfold mSt; omega)).tr (fw.mono (fun f o' q => by unfold mBp mFw at q; unfold mSt; omega)))
  have fB : Fr (mBl o) σ υ := (f37.mono (fun f o' q => by unfold mMo at q; unfold mBl; omega)).tr (fS.mono (fun f o' q => by unfold mSt at q; unfold mBl; omega))
  have nw : ∀ f o', (f = 134 ∨ f = 259 ∨ f = 260 ∨ (265 ≤ f ∧ f ≤ 268) ∨ f = 258) → ¬ (mBp o f o' ∨ (f = 261 ∧ o' = o)) := fun f o' a q => by unfold mBp mFw at q; omega
  have eb : gA υ 134 0 = gA σ 134 0 := (((fw.a _ _ (nw _ _ (by decide))).trans (f40.a _ _ (nr _ _ (by decide)))).trans (f38.a _ _ (nc _ _ (by decide)))).trans (f37.a _ _ (nm _ _ (by decide)))
  have ee : gA υ 260 o = gA σ 260 o := (((fw.a _ _ (nw _ _ (by decide))).trans (f40.a _ _ (nr _ _ (by decide)))).trans (f38.a _ _ (nc _ _ (by decide)))).trans (f37.a _ _ (nm _ _ (by decide)))
  have ebo : gA υ 258 o = gA σ 258 o := (((fw.a _ _ (nw _ _ (by decide))).trans (f40.a _ _ (nr _ _ (by decide)))).trans (f38.a _ _ (nc _ _ (by decide)))).trans (f37.a _ _ (nm _ _ (by decide)))
  have ec : ∀ y, gA υ 259 o y = if y = t then -3 else gA σ 259 o y := fun y => by
    rw [fw.a 259 o (nw _ _ (by decide)), f40.a 259 o (nr _ _ (by decide)), c38, f37.a 259 o (nm _ _ (by decide))]
  have em : gI υ 265 o = n := by rw [fS.i 265 o (mSt_no o _ _ (by decide))]; exact m37
  have et : gI υ 266 o = t := by rw [fS.i 266 o (mSt_no o _ _ (by decide))]; exact t37
  have ed : gI υ 267 o = 0 := by rw [fS.i 267 o (mSt_no o _ _ (by decide))]; exact d37
  have eo : gI υ 268 o = vw n := by rw [fS.i 268 o (mSt_no o _ _ (by decide))]; exact o37
  have hbk : brk υ cf.1.toNat = brk σ cf.1.toNat := by unfold brk; rw [eb]
  have el : fl υ = fl σ := fl_fr fB (fun q => by unfold mBl at q; omega)
  have bfu : BF cf υ := by
    unfold BF at h9 ⊢
    rw [hbk, el]
    by_cases z : 0 ≤ gI υ 136 0
    · have : r = 1 := by
        unfold rZ at rz
        by_cases e : r = 0
        · have := q0 e; omega
        · omega
      rw [if_pos ((q1 this).mp z)] at h9; rw [if_pos z]; exact h9
    · rw [if_neg z]; omega
  have ln := upP_ne hc (lp := lp) (b := t) (x := x) (p0 := 1) ⟨by omega, by omega⟩
  have wt : gA υ 133 0 t = 2 := by rw [ew]; unfold upF; rw [if_pos rfl]
  have wn : ∀ b', b' ≠ t → gA υ 133 0 b' = gA σ 133 0 b' := fun b' q => by rw [ew]; unfold upF; rw [if_neg q]
  have c37 : gA σ37 259 o = gA σ 259 o := f37.a _ _ (nm _ _ (by decide))
  have w37 : gA σ37 133 0 = gA σ 133 0 := f37.a _ _ (nm _ _ (by decide))
  have b37 : gA σ37 134 0 = gA σ 134 0 := f37.a _ _ (nm _ _ (by decide))
  have e37 : gA σ37 260 o = gA σ 260 o := f37.a _ _ (nm _ _ (by decide))
  have bo37 : gA σ37 258 o = gA σ 258 o := f37.a _ _ (nm _ _ (by decide))
  have s37 : gI σ37 261 o = gI σ 261 o := f37.i _ _ (nm _ _ (by decide))
  have H2 : BI tv cf (sI υ 265 o (-1)) o (upP lp (t * cf.2.1 + 1) x) vw vp Sp (T + 1) (OneE t) := by
    refine (H37.ex (E' := OneE t) (fun _ q => q.elim) (Int.le_refl _) (by omega)).step hc rfl ?_ (Or.inl (by rw [gI_sI, if_pos ⟨rfl, rfl⟩])) (frc fS _ _ _) ?_ ln (fun b' q => ?_) (fun b' _ => ?_) (fun b' q => ?_) (fun b' _ => ?_) ?_ ⟨by omega, hT⟩ bfu
    · intro n' n0 n1
      rw [gA_sI, bo37]; exact hnb n' n0 n1
    · exact hF
    · rw [gA_sI, gA_sI, w37]; exact wn b' q
    · rw [gA_sI, gA_sI, b37, eb]
    · rw [gA_sI, gA_sI, c37, ec, if_neg q]
    · rw [gA_sI, gA_sI, e37, ee]
    · rw [gI_sI, gI_sI, if_neg (fun q => absurd q.1 (by decide)), if_neg (fun q => absurd q.1 (by decide)), s37, es']
      omega
  refine ⟨fun hr => ?_, fun hr => ?_⟩
  · have r1 : r = 1 := by unfold rZ at rz; omega
    obtain ⟨z1, z2, z3, z4, z5, z6⟩ := q2 r1
    have hA := h2 t ht.1 ht.2 (fun z => z) hwt.1
    have hAs := (h2 s hs.1.1 hs.1.2 (fun z => z) hsb).2 hsw
    have fv : Fr (mMo o) (sI υ 265 o (-1)) υ := by
      intro f o' q
      have q1 : ¬ (f = 265 ∧ o' = o) := fun z => q (by unfold mMo; omega)
      refine ⟨?_, fun i => rfl⟩
      rw [gI_sI, if_neg q1]
    have l0 : upP lp (t * cf.2.1 + 1) x (t * cf.2.1 + 0) = lp (t * cf.2.1 + 0) := by unfold upP; rw [if_neg (by omega)]
    refine hQ υ _ (H2.mvon (by rw [gI_sI, if_pos ⟨rfl, rfl⟩]) fv ?_ (by omega) et ?_ ?_ ?_ ?_) fB rk
    · refine Or.inr ⟨n, t, s, em, et, by rw [ebo]; exact es.symm, hn, hs.1, ht, by rw [ec, if_pos rfl], by rw [eb]; exact hwt.1, by rw [upP_at]; exact z2, by rw [upP_at]; exact z4, by rw [upP_at, eo]; exact z5, by rw [eo, wn s hst]; omega, by rw [wt, ed]; omega, by rw [ed, eo]; omega, ?_, ?_, ?_⟩
      · rw [upP_at, z6, eo]
        exact cko_ext _ (fun j hj i _ _ => by rw [ln s (2 + j) hst (by omega) (by omega)])
      · rw [ed]; intro k k0 k1; omega
      · rw [upP_at, z3, ln s 1 hst (by omega) (by omega)]
        omega
    · intro b b0 b1 bE
      have e : b = t := Classical.byContradiction (fun q => bE q)
      rw [e, gA_sI, gA_sI, gA_sI, eb, ee, gI_sI, if_neg (fun q => absurd q.1 (by decide)), es', l0, wt, upP_at]
      intro _
      refine ⟨⟨by omega, hA.1.2.1, hA.1.2.2.1, by omega⟩, fun _ => ⟨z1, by omega, by omega, by omega, by omega⟩⟩
    · rw [gA_sI, ec, if_pos rfl]
    · rw [gA_sI, eb]; exact hwt.1
    · rw [upP_at, em]; exact z2
  · obtain ⟨z1, z2⟩ := q0 hr
    refine sp_failMove (t := t) et ?_
    refine sp_lose hc H2 ht rfl (E' := NoE) (fun b' _ ne q => ne q) ?_ (Or.inl (by rw [gI_sI, if_pos ⟨rfl, rfl⟩])) ?_ ?_ (fun τ H c1 c2 c3 f _ rτ => ?_)
    · intro n' n0 n1
      rw [gA_sI, ebo]; exact hnb n' n0 n1
    · rw [gI_sI, if_neg (fun q => absurd q.1 (by decide))]; exact z2
    · show brk υ cf.1.toNat + 1 ≤ fl (sI υ 265 o (-1))
      rw [show fl (sI υ 265 o (-1)) = fl υ by unfold fl; rw [gI_sI, if_neg (fun q => absurd q.1 (by decide))]]
      unfold BF at h9; rw [if_pos z1] at h9; rw [hbk, el]; exact h9
    · refine hQ τ _ H ?_ rτ
      refine (fB.sI (f := 265) (v := -1) (by unfold mBl; omega)).tr (f.mono (fun f o' q => by unfold mBl; omega))
/-- a step of moving -/
theorem sp_moveStep {tv : Nat → Int} {cf : Cf} {σ : St} {o : Int} {lp : Int → Int → Int} {vw : Int → Int} {vp : Int → Int → Int → Int} {Sp : Int → Int → (Int → Int → Int) → Prop} {T : Int} (hc : CfOK cf) {Q : Int → St → Prop} (h : BI tv cf σ o lp vw vp Sp T NoE) (hT : T + 1 < 1073741824) (hrk : RK σ)
    (hQ : ∀ r τ lp', BI tv cf τ o lp' vw vp Sp (T + 1) NoE → Fr (mBl o) σ τ → RK τ → rZ r → Q r τ) : wp_Blocks_moveStep cf tv o Q σ := by
  by_cases hm : gI σ 265 o = -1
  · unfold wp_Blocks_moveStep
    refine ⟨fun q => absurd hm q, fun _ => ?_⟩
    exact sp_beginMove hc h hm hT (fun z k => hQ 0 σ lp (h.ex (fun _ q => q) (by omega) hT) (Fr.rf _ _) k z) (fun τ lp' H f k z _ => hQ 1 τ lp' H f k z)
  · exact sp_moveOn hc h hm (fun τ lp' H f k => hQ 1 τ lp' (H.ex (fun _ q => q) (by omega) hT) f k (by unfold rZ; omega))
