/-- a step of a move that is under way -/
theorem sp_moveOn {tv : Nat → Int} {cf : Cf} {σ : St} {o : Int} {lp : Int → Int → Int} {vw : Int → Int} {vp : Int → Int → Int → Int} {Sp : Int → Int → (Int → Int → Int) → Prop} {T : Int} (hc : CfOK cf) {Q : Int → St → Prop} (h : BI tv cf σ o lp vw vp Sp T NoE) (hm : gI σ 265 o ≠ -1)
    (hQ : ∀ τ lp', BI tv cf τ o lp' vw vp Sp T NoE → Fr (mBl o) σ τ → RK τ → Q 1 τ) : wp_Blocks_moveStep cf tv o Q σ := by
  have hP : 8 ≤ cf.2.1 ∧ cf.2.1 ≤ 32 := hc.2.1
  obtain ⟨h1, h2, h3, h4, h5, h6, h7, h8, h9, h10⟩ := id h
  have h10' := h10
  unfold BT at h10'
  rcases h5 with q | ⟨n, t, s, a1, a2, a3, a4, a5, a6, a7, a8, a9, a10, a11, a12, a13, a14, a15, a16, a17⟩
  · exact absurd q hm
  unfold wp_Blocks_moveStep
  refine ⟨fun _ => ?_, fun q => absurd q hm⟩
  rw [a1, a3]
  refine ⟨a4, fun y1 e1 => ⟨fun q => ?_, fun q => ?_⟩⟩
  · exact sp_endMove hc h hm (by omega) (fun τ H _ f k => hQ τ lp H (f.mono (fun f o' q => by unfold mMv at q; unfold mBl; omega)) k)
  rw [e1]
  have wS := (h1 s a5.1 a5.2).1
  have st : s ≠ t := by
    intro e
    rcases h4 n a4.1 a4.2 with w | ⟨-, w⟩
    · omega
    · rw [a3, e] at w; omega
  rw [w32_id (by unfold rI; omega)]
  refine sp_flash_read hc h1 a5 ⟨by omega, by omega⟩ (Or.inr (by decide)) (by omega) (by rw [(al128 cf o).2.1]; omega) (by omega) (fun σ1 ea fa ra => ?_)
  have na : ∀ f o', rBI o f o' → ¬ ((f = 135 ∧ o' = 0) ∨ (f = 263 ∧ o' = o)) := fun f o' a q => by unfold rBI at a; omega
  have rM : ∀ f : Nat, (265 ≤ f ∧ f ≤ 268) → rBI o f o := fun f q => Or.inr ⟨Or.inr q, rfl⟩
  have t1 : gI σ1 266 o = t := by rw [fa.i _ _ (na _ _ (rM _ (by decide)))]; exact a2
  have d1 : gI σ1 267 o = gI σ 267 o := fa.i _ _ (na _ _ (rM _ (by decide)))
  have H1 := h.fr fa na
  have w1 : gA σ1 133 0 = gA σ 133 0 := fa.a _ _ (na _ _ (Or.inl ⟨Or.inl (by decide), rfl⟩))
  rw [t1, d1, w32_id (by unfold rI; omega)]
  refine sp_flash_write hc H1.1 ra a6 (by rw [w1]; omega) (by omega) (Or.inr (by decide)) (by decide) (by omega) (by rw [(al128 cf o).2.1]; omega) (fun r υ x rz hF ew q0 q1 q2 fw _ rk => ?_)
  have nv : ∀ f o', (f = 134 ∨ 136 < f) → ¬ mFw f o' := fun f o' a q => by unfold mFw at q; omega
  have fA : Fr (fun f o' => mFw f o' ∨ (f = 135 ∧ o' = 0) ∨ (f = 263 ∧ o' = o)) σ υ := (fa.mono (fun f o' q => Or.inr q)).tr (fw.mono (fun f o' q => Or.inl q))
  have nA : ∀ f o', (f = 134 ∨ (136 < f ∧ f ≠ 263)) → ¬ (mFw f o' ∨ (f = 135 ∧ o' = 0) ∨ (f = 263 ∧ o' = o)) := fun f o' a q => by unfold mFw at q; omega
  have eb := fA.a 134 0 (nA _ _ (by decide))
  have ec := fA.a 259 o (nA _ _ (by decide))
  have ebo := fA.a 258 o (nA _ _ (by decide))
  have ee := fA.a 260 o (nA _ _ (by decide))
  have es := fA.i 261 o (nA _ _ (by decide))
  have em := fA.i 265 o (nA _ _ (by decide))
  have et := fA.i 266 o (nA _ _ (by decide))
  have ed := fA.i 267 o (nA _ _ (by decide))
  have eo := fA.i 268 o (nA _ _ (by decide))
  have i1 : gI σ1 136 0 = gI σ 136 0 := fa.i _ _ (na _ _ (Or.inl ⟨Or.inr (Or.inl rfl), rfl⟩))
  rw [w1] at ew
  rw [i1] at q0 q1
  have hbk : brk υ cf.1.toNat = brk σ cf.1.toNat := by unfold brk; rw [eb]
  have el : fl υ = fl σ := fl_fr fA (fun q => by unfold mFw at q; omega)
  have bfu : BF cf υ := by
    unfold BF at h9 ⊢
    rw [hbk, el]
    by_cases z : 0 ≤ gI υ 136 0
    · have : r = 1 := by
        unfold rZ at rz
        by_cases e : r = 0
        · have := q0 e; omega
        · omega
      rw [if_pos ((q1 this).mp z)] at h9; rw [if_pos z]; exact h9
    · rw [if_neg z]; omega
  have H0 : BI tv cf (sI σ 265 o (-1)) o lp vw vp Sp T (OneE t) := h.mvoff (fun b q => ⟨fun z => z, fun e => q (by rw [e]; exact a2)⟩)
  have ln := upP_ne hc (lp := lp) (b := t) (x := x) (p0 := 2 + gI σ 267 o) ⟨by omega, by omega⟩
  have lx : ∀ p, p ≠ 2 + gI σ 267 o → upP lp (t * cf.2.1 + (2 + gI σ 267 o)) x (t * cf.2.1 + p) = lp (t * cf.2.1 + p) := fun p q => by unfold upP; rw [if_neg (by omega)]
  have wt : gA υ 133 0 t = 2 + gI σ 267 o + 1 := by rw [ew]; unfold upF; rw [if_pos rfl]
  have wn : ∀ b', b' ≠ t → gA υ 133 0 b' = gA σ 133 0 b' := fun b' q => by rw [ew]; unfold upF; rw [if_neg q]
  have hnb : ∀ n', 0 ≤ n' → n' < cf.1 - 6 → gA σ 258 o n' ≠ t := by
    intro n' n0 n1 e
    rcases h4 n' n0 n1 with z | ⟨-, z⟩
    · omega
    · rw [e] at z; omega
  have H2 : BI tv cf (sI υ 265 o (-1)) o (upP lp (t * cf.2.1 + (2 + gI σ 267 o)) x) vw vp Sp T (OneE t) := by
    refine H0.step hc rfl hnb (Or.inl (by rw [gI_sI, if_pos ⟨rfl, rfl⟩])) (frc (fA.mono (fun f o' q => by unfold mFw at q; unfold mSt; omega)) _ _ _) ?_ ln wn (fun b' _ => by rw [gA_sI, gA_sI, eb]) (fun b' _ => by rw [gA_sI, gA_sI, ec]) (fun b' _ => by rw [gA_sI, gA_sI, ee]) ?_ ⟨Int.le_refl _, h10.2⟩ bfu
    · exact hF
    · rw [gI_sI, gI_sI, if_neg (fun q => absurd q.1 (by decide)), if_neg (fun q => absurd q.1 (by decide)), es]
      exact ⟨Int.le_refl _, h10.1.2⟩
  refine ⟨fun hr => ?_, fun hr σ22 e22 => ?_⟩
  · obtain ⟨z1, z2⟩ := q0 hr
    refine sp_failMove (t := t) (by rw [et]; exact a2) ?_
    refine sp_lose hc H2 a6 rfl (E' := NoE) (fun b' _ ne q => ne q) ?_ (Or.inl (by rw [gI_sI, if_pos ⟨rfl, rfl⟩])) ?_ ?_ (fun τ H c1 c2 c3 f _ rτ => ?_)
    · intro n' n0 n1
      rw [gA_sI, ebo]; exact hnb n' n0 n1
    · rw [gI_sI, if_neg (fun q => absurd q.1 (by decide))]; exact z2
    · show brk υ cf.1.toNat + 1 ≤ fl (sI υ 265 o (-1))
      rw [show fl (sI υ 265 o (-1)) = fl υ by unfold fl; rw [gI_sI, if_neg (fun q => absurd q.1 (by decide))]]
      unfold BF at h9; rw [if_pos z1] at h9; rw [hbk, el]; exact h9
    · refine hQ τ _ H ?_ rτ
      refine ((fA.mono (fun f o' q => by unfold mFw at q; unfold mBl; omega)).sI (f := 265) (v := -1) (by unfold mBl; omega)).tr (f.mono (fun f o' q => by unfold mBl; omega))
  · have r1 : r = 1 := by unfold rZ at rz; omega
    rw [ed, w32_id (by unfold rI; omega)] at e22
    have f22 : Fr (fun f o' => f = 267 ∧ o' = o) υ σ22 := by rw [e22]; exact (Fr.rf _ _).sI ⟨rfl, rfl⟩
    have n22 : ∀ f o', f ≠ 267 → ¬ (f = 267 ∧ o' = o) := fun f o' a q => a q.1
    have m22 : gI σ22 265 o = n := by rw [f22.i _ _ (n22 _ _ (by decide)), em]; exact a1
    have t22 : gI σ22 266 o = t := by rw [f22.i _ _ (n22 _ _ (by decide)), et]; exact a2
    have o22 : gI σ22 268 o = gI σ 268 o := by rw [f22.i _ _ (n22 _ _ (by decide)), eo]
    have d22 : gI σ22 267 o = gI σ 267 o + 1 := by rw [e22, gI_sI, if_pos ⟨rfl, rfl⟩]
    have w22 : gA σ22 133 0 = gA υ 133 0 := f22.a _ _ (n22 _ _ (by decide))
    have k22 : RK σ22 := by rw [e22]; exact rk.sI (by show rI _; unfold rI; omega)
    have fv : Fr (mMo o) (sI υ 265 o (-1)) σ22 := by
      intro f o' q
      have q1 : ¬ (f = 265 ∧ o' = o) := fun z => q (by unfold mMo; omega)
      have q2 : ¬ (f = 267 ∧ o' = o) := fun z => q (by unfold mMo; omega)
      refine ⟨?_, fun i => (f22 f o' q2).2 i⟩
      rw [gI_sI, if_neg q1]; exact (f22 f o' q2).1
    refine hQ σ22 _ (H2.mvon (by rw [gI_sI, if_pos ⟨rfl, rfl⟩]) fv ?_ (by omega) t22 ?_ ?_ ?_ ?_) ((fA.mono (fun f o' q => by unfold mFw at q; unfold mBl; omega)).tr (f22.mono (fun f o' q => by unfold mBl; omega))) k22
    · refine Or.inr ⟨n, t, s, m22, t22, ?_, a4, a5, a6, ?_, ?_, by rw [lx 1 (by omega)]; exact a9, by rw [lx 1 (by omega)]; exact a10, by rw [lx 1 (by omega), o22]; exact a11, by rw [o22, w22, wn s st]; exact a12, by rw [w22, wt, d22]; omega, by rw [d22, o22]; omega, ?_, ?_, ?_⟩
      · rw [f22.a _ _ (n22 _ _ (by decide)), ebo]; exact a3
      · rw [f22.a _ _ (n22 _ _ (by decide)), ec]; exact a7
      · rw [f22.a _ _ (n22 _ _ (by decide)), eb]; exact a8
      · rw [lx 1 (by omega), o22, a15]
        exact cko_ext _ (fun j hj i _ _ => by rw [ln s (2 + j) st (by omega) (by omega)])
      · rw [d22]
        intro j j0 j1 i i0 i1
        rw [ln s (2 + j) st (by omega) (by omega)]
        by_cases e : j = gI σ 267 o
        · rw [e, upP_at, q2 r1 i i0 i1, ea]
          dsimp only
          rw [if_pos (by omega), show 0 + i - 0 = i by omega]
        · rw [lx (2 + j) (by omega)]
          exact a16 j j0 (by omega) i i0 i1
      · rw [lx 1 (by omega), ln s 1 st (by omega) (by omega)]; exact a17
    · intro b b0 b1 bE
      have e : b = t := Classical.byContradiction (fun q => bE q)
      rw [e, gA_sI, gA_sI, gA_sI, eb, ee, gI_sI, if_neg (fun q => absurd q.1 (by decide)), es, lx 0 (by omega), lx 1 (by omega), wt]
      intro x1
      obtain ⟨y1, y2⟩ := h2 t a6.1 a6.2 (fun z => z) x1
      exact ⟨⟨by omega, y1.2⟩, fun _ => y2 (by omega)⟩
    · rw [gA_sI, ec]; exact a7
    · rw [gA_sI, eb]; exact a8
    · rw [lx 1 (by omega), m22]; exact a9
