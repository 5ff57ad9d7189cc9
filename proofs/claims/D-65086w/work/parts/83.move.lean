/-! moving -/
theorem frc {M : Nat → Int → Prop} {σ τ : St} (h : Fr M σ τ) (f : Nat) (o v : Int) : Fr M (sI σ f o v) (sI τ f o v) := by
  intro f' o' n
  refine ⟨?_, fun i => (h f' o' n).2 i⟩
  rw [gI_sI, gI_sI, (h f' o' n).1]
def mMo (o : Int) (f : Nat) (o' : Int) : Prop := (265 ≤ f ∧ f ≤ 268) ∧ o' = o
/-- from now on block t is the target of what is moved -/
theorem BI.mvon {tv : Nat → Int} {cf : Cf} {σ : St} {o : Int} {lp : Int → Int → Int} {vw : Int → Int} {vp : Int → Int → Int → Int} {Sp : Int → Int → (Int → Int → Int) → Prop} {T : Int} {τ : St} {t : Int} (h : BI tv cf σ o lp vw vp Sp T (OneE t)) (hm0 : gI σ 265 o = -1) (fr : Fr (mMo o) σ τ) (hBM : BM tv cf τ o lp) (hm : gI τ 265 o ≠ -1) (htt : gI τ 266 o = t) (hA : BA tv cf σ o lp T (fun x => x ≠ t)) (hct : gA σ 259 o t = -3) (hbr : gA σ 134 0 t = 0) (hN : hNum (lp (t * cf.2.1 + 1)) = gI τ 265 o) : BI tv cf τ o lp vw vp Sp T NoE := by
  obtain ⟨h1, h2, h3, h4, h5, h6, h7, h8, h9, h10⟩ := h
  have nm : ∀ f : Nat, ∀ o' : Int, (f < 265 ∨ 268 < f) → ¬ mMo o f o' := fun f o' x q => by unfold mMo at q; omega
  have ew := fr.a 133 0 (nm _ _ (by decide))
  have eb := fr.a 134 0 (nm _ _ (by decide))
  have ec := fr.a 259 o (nm _ _ (by decide))
  have ebo := fr.a 258 o (nm _ _ (by decide))
  have ee := fr.a 260 o (nm _ _ (by decide))
  have es := fr.i 261 o (nm _ _ (by decide))
  have ef := fr.i 136 0 (nm _ _ (by decide))
  have el := fl_fr fr (nm _ _ (by decide))
  have wh : ∀ b, whB tv cf τ lp b ↔ whB tv cf σ lp b := fun b => by unfold whB; rw [ew]
  refine ⟨h1.fr fr (fun f a c => nm f 0 (by omega)), ?_, ?_, ?_, hBM, ?_, ?_, ?_, ?_, ?_⟩
  · intro b b0 b1 _
    rw [ew, eb, ee, es]
    by_cases q : b = t
    · exact hA b b0 b1 (fun z => z q)
    · exact h2 b b0 b1 q
  · intro b b0 b1 _
    rw [ew, eb, ec, ebo, wh]
    by_cases q : b = t
    · subst q
      rw [hct, hbr]
      exact ⟨by omega, fun q => by omega, fun _ => Or.inr ⟨hm, htt.symm⟩, fun q => absurd rfl q, fun q => by omega⟩
    · obtain ⟨y1, y2, y3, y4, y5⟩ := h3 b b0 b1 q
      refine ⟨y1, y2, fun z => ?_, y4, y5⟩
      rcases y3 z with w | w
      · exact Or.inl w
      · exact absurd hm0 w.1
  · intro n n0 n1
    rw [ebo, ec]; exact h4 n n0 n1
  · intro b b' b0 b1 b0' b1' bb _ _
    rw [ec, eb, ew, wh]
    intro x1 x2 x3 x4 x5
    have bt : b ≠ t := fun e => by rw [e] at x1; omega
    by_cases q : b' = t
    · refine Or.inr ⟨?_, by rw [htt]; exact q⟩
      rw [← hN, ← q]; exact x4
    · rcases h6 b b' b0 b1 b0' b1' bb bt q x1 x2 x3 x4 x5 with w | w
      · exact Or.inl w
      · omega
  · intro b b0 b1 _
    rw [ec, ew, wh, ebo]
    intro x1
    exact h7 b b0 b1 (fun e => by unfold OneE at e; rw [e] at x1; omega) x1
  · intro n n0 n1
    rw [ebo, ew]; exact h8 n n0 n1
  · unfold BF brk at h9 ⊢; rw [eb, ef, el]; exact h9
  · unfold BT at h10 ⊢; rw [es]; exact h10
theorem sp_failMove {tv : Nat → Int} {cf : Cf} {σ : St} {o t : Int} {Q : St → Prop} (ht : gI σ 266 o = t) (h0 : wp_Blocks_lose cf tv o t (fun τ => RK τ → Q τ) (sI σ 265 o (-1))) : wp_Blocks_failMove cf tv o Q σ := by
  unfold wp_Blocks_failMove
  rw [ht]
  unfold wp_Blocks_lose wp_Flash_giveUp at h0 ⊢
  obtain ⟨hb, F⟩ := h0
  refine ⟨hb, fun σ1 e1 => ?_⟩
  obtain ⟨hb2, F2⟩ := F _ rfl
  refine ⟨hb2, fun σ2 e2 r2 r3 σ6 e6 => ?_⟩
  have k6 : RK σ6 := by rw [e6]; exact r2.sI (by show rI (-1); unfold rI; omega)
  have e : σ6 = sA (sA (sI σ 265 o (-1)) 259 o t (-3)) 134 0 t 1 := by rw [e6, e2, e1]; rfl
  rw [e] at k6 ⊢
  exact F2 _ rfl k6 k6
