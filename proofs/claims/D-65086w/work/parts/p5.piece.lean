/-! the reference sets a piece, cuts a file -/
theorem perm_upd {α : Type} {a v : α} {l l' L0 : List α} (h : (a :: l').Perm (v :: l)) (k : l.Perm (a :: L0)) : l'.Perm (v :: L0) := by
  refine List.Perm.cons_inv (a := a) ?_
  exact (h.trans (k.cons v)).trans (List.Perm.swap a v L0)
/-- the size of a thing is set -/
theorem sp_Msize {σ : St} {t nx : Int} {N E A : List (Int × Int × Int)} {P : List (Int × Int × Int × (Int → Int))} {x kd s0 s i : Int} {N0 : List (Int × Int × Int)} (hrk : RK σ) (ht : t = 0 ∨ t = 1) (hT : TR σ t N E A P nx) (hF : FT N E A P) (hi : 0 ≤ i ∧ i < gA σ 713 0 t) (hr : gA σ 714 0 (700 * t + i) = x) (hN : N.Perm ((x, kd, s0) :: N0)) (hu : ∀ r, r ∈ N → r.1 = x → r = (x, kd, s0)) (hs : rI s) : TR (sA σ 716 0 (700 * t + i) s) t ((x, kd, s) :: N0) E A P nx ∧ OT σ (sA σ 716 0 (700 * t + i) s) t ∧ RK (sA σ 716 0 (700 * t + i) s) := by
  have nn := hT.n
  obtain ⟨⟨f1, f2⟩, f3, f4⟩ := hF
  have me : mnR σ t i = (x, kd, s0) := hu _ (hT.mn.mpr ⟨i, hi.1, hi.2, rfl⟩) hr
  have oth : ∀ f, f ≠ 716 → gA (sA σ 716 0 (700 * t + i) s) f 0 = gA σ f 0 := fun f hf => gA_sAo hf
  refine ⟨hT.ext (Or.inl ⟨by rw [oth _ (by decide)]; exact hT.1.1.1, ?_⟩) (Or.inr ⟨rfl, fun f hf => oth f (by omega)⟩) (Or.inr ⟨rfl, fun f hf => oth f (by omega)⟩) (Or.inr ⟨rfl, fun f hf => oth f (by omega)⟩) (by rw [oth _ (by decide)]; exact hT.2.2.2.2.2), (OT.rf σ t).sA (by unfold inT; omega), hrk.sA (f := 716) hs⟩
  have tu := tab_upd (f := mnR σ t) (y := i) (v := (x, kd, s)) (gA σ 713 0 t).toNat hi.1 (by omega)
  rw [me] at tu
  have e : mnd (sA σ 716 0 (700 * t + i) s) t = tab (fun j => if j = i then (x, kd, s) else mnR σ t j) (gA σ 713 0 t).toNat := by
    unfold mnd
    rw [oth _ (by decide)]
    refine tab_ext _ (fun j j0 j1 => ?_)
    show mnR _ t j = if j = i then _ else _
    unfold mnR at me ⊢
    rw [oth _ (by decide), oth _ (by decide), sA_if]
    by_cases q : j = i
    · rw [if_pos (by omega), if_pos q, q]
      have m1 := congrArg (fun r => r.1) me
      have m2 := congrArg (fun r => r.2.1) me
      show (gA σ 714 0 (700 * t + i), gA σ 715 0 (700 * t + i), s) = _
      rw [show gA σ 714 0 (700 * t + i) = x from m1, show gA σ 715 0 (700 * t + i) = kd from m2]
    · rw [if_neg (by omega), if_neg q]
  rw [e]
  exact perm_upd tu (hT.2.1.trans hN)
def rowB (σ : St) (w : Int) : Int → Int := fun j => if 0 ≤ j ∧ j < 64 then gA σ 740 0 (64 * w + j) else 0
theorem sp_MsetPiece {tv : Nat → Int} {cf : Cf} {σ : St} {t nx : Int} {N E A : List (Int × Int × Int)} {P : List (Int × Int × Int × (Int → Int))} {x k n s w kd s0 l0 : Int} {b0 : Int → Int} {N0 : List (Int × Int × Int)} {P0 : List (Int × Int × Int × (Int → Int))} {Q : St → Prop} (hrk : RK σ) (ht : t = 0 ∨ t = 1) (hT : TR σ t N E A P nx) (hF : FT N E A P) (hx : rI x) (hk : rI k) (hn : rI n) (hs : rI s) (hw : 0 ≤ w ∧ w < 8) (hp0 : P0.length ≤ 718) (hN : N.Perm ((x, kd, s0) :: N0)) (hu : ∀ r, r ∈ N → r.1 = x → r = (x, kd, s0)) (hP : (P.Perm ((x, k, l0, b0) :: P0) ∧ ∀ p, p ∈ P → p.1 = x ∧ p.2.1 = k → p = (x, k, l0, b0)) ∨ (P0 = P ∧ ∀ p, p ∈ P → ¬ (p.1 = x ∧ p.2.1 = k)))
    (hQ : ∀ τ, TR τ t ((x, kd, s) :: N0) E A ((x, k, n, rowB σ w) :: P0) nx → OT σ τ t → RK τ → Q τ) : wp_Model_setPiece cf tv t x k n s w Q σ := by
  obtain ⟨⟨f1, f2⟩, f3, f4⟩ := id hF
  have nn := hT.n
  have nx0 := hT.2.2.2.2.2
  unfold wp_Model_setPiece
  -- from where the row is
  have b55 : ∀ i υ, (0 ≤ i ∧ i < 720) → RK υ → OT σ υ t → (∀ f, f ≤ 724 → gA υ f 0 = gA σ f 0) → gA υ 729 0 = gA σ 729 0 → (∀ τ, RK τ → OT υ τ t → Fr (fun f o' => (f = 728 ∨ f = 729) ∧ o' = 0) υ τ → (∀ j, gA τ 728 0 j = if j = 720 * t + i then n else gA υ 728 0 j) → (∀ j, gA τ 729 0 j = if 64 * (720 * t + i) ≤ j ∧ j < 64 * (720 * t + i) + 64 then gA σ 740 0 (64 * w + (j - 64 * (720 * t + i))) else gA υ 729 0 j) → TR τ t N E A ((x, k, n, rowB σ w) :: P0) nx) → wp_Model_setPiece_b55 cf tv t x k n s w Q (720 * t + i) υ := by
    intro i υ hi kυ Oυ oυ bυ hTR
    have ro : gA υ 740 0 = gA σ 740 0 := Oυ.1.a _ _ (fun q => by unfold mMt at q; omega)
    unfold wp_Model_setPiece_b55
    refine ⟨by omega, fun σ30 e30 => ?_⟩
    have k30 : RK σ30 := by rw [e30]; exact kυ.sA (f := 728) hn
    have f30 : Fr (fun f o' => (f = 728 ∨ f = 729) ∧ o' = 0) υ σ30 := by rw [e30]; exact (Fr.rf _ _).sA ⟨Or.inl rfl, rfl⟩
    have l30 : ∀ j, gA σ30 728 0 j = if j = 720 * t + i then n else gA υ 728 0 j := fun j => by rw [e30, sA_if]
    have O30 : OT υ σ30 t := by rw [e30]; exact (OT.rf υ t).sA (by unfold inT; omega)
    have bb30 : gA σ30 729 0 = gA υ 729 0 := by rw [e30, gA_sAo (by decide)]
    have rr30 : gA σ30 740 0 = gA υ 740 0 := by rw [e30, gA_sAo (by decide)]
    clear e30
    refine lQ2_rule (fun a y τ => a = 720 * t + i ∧ (0 ≤ y ∧ y ≤ 64) ∧ RK τ ∧ OT υ τ t ∧ Fr (fun f o' => (f = 728 ∨ f = 729) ∧ o' = 0) υ τ ∧ (∀ j, gA τ 728 0 j = if j = 720 * t + i then n else gA υ 728 0 j) ∧ ∀ j, gA τ 729 0 j = if 64 * (720 * t + i) ≤ j ∧ j < 64 * (720 * t + i) + y then gA σ 740 0 (64 * w + (j - 64 * (720 * t + i))) else gA υ 729 0 j) (fun _ y _ => (64 - y).toNat) ?_ _ 0 σ30 ⟨rfl, by omega, k30, O30, f30, l30, fun j => by rw [if_neg (by omega), bb30]⟩
    intro K a y τ hI hK
    obtain ⟨ea, hy, rk, Ot, fr, lv, bv⟩ := hI
    subst ea
    unfold wp_Model_setPiece_L67
    refine ⟨fun q => ?_, fun q => ?_⟩
    · have e : y = 64 := by omega
      rw [e] at bv
      have T2 := hTR τ rk Ot fr lv bv
      have F2 : FT N E A ((x, k, n, rowB σ w) :: P0) := by
        exact ⟨⟨f1, f2⟩, f3, by rw [List.length_cons]; omega⟩
      refine sp_MnodeOf rk ht T2 F2 (fun q _ _ => absurd rfl (q (x, kd, s0) (hN.mem_iff.mpr List.mem_cons_self))) (fun j j0 j1 j2 _ _ => ⟨by have := T2.n.1; omega, fun σ27 e27 => ?_⟩)
      obtain ⟨s1, s2, s3⟩ := sp_Msize (s := s) rk ht T2 F2 ⟨j0, j1⟩ j2 hN hu hs
      rw [e27]
      exact hQ _ s1 ((Oυ.tr Ot).tr s2) s3
    · rw [w32_id (x := 64 * w) (by unfold rI; omega), w32_id (x := 64 * w + y) (by unfold rI; omega), w32_id (x := 64 * (720 * t + i)) (by unfold rI; omega), w32_id (x := 64 * (720 * t + i) + y) (by unfold rI; omega)]
      refine ⟨by omega, by omega, fun σ28 e28 y8 e8 => ?_⟩
      rw [w32_id (by unfold rI; omega)] at e8
      rw [e8]
      have f28 : Fr (fun f o' => (f = 728 ∨ f = 729) ∧ o' = 0) τ σ28 := by rw [e28]; exact (Fr.rf _ _).sA ⟨Or.inr rfl, rfl⟩
      refine hK _ (y + 1) σ28 ⟨rfl, by omega, by rw [e28]; exact rk.sA (f := 729) (rk.2 740 0 _), by rw [e28]; exact Ot.sA (by unfold inT; omega), fr.tr f28, fun j => by rw [e28, gA_sAo (by decide)]; exact lv j, fun j => ?_⟩ (by omega)
      have rt : gA τ 740 0 = gA σ 740 0 := by rw [fr.a _ _ (fun q => by omega), ro]
      rw [e28, sA_if, rt, bv]
      by_cases u : j = 64 * (720 * t + i) + y
      · rw [if_pos u, if_pos (by omega), u, show 64 * (720 * t + i) + y - 64 * (720 * t + i) = y by omega]
      · rw [if_neg u]
        by_cases v : 64 * (720 * t + i) ≤ j ∧ j < 64 * (720 * t + i) + y
        · rw [if_pos v, if_pos (by omega)]
        · rw [if_neg v, if_neg (by omega)]
  refine sp_MpieceOf hrk ht hT hF (fun q _ _ => ⟨fun v => absurd rfl v, fun _ => ⟨by omega, fun y7 e7 => ?_⟩⟩) (fun i i0 i1 i2 i3 _ _ => ⟨fun _ => ?_, fun v => by omega⟩)
  · -- a new row
    have P0e : P0 = P := by
      rcases hP with ⟨u, -⟩ | ⟨u, -⟩
      · exact absurd ⟨rfl, rfl⟩ (q (x, k, l0, b0) (u.mem_iff.mpr List.mem_cons_self))
      · exact u
    rw [w32_id (x := 720 * t) (by unfold rI; omega), w32_id (by unfold rI; omega)] at e7
    have n0 := hT.1.2.2
    generalize hm : gA σ 725 0 t = m at *
    refine ⟨by omega, fun σ34 e34 => ⟨by omega, fun σ35 e35 => ⟨by omega, by omega, fun υ eυ => ?_⟩⟩⟩
    have g35 : gA σ35 725 0 t = m := by rw [e35, gA_sAo (by decide), e34, gA_sAo (by decide)]; exact hm
    rw [g35, w32_id (by unfold rI; omega)] at eυ
    rw [e7]
    have Oυ : OT σ υ t := by
      rw [eυ, e35, e34]
      exact (((OT.rf σ t).sA (by unfold inT; omega)).sA (by unfold inT; omega)).sA (by unfold inT; omega)
    have kυ : RK υ := by
      rw [eυ, e35, e34]
      have a := hrk.sA (f := 726) (o := 0) (i := y7) (v := x) hx
      have b := a.sA (f := 727) (o := 0) (i := y7) (v := k) hk
      exact b.sA (f := 725) (by show rI _; unfold rI; omega)
    have oth : ∀ f, (f ≤ 724 ∨ 728 ≤ f) → gA υ f 0 = gA σ f 0 := fun f hf => by
      rw [eυ, gA_sAo (by omega), e35, gA_sAo (by omega), e34, gA_sAo (by omega)]
    have vo : ∀ j, gA υ 726 0 j = if j = y7 then x else gA σ 726 0 j := fun j => by
      rw [eυ, gA_sAo (by decide), e35, gA_sAo (by decide), e34, sA_if]
    have vw : ∀ j, gA υ 727 0 j = if j = y7 then k else gA σ 727 0 j := fun j => by
      rw [eυ, gA_sAo (by decide), e35, sA_if, e34, gA_sAo (by decide)]
    have vp : gA υ 725 0 t = m + 1 := by rw [eυ, sA_eq]
    refine b55 m υ (by omega) kυ Oυ (fun f hf => oth f (Or.inl hf)) (oth _ (Or.inr (by decide))) (fun τ kτ Oτ fτ lτ bτ => ?_)
    refine hT.ext (Or.inr ⟨rfl, fun f hf => by rw [fτ.a f 0 (fun q => by omega)]; exact oth f (by omega)⟩) (Or.inr ⟨rfl, fun f hf => by rw [fτ.a f 0 (fun q => by omega)]; exact oth f (by omega)⟩) (Or.inr ⟨rfl, fun f hf => by rw [fτ.a f 0 (fun q => by omega)]; exact oth f (by omega)⟩) (Or.inl ⟨by rw [fτ.a _ _ (fun q => by omega), vp]; omega, ?_⟩) (by rw [fτ.a _ _ (fun q => by omega), oth _ (by decide)]; exact nx0)
    unfold mpc
    rw [fτ.a 725 0 (fun q => by omega), vp, show (m + 1).toNat = m.toNat + 1 by omega, P0e]
    refine (tab_add _ _).trans ?_
    have r0 : mpR τ t (m.toNat : Int) = (x, k, n, rowB σ w) := by
      unfold mpR rowB
      rw [fτ.a 726 0 (fun q => by omega), fτ.a 727 0 (fun q => by omega), vo, vw, lτ, if_pos (by omega), if_pos (by omega), if_pos (by omega)]
      congr 3
      funext j
      by_cases u : 0 ≤ j ∧ j < 64
      · rw [if_pos u, if_pos u, bτ, if_pos (by omega)]
        congr 1; omega
      · rw [if_neg u, if_neg u]
    rw [r0]
    refine List.Perm.cons _ ?_
    rw [tab_ext (g := mpR σ t) _ (fun i i0 i1 => by
      unfold mpR
      rw [fτ.a 726 0 (fun q => by omega), fτ.a 727 0 (fun q => by omega), vo, vw, lτ, if_neg (by omega), if_neg (by omega), if_neg (by omega), oth 728 (by decide)]
      congr 3
      funext j
      by_cases u : 0 ≤ j ∧ j < 64
      · rw [if_pos u, if_pos u, bτ, if_neg (by omega), oth 729 (by decide)]
      · rw [if_neg u, if_neg u]), ← hm]
    exact hT.2.2.2.2.1
  · -- the row that is there
    have me : mpR σ t i ∈ P := hT.mp.mpr ⟨i, i0, i1, rfl⟩
    have hP1 : P.Perm ((x, k, l0, b0) :: P0) ∧ mpR σ t i = (x, k, l0, b0) := by
      rcases hP with ⟨u, v⟩ | ⟨u, v⟩
      · exact ⟨u, v _ me ⟨i2, i3⟩⟩
      · exact absurd ⟨i2, i3⟩ (v _ me)
    refine b55 i σ (by omega) hrk (OT.rf σ t) (fun f _ => rfl) rfl (fun τ kτ Oτ fτ lτ bτ => ?_)
    refine hT.ext (Or.inr ⟨rfl, fun f hf => fτ.a f 0 (fun q => by omega)⟩) (Or.inr ⟨rfl, fun f hf => fτ.a f 0 (fun q => by omega)⟩) (Or.inr ⟨rfl, fun f hf => fτ.a f 0 (fun q => by omega)⟩) (Or.inl ⟨by rw [fτ.a _ _ (fun q => by omega)]; exact hT.1.2.2, ?_⟩) (by rw [fτ.a _ _ (fun q => by omega)]; exact nx0)
    have tu := tab_upd (f := mpR σ t) (y := i) (v := (x, k, n, rowB σ w)) (gA σ 725 0 t).toNat i0 (by omega)
    rw [hP1.2] at tu
    have e : mpc τ t = tab (fun j => if j = i then (x, k, n, rowB σ w) else mpR σ t j) (gA σ 725 0 t).toNat := by
      unfold mpc
      rw [fτ.a 725 0 (fun q => by omega)]
      refine tab_ext _ (fun j j0 j1 => ?_)
      show mpR τ t j = if j = i then _ else _
      unfold mpR rowB
      rw [fτ.a 726 0 (fun q => by omega), fτ.a 727 0 (fun q => by omega), lτ]
      by_cases q : j = i
      · rw [if_pos (by omega), if_pos q, q, i2, i3]
        congr 3
        funext y
        by_cases u : 0 ≤ y ∧ y < 64
        · rw [if_pos u, if_pos u, bτ, if_pos (by omega)]
          congr 1; omega
        · rw [if_neg u, if_neg u]
      · rw [if_neg (by omega), if_neg q]
        congr 3
        funext y
        by_cases u : 0 ≤ y ∧ y < 64
        · rw [if_pos u, if_pos u, bτ, if_neg (by omega)]
        · rw [if_neg u, if_neg u]
    rw [e]
    exact perm_upd tu (hT.2.2.2.2.1.trans hP1.1)
