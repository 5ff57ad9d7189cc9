/-! the reference drops pieces, and a thing with all that it has -/
/-- 64 bytes from one row to another -/
theorem sp_cp64 {tv : Nat → Int} {cf : Cf} {σ : St} {t x z a b : Int} {Q : St → Prop} {K7 : Int → St → Prop} (hrk : RK σ) (ha : 0 ≤ a ∧ a < 1440) (hb : 0 ≤ b ∧ b < 1440)
    (hQ : ∀ τ, (∀ i, gA τ 729 0 i = if 64 * a ≤ i ∧ i < 64 * a + 64 then gA σ 729 0 (64 * b + (i - 64 * a)) else gA σ 729 0 i) → Fr (fun f o' => f = 729 ∧ o' = 0) σ τ → RK τ → K7 a τ) : lQ3 (wp_Model_dropPieces_L115 cf tv t x z Q K7) a b 0 σ := by
  refine lQ3_rule (fun p q y τ => p = a ∧ q = b ∧ (0 ≤ y ∧ y ≤ 64) ∧ (∀ i, gA τ 729 0 i = if 64 * a ≤ i ∧ i < 64 * a + y then gA σ 729 0 (64 * b + (i - 64 * a)) else gA σ 729 0 i) ∧ Fr (fun f o' => f = 729 ∧ o' = 0) σ τ ∧ RK τ) (fun _ _ y _ => (64 - y).toNat) ?_ a b 0 σ ⟨rfl, rfl, by omega, fun i => by rw [if_neg (by omega)], Fr.rf _ _, hrk⟩
  intro K p q y τ hI hK
  obtain ⟨ep, eq, hy, hv, fr, rk⟩ := hI
  subst ep; subst eq
  unfold wp_Model_dropPieces_L115
  refine ⟨fun w => ?_, fun w => ?_⟩
  · have e : y = 64 := by omega
    rw [e] at hv
    exact hQ τ hv fr rk
  · rw [w32_id (x := 64 * q) (by unfold rI; omega), w32_id (x := 64 * p) (by unfold rI; omega), w32_id (x := 64 * q + y) (by unfold rI; omega), w32_id (x := 64 * p + y) (by unfold rI; omega)]
    refine ⟨by omega, by omega, fun σ9 e9 y2 e2 => ?_⟩
    rw [w32_id (by unfold rI; omega)] at e2
    rw [e2]
    refine hK p q (y + 1) σ9 ⟨rfl, rfl, by omega, fun i => ?_, fr.tr (by rw [e9]; exact (Fr.rf _ _).sA ⟨rfl, rfl⟩), by rw [e9]; exact rk.sA (f := 729) (rk.2 729 0 _)⟩ (by omega)
    rw [e9, sA_if]
    have old : gA τ 729 0 (64 * q + y) = gA σ 729 0 (64 * q + y) := by
      rw [hv, if_neg]
      rintro ⟨c1, c2⟩
      have : q = p := by omega
      omega
    by_cases e : i = 64 * p + y
    · rw [if_pos e, if_pos (by omega), old, e, show 64 * p + y - 64 * p = y by omega]
    · rw [if_neg e, hv]
      by_cases u : 64 * p ≤ i ∧ i < 64 * p + y
      · rw [if_pos u, if_pos (by omega)]
      · rw [if_neg u, if_neg (by omega)]
abbrev kpP (x z : Int) (p : Int × Int × Int × (Int → Int)) : Prop := ¬ (p.1 = x ∧ z ≤ p.2.1)
def mPc (f : Nat) (o' : Int) : Prop := (725 ≤ f ∧ f ≤ 729) ∧ o' = 0
theorem sp_MdropPieces {tv : Nat → Int} {cf : Cf} {σ : St} {t nx : Int} {N E A : List (Int × Int × Int)} {P : List (Int × Int × Int × (Int → Int))} {x z : Int} {Q : St → Prop} (hrk : RK σ) (ht : t = 0 ∨ t = 1) (hT : TR σ t N E A P nx) (hF : FT N E A P)
    (hQ : ∀ τ, TR τ t N E A (P.filter (fun p => decide (kpP x z p))) nx → OT σ τ t → Fr mPc σ τ → RK τ → Q τ) : wp_Model_dropPieces cf tv t x z Q σ := by
  obtain ⟨⟨f1, f2⟩, f3, f4⟩ := id hF
  unfold wp_Model_dropPieces
  rw [w32_id (x := 720 * t) (by unfold rI; omega)]
  intro y0 e0
  subst e0
  have n0 := hT.n.2.2.2
  refine lQ1_rule (fun y τ => (720 * t ≤ y ∧ y ≤ 720 * t + gA τ 725 0 t) ∧ RK τ ∧ OT σ τ t ∧ Fr mPc σ τ ∧ ∃ Pc, TR τ t N E A Pc nx ∧ Pc.length ≤ P.length ∧ (Pc.filter (fun p => decide (kpP x z p))).Perm (P.filter (fun p => decide (kpP x z p))) ∧ ∀ j, 0 ≤ j → 720 * t + j < y → kpP x z (mpR τ t j)) (fun y τ => (720 * t + gA τ 725 0 t - y).toNat) ?_ _ σ ⟨by omega, hrk, OT.rf _ _, Fr.rf _ _, P, hT, Nat.le_refl _, List.Perm.refl _, fun j j0 j1 => by omega⟩
  intro K y τ hI hK
  obtain ⟨hy, rk, O, F, Pc, T, pl, pf, kp⟩ := hI
  have nn := T.n.2.2.2
  generalize hn : gA τ 725 0 t = n at *
  unfold wp_Model_dropPieces_L7 wp_Model_dropPieces_b157
  rw [w32_id (x := 720 * t) (by unfold rI; omega), hn, w32_id (x := 720 * t + n) (by unfold rI; omega)]
  have fe : mpR τ t (y - 720 * t) = (gA τ 726 0 y, gA τ 727 0 y, gA τ 728 0 y, fun j => if 0 ≤ j ∧ j < 64 then gA τ 729 0 (64 * y + j) else 0) := by
    unfold mpR
    rw [show 720 * t + (y - 720 * t) = y by omega]
  have go : y < 720 * t + n → kpP x z (mpR τ t (y - 720 * t)) → ∀ y2, y2 = w32 (y + 1) → K y2 τ := by
    intro hl hk y2 e2
    rw [w32_id (by unfold rI; omega)] at e2
    rw [e2]
    refine hK (y + 1) τ ⟨by omega, rk, O, F, Pc, T, pl, pf, fun j j0 j1 => ?_⟩ (by omega)
    by_cases e : 720 * t + j = y
    · rw [show j = y - 720 * t by omega]; exact hk
    · exact kp j j0 (by omega)
  refine ⟨by omega, fun q => ?_, fun q => ⟨by omega, fun w => go (by omega) (fun u => w (by rw [fe] at u; exact u.1)), fun w => ⟨by omega, fun v => go (by omega) (fun u => by rw [fe] at u; have := u.2; show False; have h2 : z ≤ gA τ 727 0 y := this; omega), fun v => ⟨by omega, by omega, fun σ22 e22 => ⟨by omega, fun y5 e5 => ?_⟩⟩⟩⟩⟩
  · have all : Pc.filter (fun p => decide (kpP x z p)) = Pc := fl_all (p := fun p : Int × Int × Int × (Int → Int) => kpP x z p) (fun p hp => by
      obtain ⟨i, i0, i1, i2⟩ := T.mp.mp hp
      rw [← i2]
      exact kp i i0 (by omega))
    rw [all] at pf
    exact hQ τ ⟨T.1, T.2.1, T.2.2.1, T.2.2.2.1, T.2.2.2.2.1.trans pf, T.2.2.2.2.2⟩ O F rk
  · rw [w32_id (x := n - 1) (by unfold rI; omega)] at e22
    have g22 : gA σ22 725 0 t = n - 1 := by rw [e22, sA_eq]
    rw [g22, w32_id (by unfold rI; omega)] at e5
    refine ⟨by omega, by omega, fun σ24 e24 => ⟨by omega, by omega, fun σ25 e25 => ⟨by omega, by omega, fun σ26 e26 => ?_⟩⟩⟩
    have k26 : RK σ26 := by
      rw [e26, e25, e24, e22]
      have a := rk.sA (f := 725) (o := 0) (i := t) (v := n - 1) (by show rI _; unfold rI; omega)
      have b := a.sA (f := 726) (o := 0) (i := y) (v := _) (a.2 726 0 y5)
      have c := b.sA (f := 727) (o := 0) (i := y) (v := _) (b.2 727 0 y5)
      exact c.sA (f := 728) (c.2 728 0 y5)
    refine sp_cp64 k26 (by omega) (by omega) (fun υ hv fv kv => ?_)
    have O1 : OT τ σ26 t := by
      rw [e26, e25, e24, e22]
      exact ((((OT.rf τ t).sA (by unfold inT; omega)).sA (by unfold inT; omega)).sA (by unfold inT; omega)).sA (by unfold inT; omega)
    have b26 : gA σ26 729 0 = gA τ 729 0 := by rw [e26, gA_sAo (by decide), e25, gA_sAo (by decide), e24, gA_sAo (by decide), e22, gA_sAo (by decide)]
    rw [b26] at hv
    have O2 : OT σ26 υ t := by
      refine ⟨fv.mono (fun f o' q => ⟨by omega, q.2⟩), fun f hf u hu => by rw [fv.a f 0 (fun q => by omega)], fun f i hf hi => by rw [fv.a f 0 (fun q => by omega)], fun f i hf hi => by rw [fv.a f 0 (fun q => by omega)], fun i hi => ?_⟩
      rw [hv, b26, if_neg (by omega)]
    have F1 : Fr mPc τ υ := by
      have : Fr mPc τ σ26 := by
        rw [e26, e25, e24, e22]
        exact ((((Fr.rf _ _).sA ⟨by omega, rfl⟩).sA ⟨by omega, rfl⟩).sA ⟨by omega, rfl⟩).sA ⟨by omega, rfl⟩
      exact this.tr (fv.mono (fun f o' q => ⟨by omega, q.2⟩))
    have v0 : ∀ j, gA υ 726 0 j = if j = y then gA τ 726 0 y5 else gA τ 726 0 j := fun j => by
      rw [fv.a _ _ (fun q => by omega), e26, gA_sAo (by decide), e25, gA_sAo (by decide), e24, sA_if, e22, gA_sAo (by decide)]
    have v1 : ∀ j, gA υ 727 0 j = if j = y then gA τ 727 0 y5 else gA τ 727 0 j := fun j => by
      rw [fv.a _ _ (fun q => by omega), e26, gA_sAo (by decide), e25, sA_if, e24, gA_sAo (by decide), e22, gA_sAo (by decide)]
    have v2 : ∀ j, gA υ 728 0 j = if j = y then gA τ 728 0 y5 else gA τ 728 0 j := fun j => by
      rw [fv.a _ _ (fun q => by omega), e26, sA_if, e25, gA_sAo (by decide), e24, gA_sAo (by decide), e22, gA_sAo (by decide)]
    have v3 : gA υ 725 0 t = n - 1 := by rw [fv.a _ _ (fun q => by omega), e26, gA_sAo (by decide), e25, gA_sAo (by decide), e24, gA_sAo (by decide)]; exact g22
    have rw' : ∀ j, mpR υ t j = if j = y - 720 * t then mpR τ t (n - 1) else mpR τ t j := fun j => by
      unfold mpR
      rw [v0, v1, v2]
      by_cases e : j = y - 720 * t
      · rw [if_pos (by omega), if_pos (by omega), if_pos (by omega), if_pos e, show 720 * t + (n - 1) = y5 by omega]
        congr 3
        funext k
        by_cases u : 0 ≤ k ∧ k < 64
        · rw [if_pos u, if_pos u, hv, if_pos (by omega), show 64 * y5 + (64 * (720 * t + j) + k - 64 * y) = 64 * y5 + k by omega]
        · rw [if_neg u, if_neg u]
      · rw [if_neg (by omega), if_neg (by omega), if_neg (by omega), if_neg e]
        congr 3
        funext k
        by_cases u : 0 ≤ k ∧ k < 64
        · rw [if_pos u, if_pos u, hv, if_neg (by omega)]
        · rw [if_neg u, if_neg u]
    have nk : ¬ kpP x z (mpR τ t (y - 720 * t)) := fun u => u (by rw [fe]; exact ⟨w, by show z ≤ gA τ 727 0 y; omega⟩)
    have td := tab_drop (f := mpR τ t) (y := y - 720 * t) (n := (n - 1).toNat) (by omega) (by omega)
    rw [tab_ext (f := fun j => if j = y - 720 * t then mpR τ t ((n - 1).toNat : Int) else mpR τ t j) (g := mpR υ t) _ (fun j j0 j1 => by
      show (if j = y - 720 * t then mpR τ t ((n - 1).toNat : Int) else mpR τ t j) = _
      rw [rw' j, show (((n - 1).toNat : Nat) : Int) = n - 1 by omega])] at td
    have mpe : mpc τ t = tab (mpR τ t) ((n - 1).toNat + 1) := by unfold mpc; rw [hn, show n.toNat = (n - 1).toNat + 1 by omega]
    have mpu : mpc υ t = tab (mpR υ t) (n - 1).toNat := by unfold mpc; rw [v3]
    rw [← mpe, ← mpu] at td
    have T2 : TR υ t N E A (mpc υ t) nx := T.ext (Or.inr ⟨rfl, fun f hf => F1.a f 0 (fun q => by unfold mPc at q; omega)⟩) (Or.inr ⟨rfl, fun f hf => F1.a f 0 (fun q => by unfold mPc at q; omega)⟩) (Or.inr ⟨rfl, fun f hf => F1.a f 0 (fun q => by unfold mPc at q; omega)⟩) (Or.inl ⟨by omega, List.Perm.refl _⟩) (by rw [F1.a _ _ (fun q => by unfold mPc at q; omega)]; exact T.2.2.2.2.2)
    have pd := (td.trans T.2.2.2.2.1)
    have pdf := pd.filter (fun p => decide (kpP x z p))
    rw [List.filter_cons, if_neg (by rw [decide_eq_true_iff]; exact nk)] at pdf
    refine hK y υ ⟨by omega, kv, (O.tr O1).tr O2, F.tr F1, mpc υ t, T2, ?_, pdf.trans pf, fun j j0 j1 => ?_⟩ (by omega)
    · have := pd.length_eq
      rw [List.length_cons] at this
      omega
    · rw [rw', if_neg (by omega)]
      exact kp j j0 j1
/-- attributes of other things -/
abbrev kpA (x : Int) (a : Int × Int × Int) : Prop := a.1 ≠ x
theorem FT.fl {N E A : List (Int × Int × Int)} {P : List (Int × Int × Int × (Int → Int))} {p : Int × Int × Int × (Int → Int) → Bool} (h : FT N E A P) : FT N E A (P.filter p) := ⟨h.1, h.2.1, Nat.le_trans (List.length_filter_le _ _) h.2.2⟩
/-- a thing goes, with all that it has -/
theorem sp_MdropNode {tv : Nat → Int} {cf : Cf} {σ : St} {t nx : Int} {N E A : List (Int × Int × Int)} {P : List (Int × Int × Int × (Int → Int))} {x k s : Int} {N' : List (Int × Int × Int)} {Q : St → Prop} (hrk : RK σ) (ht : t = 0 ∨ t = 1) (hT : TR σ t N E A P nx) (hF : FT N E A P) (hN : N.Perm ((x, k, s) :: N')) (hu : ∀ r, r ∈ N → r.1 = x → r = (x, k, s)) (hP : ∀ p, p ∈ P → 0 ≤ p.2.1)
    (hQ : ∀ τ, TR τ t N' E (A.filter (fun a => decide (kpA x a))) (P.filter (fun p => decide (p.1 ≠ x))) nx → OT σ τ t → RK τ → Q τ) : wp_Model_dropNode cf tv t x Q σ := by
  obtain ⟨⟨f1, f2⟩, f3, f4⟩ := id hF
  unfold wp_Model_dropNode
  refine sp_MnodeOf hrk ht hT hF (fun q _ _ => absurd rfl (q (x, k, s) (hN.mem_iff.mpr List.mem_cons_self))) (fun i i0 i1 i2 _ _ => ?_)
  refine sp_MdropPieces hrk ht hT hF (fun τ1 T1 O1 F1 k1 _ y4 e4 => ?_)
  have pf : P.filter (fun p => decide (kpP x 0 p)) = P.filter (fun p => decide (p.1 ≠ x)) := List.filter_congr (fun p hp => by
    have := hP p hp
    by_cases q : p.1 = x
    · rw [decide_eq_false (show ¬ kpP x 0 p from fun u => u ⟨q, this⟩), decide_eq_false (show ¬ (p.1 ≠ x) from fun u => u q)]
    · rw [decide_eq_true (show kpP x 0 p from fun u => q u.1), decide_eq_true (show p.1 ≠ x from q)])
  rw [pf] at T1
  rw [w32_id (x := 700 * t) (by unfold rI; omega)] at e4
  subst e4
  have nd1 : gA τ1 713 0 t = gA σ 713 0 t := by rw [F1.a _ _ (fun q => by unfold mPc at q; omega)]
  have mr1 : mnR τ1 t i = mnR σ t i := by
    unfold mnR
    rw [F1.a 714 _ (fun q => by unfold mPc at q; omega), F1.a 715 _ (fun q => by unfold mPc at q; omega), F1.a 716 _ (fun q => by unfold mPc at q; omega)]
  have F0 : FT N E A (P.filter (fun p => decide (p.1 ≠ x))) := hF.fl
  refine lQ2_rule (fun m y τ => m = 700 * t + i ∧ (700 * t ≤ y ∧ y ≤ 700 * t + gA τ 721 0 t) ∧ RK τ ∧ OT σ τ t ∧ (gA τ 713 0 t = gA σ 713 0 t ∧ mnR τ t i = mnR σ t i) ∧ ∃ Ac, TR τ t N E Ac (P.filter (fun p => decide (p.1 ≠ x))) nx ∧ Ac.length ≤ A.length ∧ (Ac.filter (fun a => decide (kpA x a))).Perm (A.filter (fun a => decide (kpA x a))) ∧ ∀ j, 0 ≤ j → 700 * t + j < y → kpA x (maR τ t j)) (fun _ y τ => (700 * t + gA τ 721 0 t - y).toNat) ?_ _ _ τ1 ⟨rfl, by have := T1.1.2.1; omega, k1, O1, ⟨nd1, mr1⟩, A, T1, Nat.le_refl _, List.Perm.refl _, fun j j0 j1 => by omega⟩
  intro K m y τ hI hK
  obtain ⟨em, hy, rk, O, ⟨nd, mr⟩, Ac, T, al, af, ka⟩ := hI
  subst em
  have nn := T.n
  have F2 : FT N E Ac (P.filter (fun p => decide (p.1 ≠ x))) := ⟨hF.1, by omega, F0.2.2⟩
  unfold wp_Model_dropNode_L21
  rw [w32_id (x := 700 * t) (by unfold rI; omega), w32_id (x := 700 * t + gA τ 721 0 t) (by unfold rI; omega)]
  refine ⟨by omega, fun q => ?_, fun q => ⟨by omega, fun w y2 e2 => ?_, fun w => ?_⟩⟩
  · -- the thing's own row
    have all : Ac.filter (fun a => decide (kpA x a)) = Ac := fl_all (p := fun a : Int × Int × Int => kpA x a) (fun a ha => by
      obtain ⟨j, j0, j1, j2⟩ := T.ma.mp ha
      rw [← j2]
      exact ka j j0 (by omega))
    rw [all] at af
    have T' : TR τ t N E (A.filter (fun a => decide (kpA x a))) (P.filter (fun p => decide (p.1 ≠ x))) nx := ⟨T.1, T.2.1, T.2.2.1, T.2.2.2.1.trans af, T.2.2.2.2.1, T.2.2.2.2.2⟩
    generalize hn : gA τ 713 0 t = n at *
    refine ⟨by omega, by omega, fun σ6 e6 => ⟨by omega, fun y' ey => ?_⟩⟩
    rw [w32_id (by unfold rI; omega)] at e6
    have g6 : gA σ6 713 0 t = n - 1 := by rw [e6, sA_eq]
    rw [g6, w32_id (by unfold rI; omega)] at ey
    refine ⟨by omega, by omega, fun σ8 e8 => ⟨by omega, by omega, fun σ9 e9 => ⟨by omega, by omega, fun υ eυ => ?_⟩⟩⟩
    have O3 : OT τ υ t := by
      rw [eυ, e9, e8, e6]
      exact ((((OT.rf τ t).sA (by unfold inT; omega)).sA (by unfold inT; omega)).sA (by unfold inT; omega)).sA (by unfold inT; omega)
    have v0 : ∀ j, gA υ 714 0 j = if j = 700 * t + i then gA τ 714 0 y' else gA τ 714 0 j := fun j => by
      rw [eυ, gA_sAo (by decide), e9, gA_sAo (by decide), e8, sA_if, e6, gA_sAo (by decide)]
    have v1 : ∀ j, gA υ 715 0 j = if j = 700 * t + i then gA τ 715 0 y' else gA τ 715 0 j := fun j => by
      rw [eυ, gA_sAo (by decide), e9, sA_if, e8, gA_sAo (by decide), e6, gA_sAo (by decide)]
    have v2 : ∀ j, gA υ 716 0 j = if j = 700 * t + i then gA τ 716 0 y' else gA τ 716 0 j := fun j => by
      rw [eυ, sA_if, e9, gA_sAo (by decide), e8, gA_sAo (by decide), e6, gA_sAo (by decide)]
    have v3 : gA υ 713 0 t = n - 1 := by rw [eυ, gA_sAo (by decide), e9, gA_sAo (by decide), e8, gA_sAo (by decide)]; exact g6
    have oth : ∀ f, (f = 712 ∨ 717 ≤ f) → gA υ f 0 = gA τ f 0 := fun f hf => by
      rw [eυ, gA_sAo (by omega), e9, gA_sAo (by omega), e8, gA_sAo (by omega), e6, gA_sAo (by omega)]
    have kυ : RK υ := by
      rw [eυ, e9, e8, e6]
      have a := rk.sA (f := 713) (o := 0) (i := t) (v := n - 1) (by show rI _; unfold rI; omega)
      have b := a.sA (f := 714) (o := 0) (i := 700 * t + i) (v := _) (a.2 714 0 y')
      have c := b.sA (f := 715) (o := 0) (i := 700 * t + i) (v := _) (b.2 715 0 y')
      exact c.sA (f := 716) (c.2 716 0 y')
    have rw' : ∀ j, mnR υ t j = if j = i then mnR τ t (n - 1) else mnR τ t j := fun j => by
      unfold mnR
      rw [v0, v1, v2]
      by_cases e : j = i
      · rw [if_pos (by omega), if_pos (by omega), if_pos (by omega), if_pos e, show 700 * t + (n - 1) = y' by omega]
      · rw [if_neg (by omega), if_neg (by omega), if_neg (by omega), if_neg e]
    have me : mnR σ t i = (x, k, s) := hu _ (hT.mn.mpr ⟨i, i0, i1, rfl⟩) i2
    refine hQ υ (T'.ext (Or.inl ⟨by omega, ?_⟩) (Or.inr ⟨rfl, fun f hf => oth f (by omega)⟩) (Or.inr ⟨rfl, fun f hf => oth f (by omega)⟩) (Or.inr ⟨rfl, fun f hf => oth f (by omega)⟩) (by rw [oth _ (by decide)]; exact T.2.2.2.2.2)) (O.tr O3) kυ
    refine List.Perm.cons_inv (a := (x, k, s)) ?_
    refine List.Perm.trans ?_ hN
    refine List.Perm.trans ?_ T.2.1
    unfold mnd
    rw [v3, hn, show n.toNat = (n - 1).toNat + 1 by omega, ← me, ← mr]
    have td := tab_drop (f := mnR τ t) (y := i) (n := (n - 1).toNat) i0 (by omega)
    rw [tab_ext (f := mnR υ t) (g := fun j => if j = i then mnR τ t ((n - 1).toNat : Int) else mnR τ t j) _ (fun j j0 j1 => by
      show _ = if j = i then _ else _
      rw [rw' j, show (((n - 1).toNat : Nat) : Int) = n - 1 by omega])]
    exact td
  · rw [w32_id (by unfold rI; omega)] at e2
    rw [e2]
    refine hK _ (y + 1) τ ⟨rfl, by omega, rk, O, ⟨nd, mr⟩, Ac, T, al, af, fun j j0 j1 => ?_⟩ (by omega)
    by_cases e : 700 * t + j = y
    · intro u
      refine w ?_
      rw [← e]; exact u
    · exact ka j j0 (by omega)
  · have he : (700 * t + (y - 700 * t)) = y := by omega
    rw [← he]
    refine sp_MdropAttr rk ht T F2 (i := y - 700 * t) (by omega) (fun υ hd hc hs O3 F3 kυ _ => ?_)
    have me : maR τ t (y - 700 * t) ∈ Ac := T.ma.mpr ⟨_, by omega, by omega, rfl⟩
    obtain ⟨L1, L2, eA⟩ := List.append_of_mem me
    have pA : Ac.Perm (maR τ t (y - 700 * t) :: (L1 ++ L2)) := by rw [eA]; exact List.perm_middle
    have nk : ¬ kpA x (maR τ t (y - 700 * t)) := fun u => u (by unfold maR; rw [he]; exact w)
    have pf2 := pA.filter (fun a => decide (kpA x a))
    rw [List.filter_cons, if_neg (by rw [decide_eq_true_iff]; exact nk)] at pf2
    have pl := pA.length_eq
    rw [List.length_cons] at pl
    rw [he]
    refine hK _ y υ ⟨rfl, by omega, kυ, O.tr O3, ⟨by rw [F3.a _ _ (fun q => by omega)]; exact nd, ?_⟩, L1 ++ L2, hd _ pA, by omega, pf2.symm.trans af, fun j j0 j1 => ?_⟩ (by omega)
    · rw [← mr]
      unfold mnR
      rw [F3.a 714 _ (fun q => by omega), F3.a 715 _ (fun q => by omega), F3.a 716 _ (fun q => by omega)]
    · rw [hs j j0 (by omega)]
      exact ka j j0 j1
