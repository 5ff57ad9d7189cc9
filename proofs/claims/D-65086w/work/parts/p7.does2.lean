/-! the reference does what a group did: the rest -/
theorem sp_dWrite {tv : Nat → Int} {cf : Cf} {σ : St} {t nx : Int} {N E A : List (Int × Int × Int)} {P : List (Int × Int × Int × (Int → Int))} {g a b c d gn x y kd s0 l0 : Int} {bs b0 : Int → Int} {N0 : List (Int × Int × Int)} {P0 : List (Int × Int × Int × (Int → Int))} {Q : St → Prop} (hrk : RK σ) (ht : t = 0 ∨ t = 1) (hT : TR σ t N E A P nx) (hF : FT N E A P) (hg : rwI σ g 6 a b c d gn x y bs) (hp0 : P0.length ≤ 718) (hN : N.Perm ((a, kd, s0) :: N0)) (hu : ∀ r, r ∈ N → r.1 = a → r = (a, kd, s0)) (hP : (P.Perm ((a, b, l0, b0) :: P0) ∧ ∀ p, p ∈ P → p.1 = a ∧ p.2.1 = b → p = (a, b, l0, b0)) ∨ (P0 = P ∧ ∀ p, p ∈ P → ¬ (p.1 = a ∧ p.2.1 = b)))
    (hQ : ∀ τ, TR τ t ((a, kd, d) :: N0) E A ((a, b, c, bs) :: P0) nx → OT σ τ t → RK τ → Q τ) : wp_Model_does cf tv t g Q σ := by
  obtain ⟨g0, g1, g2, g3, g4, g5, g6, g7, g8, g9⟩ := id hg
  have ri : ∀ f, aty f = 0 → rI (gA σ f 0 g) := fun f hf => hrk.ai _ _ _ hf
  unfold wp_Model_does
  refine ⟨g0, fun w => absurd w (by omega), fun w => absurd w (by omega), fun w => absurd w (by omega), fun w => absurd w (by omega), fun w => absurd w (by omega), fun _ => ⟨g0, g0, g0, g0, ?_⟩, fun w => absurd w (by omega), fun w => absurd w (by omega), fun w => absurd w (by omega), fun w => absurd w (by omega), fun w => absurd w (by omega), fun w => absurd w (by omega)⟩
  rw [g2, g3, g4, g5]
  refine sp_MsetPiece hrk ht hT hF (by rw [← g2]; exact ri _ (by decide)) (by rw [← g3]; exact ri _ (by decide)) (by rw [← g4]; exact ri _ (by decide)) (by rw [← g5]; exact ri _ (by decide)) g0 hp0 hN hu hP (fun τ1 T1 O1 k1 _ => ?_)
  rw [g9] at T1
  exact hQ τ1 T1 O1 k1
theorem sp_dClose {tv : Nat → Int} {cf : Cf} {σ : St} {t nx : Int} {N E A : List (Int × Int × Int)} {P : List (Int × Int × Int × (Int → Int))} {g a b c d gn x y k s : Int} {bs : Int → Int} {N0 : List (Int × Int × Int)} {Q : St → Prop} (hrk : RK σ) (ht : t = 0 ∨ t = 1) (hT : TR σ t N E A P nx) (hF : FT N E A P) (hg : rwI σ g 8 a b c d gn x y bs) (hN : N.Perm ((a, k, s) :: N0)) (hn : ∀ r, r ∈ N → r.1 = a → r = (a, k, s)) (hP : ∀ p, p ∈ P → 0 ≤ p.2.1)
    (hQ : ∀ τ, TR τ t N0 E (A.filter (fun r => decide (kpA a r))) (P.filter (fun p => decide (p.1 ≠ a))) nx → OT σ τ t → RK τ → Q τ) : wp_Model_does cf tv t g Q σ := by
  obtain ⟨g0, g1, g2, g3, g4, g5, g6, g7, g8, g9⟩ := id hg
  unfold wp_Model_does wp_Model_does_b320
  refine ⟨g0, fun w => absurd w (by omega), fun w => absurd w (by omega), fun w => absurd w (by omega), fun w => absurd w (by omega), fun w => absurd w (by omega), fun w => absurd w (by omega), fun w => absurd w (by omega), fun _ => ⟨g0, ?_⟩, fun w => absurd w (by omega), fun w => absurd w (by omega), fun w => absurd w (by omega), fun w => absurd w (by omega)⟩
  rw [g2]
  exact sp_MdropNode hrk ht hT hF hN hn hP (fun τ1 T1 O1 k1 _ => hQ τ1 T1 O1 k1)
theorem sp_dSwap {tv : Nat → Int} {cf : Cf} {σ : St} {t nx : Int} {N E A : List (Int × Int × Int)} {P : List (Int × Int × Int × (Int → Int))} {g a b c d gn x y w w2 : Int} {bs : Int → Int} {E1 : List (Int × Int × Int)} {Q : St → Prop} (hrk : RK σ) (ht : t = 0 ∨ t = 1) (hT : TR σ t N E A P nx) (hF : FT N E A P) (hg : rwI σ g 9 a b c d gn x y bs) (hE : E.Perm ((a, x, w) :: (b, y, w2) :: E1)) (hu : ∀ q, q ∈ E → q.1 = a → q.2.1 = x → q = (a, x, w)) (hu2 : ∀ q, q ∈ E → q.1 = b → q.2.1 = y → q = (b, y, w2)) (hab : ¬ (a = b ∧ x = y))
    (hQ : ∀ τ, TR τ t N ((a, x, w2) :: (b, y, w) :: E1) A P nx → OT σ τ t → RK τ → Q τ) : wp_Model_does cf tv t g Q σ := by
  obtain ⟨g0, g1, g2, g3, g4, g5, g6, g7, g8, g9⟩ := id hg
  obtain ⟨⟨f1, f2⟩, f3, f4⟩ := id hF
  have nn := hT.n
  unfold wp_Model_does
  refine ⟨g0, fun w => absurd w (by omega), fun w => absurd w (by omega), fun w => absurd w (by omega), fun w => absurd w (by omega), fun w => absurd w (by omega), fun w => absurd w (by omega), fun w => absurd w (by omega), fun w => absurd w (by omega), fun _ => ?_, fun w => absurd w (by omega), fun w => absurd w (by omega), fun w => absurd w (by omega)⟩
  unfold wp_Model_swapEntries
  refine ⟨g0, g0, ?_⟩
  rw [g2, g7]
  refine sp_MentryOf hrk ht hT hF (fun q _ _ => absurd ⟨rfl, rfl⟩ (q (a, x, w) (hE.mem_iff.mpr List.mem_cons_self))) (fun i i0 i1 i2 i3 _ _ => ⟨g0, g0, ?_⟩)
  rw [g3, g8]
  refine sp_MentryOf hrk ht hT hF (fun q _ _ => absurd ⟨rfl, rfl⟩ (q (b, y, w2) (hE.mem_iff.mpr (List.mem_cons_of_mem _ List.mem_cons_self)))) (fun j j0 j1 j2 j3 _ _ => ⟨by omega, fun y5 e5 => ⟨by omega, by omega, fun σ13 e13 => ⟨by omega, fun υ eυ _ => ?_⟩⟩⟩)
  have mi := ent_at (r := (a, x, w)) hT hu i0 i1 i2 i3
  have mj := ent_at (r := (b, y, w2)) hT hu2 j0 j1 j2 j3
  have ne : i ≠ j := fun e => hab (by
    rw [e] at mi
    rw [mi] at mj
    have m1 := congrArg (fun r => r.1) mj
    have m2 := congrArg (fun r => r.2.1) mj
    exact ⟨m1, m2⟩)
  have ti : gA σ 720 0 (700 * t + i) = w := congrArg (fun r => r.2.2) mi
  have tj : gA σ 720 0 (700 * t + j) = w2 := congrArg (fun r => r.2.2) mj
  rw [tj] at e13
  rw [e5, ti] at eυ
  have m13 : ∀ l, meR σ13 t l = if l = i then (a, x, w2) else meR σ t l := fun l => by
    unfold meR
    rw [e13, gA_sAo (by decide), gA_sAo (by decide), sA_if]
    by_cases q : l = i
    · rw [if_pos (by omega), if_pos q, q, i2, i3]
    · rw [if_neg (by omega), if_neg q]
  have T13 : TR σ13 t N ((a, x, w2) :: (b, y, w2) :: E1) A P nx := sp_Mentry hT ⟨i0, i1⟩ mi hE m13 (fun f h1 h2 h3 => by rw [e13, gA_sAo h3])
  have mj13 : meR σ13 t j = (b, y, w2) := by rw [m13, if_neg (fun q => ne q.symm)]; exact mj
  have k13 : RK σ13 := by rw [e13]; exact hrk.sA (f := 720) (by rw [← tj]; exact hrk.2 720 0 _)
  refine hQ υ ?_ (by rw [eυ, e13]; exact ((OT.rf σ t).sA (by unfold inT; omega)).sA (by unfold inT; omega)) (by rw [eυ]; exact k13.sA (f := 720) (by rw [← ti]; exact hrk.2 720 0 _))
  have pe : ((a, x, w2) :: (b, y, w2) :: E1).Perm ((b, y, w2) :: (a, x, w2) :: E1) := List.Perm.swap _ _ _
  have c13 : gA σ13 717 0 t = gA σ 717 0 t := by rw [e13, gA_sAo (by decide)]
  have Tυ : TR υ t N ((b, y, w) :: (a, x, w2) :: E1) A P nx := sp_Mentry T13 (i := j) (r := (b, y, w2)) (v := (b, y, w)) ⟨j0, by omega⟩ mj13 pe (fun l => by
    show meR υ t l = _
    have h13 : gA σ13 718 0 (700 * t + j) = b := by rw [e13, gA_sAo (by decide)]; exact j2
    have n13 : gA σ13 719 0 (700 * t + j) = y := by rw [e13, gA_sAo (by decide)]; exact j3
    unfold meR
    rw [eυ, gA_sAo (by decide), gA_sAo (by decide), sA_if]
    by_cases q : l = j
    · rw [if_pos (by omega), if_pos q, q, h13, n13]
    · rw [if_neg (by omega), if_neg q]) (fun f h1 h2 h3 => by rw [eυ, gA_sAo h3])
  exact ⟨Tυ.1, Tυ.2.1, Tυ.2.2.1.trans (List.Perm.swap _ _ _), Tυ.2.2.2⟩
theorem sp_dSet {tv : Nat → Int} {cf : Cf} {σ : St} {t nx : Int} {N E A : List (Int × Int × Int)} {P : List (Int × Int × Int × (Int → Int))} {g a b c d gn x y v0 : Int} {bs : Int → Int} {A0 : List (Int × Int × Int)} {Q : St → Prop} (hrk : RK σ) (ht : t = 0 ∨ t = 1) (hT : TR σ t N E A P nx) (hF : FT N E A P) (hg : rwI σ g 10 a b c d gn x y bs) (hA : (A.Perm ((a, x, v0) :: A0) ∧ ∀ q, q ∈ A → q.1 = a → q.2.1 = x → q = (a, x, v0)) ∨ (A0 = A ∧ ∀ q, q ∈ A → ¬ (q.1 = a ∧ q.2.1 = x)))
    (hQ : ∀ τ, TR τ t N E ((a, x, y) :: A0) P nx → OT σ τ t → RK τ → Q τ) : wp_Model_does cf tv t g Q σ := by
  obtain ⟨g0, g1, g2, g3, g4, g5, g6, g7, g8, g9⟩ := id hg
  obtain ⟨⟨f1, f2⟩, f3, f4⟩ := id hF
  have nn := hT.n
  have rx : rJ x := by rw [← g7]; exact hrk.2 738 0 g
  have ry : rJ y := by rw [← g8]; exact hrk.2 739 0 g
  have ra : rI a := by rw [← g2]; exact hrk.2 733 0 g
  unfold wp_Model_does
  refine ⟨g0, fun w => absurd w (by omega), fun w => absurd w (by omega), fun w => absurd w (by omega), fun w => absurd w (by omega), fun w => absurd w (by omega), fun w => absurd w (by omega), fun w => absurd w (by omega), fun w => absurd w (by omega), fun w => absurd w (by omega), fun _ => ?_, fun w => absurd w (by omega), fun w => absurd w (by omega)⟩
  unfold wp_Model_setAttribute wp_Model_setAttribute_b70
  refine ⟨g0, g0, ?_⟩
  rw [g2, g7]
  refine sp_MattributeOf hrk ht hT hF (fun q _ _ => ⟨fun w => absurd rfl w, fun _ => ⟨by omega, fun y3 e3 => ⟨g0, ?_⟩⟩⟩) (fun i i0 i1 i2 i3 _ _ => ⟨fun _ => ⟨g0, by omega, fun υ eυ _ => ?_⟩, fun w => by omega⟩)
  · have A0e : A0 = A := by
      rcases hA with ⟨u, -⟩ | ⟨u, -⟩
      · exact absurd ⟨rfl, rfl⟩ (q (a, x, v0) (u.mem_iff.mpr List.mem_cons_self))
      · exact u
    have n0 := hT.1.2.1
    have nx0 := hT.2.2.2.2.2
    generalize hm : gA σ 721 0 t = m at *
    rw [w32_id (x := 700 * t) (by unfold rI; omega), w32_id (by unfold rI; omega)] at e3
    refine ⟨by omega, fun σ12 e12 => ⟨g0, by omega, fun σ13 e13 => ⟨by omega, by omega, fun σ14 e14 => ⟨g0, by omega, fun υ eυ _ => ?_⟩⟩⟩⟩
    have b12 : gA σ12 738 0 g = x := by rw [e12, gA_sAo (by decide)]; exact g7
    rw [b12] at e13
    have c13 : gA σ13 721 0 t = m := by rw [e13, gA_sAo (by decide), e12, gA_sAo (by decide)]; exact hm
    rw [c13, w32_id (by unfold rI; omega)] at e14
    have b14 : gA σ14 739 0 g = y := by rw [e14, gA_sAo (by decide), e13, gA_sAo (by decide), e12, gA_sAo (by decide)]; exact g8
    rw [b14] at eυ
    rw [g2] at e12
    have O : OT σ υ t := by
      rw [eυ, e14, e13, e12]
      exact ((((OT.rf σ t).sA (by unfold inT; omega)).sA (by unfold inT; omega)).sA (by unfold inT; omega)).sA (by unfold inT; omega)
    have kυ : RK υ := by
      rw [eυ, e14, e13, e12]
      have p := hrk.sA (f := 722) (o := 0) (i := y3) (v := a) ra
      have q := p.sA (f := 723) (o := 0) (i := y3) (v := x) rx
      have r := q.sA (f := 721) (o := 0) (i := t) (v := m + 1) (by show rI _; unfold rI; omega)
      exact r.sA (f := 724) ry
    have oth : ∀ f, (f ≤ 720 ∨ 725 ≤ f) → gA υ f 0 = gA σ f 0 := fun f hf => by
      rw [eυ, gA_sAo (by omega), e14, gA_sAo (by omega), e13, gA_sAo (by omega), e12, gA_sAo (by omega)]
    refine hQ υ (hT.ext (Or.inr ⟨rfl, fun f hf => oth f (by omega)⟩) (Or.inr ⟨rfl, fun f hf => oth f (by omega)⟩) (Or.inl ⟨by rw [eυ, gA_sAo (by decide), e14, sA_eq]; omega, ?_⟩) (Or.inr ⟨rfl, fun f hf => oth f (by omega)⟩) (by rw [oth _ (by decide)]; exact nx0)) O kυ
    unfold mat
    rw [show gA υ 721 0 t = m + 1 by rw [eυ, gA_sAo (by decide), e14, sA_eq], show (m + 1).toNat = m.toNat + 1 by omega, A0e]
    refine (tab_add _ _).trans ?_
    have vr : ∀ j, maR υ t j = if j = m then (a, x, y) else maR σ t j := fun j => by
      unfold maR
      rw [eυ, gA_sAo (f' := 722) (by decide), gA_sAo (f' := 723) (by decide), sA_if, e14, gA_sAo (by decide), gA_sAo (by decide), gA_sAo (by decide), e13, gA_sAo (f' := 722) (by decide), gA_sAo (f' := 724) (by decide), sA_if, e12, gA_sAo (f' := 723) (by decide), gA_sAo (f' := 724) (by decide), sA_if]
      by_cases e : j = m
      · rw [if_pos (by omega), if_pos (by omega), if_pos (by omega), if_pos e]
      · rw [if_neg (by omega), if_neg (by omega), if_neg (by omega), if_neg e]
    rw [vr, if_pos (by omega)]
    refine List.Perm.cons _ ?_
    rw [tab_ext (g := maR σ t) _ (fun i i0 i1 => by rw [vr, if_neg (by omega)]), ← hm]
    exact hT.2.2.2.1
  · have me : maR σ t i ∈ A := hT.ma.mpr ⟨i, i0, i1, rfl⟩
    have hA1 : A.Perm ((a, x, v0) :: A0) ∧ maR σ t i = (a, x, v0) := by
      rcases hA with ⟨u, v⟩ | ⟨u, v⟩
      · exact ⟨u, v _ me i2 i3⟩
      · exact absurd ⟨i2, i3⟩ (v _ me)
    rw [g8] at eυ
    have oth : ∀ f, f ≠ 724 → gA υ f 0 = gA σ f 0 := fun f hf => by rw [eυ, gA_sAo hf]
    refine hQ υ (hT.ext (Or.inr ⟨rfl, fun f hf => oth f (by omega)⟩) (Or.inr ⟨rfl, fun f hf => oth f (by omega)⟩) (Or.inl ⟨by rw [oth _ (by decide)]; exact hT.1.2.1, ?_⟩) (Or.inr ⟨rfl, fun f hf => oth f (by omega)⟩) (by rw [oth _ (by decide)]; exact hT.2.2.2.2.2)) (by rw [eυ]; exact (OT.rf σ t).sA (by unfold inT; omega)) (by rw [eυ]; exact hrk.sA (f := 724) ry)
    have tu := tab_upd (f := maR σ t) (y := i) (v := (a, x, y)) (gA σ 721 0 t).toNat i0 (by omega)
    rw [hA1.2] at tu
    have e : mat υ t = tab (fun j => if j = i then (a, x, y) else maR σ t j) (gA σ 721 0 t).toNat := by
      unfold mat
      rw [oth _ (by decide)]
      refine tab_ext _ (fun j j0 j1 => ?_)
      show maR υ t j = if j = i then _ else _
      unfold maR
      rw [oth _ (by decide), oth _ (by decide), eυ, sA_if]
      by_cases q : j = i
      · rw [if_pos (by omega), if_pos q, q, i2, i3]
      · rw [if_neg (by omega), if_neg q]
    rw [e]
    exact perm_upd tu (hT.2.2.2.1.trans hA1.1)
theorem sp_dDrop {tv : Nat → Int} {cf : Cf} {σ : St} {t nx : Int} {N E A : List (Int × Int × Int)} {P : List (Int × Int × Int × (Int → Int))} {g a b c d gn x y v0 : Int} {bs : Int → Int} {A0 : List (Int × Int × Int)} {Q : St → Prop} (hrk : RK σ) (ht : t = 0 ∨ t = 1) (hT : TR σ t N E A P nx) (hF : FT N E A P) (hg : rwI σ g 11 a b c d gn x y bs) (hA : A.Perm ((a, x, v0) :: A0)) (hu : ∀ q, q ∈ A → q.1 = a → q.2.1 = x → q = (a, x, v0))
    (hQ : ∀ τ, TR τ t N E A0 P nx → OT σ τ t → RK τ → Q τ) : wp_Model_does cf tv t g Q σ := by
  obtain ⟨g0, g1, g2, g3, g4, g5, g6, g7, g8, g9⟩ := id hg
  unfold wp_Model_does
  refine ⟨g0, fun w => absurd w (by omega), fun w => absurd w (by omega), fun w => absurd w (by omega), fun w => absurd w (by omega), fun w => absurd w (by omega), fun w => absurd w (by omega), fun w => absurd w (by omega), fun w => absurd w (by omega), fun w => absurd w (by omega), fun w => absurd w (by omega), fun _ => ⟨g0, g0, ?_⟩, fun w => absurd w (by omega)⟩
  rw [g2, g7]
  refine sp_MattributeOf hrk ht hT hF (fun q _ _ => absurd ⟨rfl, rfl⟩ (q (a, x, v0) (hA.mem_iff.mpr List.mem_cons_self))) (fun i i0 i1 i2 i3 _ _ => ?_)
  have me : maR σ t i = (a, x, v0) := hu _ (hT.ma.mpr ⟨i, i0, i1, rfl⟩) i2 i3
  exact sp_MdropAttr hrk ht hT hF ⟨i0, i1⟩ (fun τ1 hd _ _ O1 _ k1 _ => hQ τ1 (hd _ (by rw [me]; exact hA)) O1 k1)
/-- what a cut leaves of the pieces -/
def cutD (x s : Int) (P1 P2 : List (Int × Int × Int × (Int → Int))) : Prop := (∃ l b P0, P1.Perm ((x, s / 64, l, b) :: P0) ∧ 0 < s % 64 ∧ s % 64 < l ∧ P2.Perm ((x, s / 64, s % 64, fun j => if 0 ≤ j ∧ j < s % 64 then b j else 0) :: P0)) ∨ ((∀ l b, (x, s / 64, l, b) ∈ P1 → ¬ (0 < s % 64 ∧ s % 64 < l)) ∧ P2.Perm P1)
def cutR (x s s0 : Int) (P P2 : List (Int × Int × Int × (Int → Int))) : Prop := (s0 ≤ s ∧ P2.Perm P) ∨ (s < s0 ∧ cutD x s (P.filter (fun p => decide (kpP x ((s + 63) / 64) p))) P2)
theorem sp_dCut {tv : Nat → Int} {cf : Cf} {σ : St} {t nx : Int} {N E A : List (Int × Int × Int)} {P : List (Int × Int × Int × (Int → Int))} {g a b c d gn x y kd s0 : Int} {bs : Int → Int} {N0 : List (Int × Int × Int)} {P2 : List (Int × Int × Int × (Int → Int))} {Q : St → Prop} (hrk : RK σ) (ht : t = 0 ∨ t = 1) (hT : TR σ t N E A P nx) (hF : FT N E A P) (hg : rwI σ g 7 a b c d gn x y bs) (hb : 0 ≤ b ∧ b ≤ 16384) (hN : N.Perm ((a, kd, s0) :: N0)) (hu : ∀ r, r ∈ N → r.1 = a → r = (a, kd, s0)) (huP : ∀ p q, p ∈ P → q ∈ P → p.1 = q.1 → p.2.1 = q.2.1 → p = q) (hbz : ∀ p, p ∈ P → ∀ j, (j < 0 ∨ 64 ≤ j) → p.2.2.2 j = 0) (hc : cutR a b s0 P P2)
    (hQ : ∀ τ, TR τ t ((a, kd, b) :: N0) E A P2 nx → OT σ τ t → RK τ → Q τ) : wp_Model_does cf tv t g Q σ := by
  obtain ⟨g0, g1, g2, g3, g4, g5, g6, g7, g8, g9⟩ := id hg
  obtain ⟨⟨f1, f2⟩, f3, f4⟩ := id hF
  have nn := hT.n
  unfold wp_Model_does
  refine ⟨g0, fun w => absurd w (by omega), fun w => absurd w (by omega), fun w => absurd w (by omega), fun w => absurd w (by omega), fun w => absurd w (by omega), fun w => absurd w (by omega), fun _ => ⟨g0, g0, ?_⟩, fun w => absurd w (by omega), fun w => absurd w (by omega), fun w => absurd w (by omega), fun w => absurd w (by omega), fun w => absurd w (by omega)⟩
  rw [g2, g3]
  unfold wp_Model_cutTo
  refine sp_MnodeOf hrk ht hT hF (fun q _ _ => absurd rfl (q (a, kd, s0) (hN.mem_iff.mpr List.mem_cons_self))) (fun i i0 i1 i2 _ _ => ⟨by omega, ?_⟩)
  have me : mnR σ t i = (a, kd, s0) := hu _ (hT.mn.mpr ⟨i, i0, i1, rfl⟩) i2
  have sz : gA σ 716 0 (700 * t + i) = s0 := congrArg (fun r => r.2.2) me
  rw [sz]
  -- the end
  have fin : ∀ τ P', RK τ → TR τ t N E A P' nx → FT N E A P' → OT σ τ t → gA τ 713 0 t = gA σ 713 0 t → gA τ 714 0 = gA σ 714 0 → P2.Perm P' → wp_Model_cutTo_b120 cf tv t a b (fun σ_54 => RK σ_54 → Q σ_54) (700 * t + i) τ := by
    intro τ P' kτ Tτ Fτ Oτ e1 e2 hp
    unfold wp_Model_cutTo_b120
    refine ⟨by omega, fun υ eυ _ => ?_⟩
    obtain ⟨s1, s2, s3⟩ := sp_Msize (s := b) kτ ht Tτ Fτ ⟨i0, by omega⟩ (by rw [e2]; exact i2) hN hu (by unfold rI; omega)
    rw [eυ]
    exact hQ _ ⟨s1.1, s1.2.1, s1.2.2.1, s1.2.2.2.1, s1.2.2.2.2.1.trans hp.symm, s1.2.2.2.2.2⟩ (Oτ.tr s2) s3
  refine ⟨fun q => ?_, fun q => ?_⟩
  · rcases hc with ⟨u, v⟩ | ⟨u, -⟩
    · exact fin σ P hrk hT hF (OT.rf σ t) rfl rfl v
    · omega
  · rw [w32_id (x := b + 64) (by unfold rI; omega), w32_id (by unfold rI; omega), jdv_nn (by omega) (by omega) (by omega), show (b + 64 - 1) / 64 = (b + 63) / 64 by omega]
    refine sp_MdropPieces hrk ht hT hF (fun τ1 T1 O1 F1 k1 _ => ?_)
    rw [jdv_nn (by omega) (by omega) (by omega), jrm_nn (by omega) (by omega) (by omega)]
    generalize hP1 : P.filter (fun p => decide (kpP a ((b + 63) / 64) p)) = P1 at *
    have FT1 : FT N E A P1 := by rw [← hP1]; exact hF.fl
    have mP1 : ∀ p, p ∈ P1 → p ∈ P := fun p hp => by rw [← hP1] at hp; exact (List.mem_filter.mp hp).1
    have c1 : gA τ1 713 0 t = gA σ 713 0 t := by rw [F1.a _ _ (fun q => by unfold mPc at q; omega)]
    have c2 : gA τ1 714 0 = gA σ 714 0 := F1.a _ _ (fun q => by unfold mPc at q; omega)
    have hc1 : cutD a b P1 P2 := by
      rcases hc with ⟨u, -⟩ | ⟨-, u⟩
      · omega
      · rw [hP1] at u; exact u
    refine sp_MpieceOf k1 ht T1 FT1 (fun v _ _ => ⟨fun _ => ?_, fun w => absurd rfl w⟩) (fun j j0 j1 j2 j3 _ _ => ⟨fun w => by omega, fun _ => ?_⟩)
    · rcases hc1 with ⟨l, b0, P0, u, -⟩ | ⟨-, u⟩
      · exact absurd ⟨rfl, rfl⟩ (v (a, b / 64, l, b0) (u.mem_iff.mpr List.mem_cons_self))
      · exact fin τ1 P1 k1 T1 FT1 O1 c1 c2 u
    · have nn1 := T1.n
      have mj : mpR τ1 t j ∈ P1 := T1.mp.mpr ⟨j, j0, j1, rfl⟩
      have ej : mpR τ1 t j = (a, b / 64, gA τ1 728 0 (720 * t + j), (mpR τ1 t j).2.2.2) := by
        show (gA τ1 726 0 (720 * t + j), gA τ1 727 0 (720 * t + j), gA τ1 728 0 (720 * t + j), _) = _
        rw [j2, j3]
        rfl
      have keep : ¬ (0 < b % 64 ∧ b % 64 < gA τ1 728 0 (720 * t + j)) → P2.Perm P1 := fun w => by
        rcases hc1 with ⟨l, b0, P0, u1, u2, u3, -⟩ | ⟨-, u⟩
        · have m0 : (a, b / 64, l, b0) ∈ P1 := u1.mem_iff.mpr List.mem_cons_self
          have e := huP _ _ (mP1 _ mj) (mP1 _ m0) (by rw [ej]) (by rw [ej])
          have e2 : gA τ1 728 0 (720 * t + j) = l := congrArg (fun p => p.2.2.1) e
          exact absurd ⟨u2, by omega⟩ w
        · exact u
      have F3 := FT1.2.2
      refine ⟨fun w => fin τ1 P1 k1 T1 FT1 O1 c1 c2 (keep (fun u => by omega)), fun w => ⟨by omega, fun v => fin τ1 P1 k1 T1 FT1 O1 c1 c2 (keep (fun u => by omega)), fun v => ⟨by omega, fun σ21 e21 => ⟨by omega, fun y6 e6 => ?_⟩⟩⟩⟩
      -- the piece becomes shorter
      have l21 : ∀ q, gA σ21 728 0 q = if q = 720 * t + j then b % 64 else gA τ1 728 0 q := fun q => by rw [e21, sA_if]
      have f21 : Fr (fun f o' => (f = 728 ∨ f = 729) ∧ o' = 0) τ1 σ21 := by rw [e21]; exact (Fr.rf _ _).sA ⟨Or.inl rfl, rfl⟩
      have O21 : OT τ1 σ21 t := by rw [e21]; exact (OT.rf τ1 t).sA (by unfold inT; omega)
      have k21 : RK σ21 := by rw [e21]; exact k1.sA (f := 728) (by show rI _; unfold rI; omega)
      have b21 : gA σ21 729 0 = gA τ1 729 0 := by rw [e21, gA_sAo (by decide)]
      rw [l21, if_pos rfl] at e6
      clear e21
      refine lQ3_rule (fun p q z τ => p = 700 * t + i ∧ q = 720 * t + j ∧ (b % 64 ≤ z ∧ z ≤ 64) ∧ RK τ ∧ OT τ1 τ t ∧ Fr (fun f o' => (f = 728 ∨ f = 729) ∧ o' = 0) τ1 τ ∧ (∀ q, gA τ 728 0 q = if q = 720 * t + j then b % 64 else gA τ1 728 0 q) ∧ ∀ q, gA τ 729 0 q = if 64 * (720 * t + j) + b % 64 ≤ q ∧ q < 64 * (720 * t + j) + z then 0 else gA τ1 729 0 q) (fun _ _ z _ => (64 - z).toNat) ?_ _ _ y6 σ21 ⟨rfl, rfl, by omega, k21, O21, f21, l21, fun q => by rw [if_neg (by omega), b21]⟩
      intro K p q z τ hI hK
      obtain ⟨ep, eq, hz, kτ, Oτ, fτ, lτ, bτ⟩ := hI
      subst ep; subst eq
      unfold wp_Model_cutTo_L93
      refine ⟨fun w2 => ?_, fun w2 => ?_⟩
      · have e : z = 64 := by omega
        rw [e] at bτ
        obtain ⟨l, b0, P0, u1, u2, u3, u4⟩ : ∃ l b0 P0, P1.Perm ((a, b / 64, l, b0) :: P0) ∧ 0 < b % 64 ∧ b % 64 < l ∧ P2.Perm ((a, b / 64, b % 64, fun j => if 0 ≤ j ∧ j < b % 64 then b0 j else 0) :: P0) := by
          rcases hc1 with u | ⟨u, -⟩
          · exact u
          · rw [ej] at mj
            exact absurd ⟨by omega, by omega⟩ (u _ _ mj)
        have m0 : (a, b / 64, l, b0) ∈ P1 := u1.mem_iff.mpr List.mem_cons_self
        have ee := huP _ _ (mP1 _ mj) (mP1 _ m0) (by rw [ej]) (by rw [ej])
        have be : ∀ y, 0 ≤ y → y < 64 → gA τ1 729 0 (64 * (720 * t + j) + y) = b0 y := fun y y0 y1 => by
          have := congrArg (fun p => p.2.2.2 y) ee
          have h2 : (if 0 ≤ y ∧ y < 64 then gA τ1 729 0 (64 * (720 * t + j) + y) else 0) = b0 y := this
          rw [if_pos ⟨y0, y1⟩] at h2
          exact h2
        have Tτ : TR τ t N E A ((a, b / 64, b % 64, fun j => if 0 ≤ j ∧ j < b % 64 then b0 j else 0) :: P0) nx := by
          refine T1.ext (Or.inr ⟨rfl, fun f hf => fτ.a f 0 (fun q => by omega)⟩) (Or.inr ⟨rfl, fun f hf => fτ.a f 0 (fun q => by omega)⟩) (Or.inr ⟨rfl, fun f hf => fτ.a f 0 (fun q => by omega)⟩) (Or.inl ⟨by rw [fτ.a _ _ (fun q => by omega)]; exact T1.1.2.2, ?_⟩) (by rw [fτ.a _ _ (fun q => by omega)]; exact T1.2.2.2.2.2)
          have tu := tab_upd (f := mpR τ1 t) (y := j) (v := (a, b / 64, b % 64, fun j => if 0 ≤ j ∧ j < b % 64 then b0 j else 0)) (gA τ1 725 0 t).toNat j0 (by omega)
          rw [ee] at tu
          have e5 : mpc τ t = tab (fun i => if i = j then (a, b / 64, b % 64, fun j => if 0 ≤ j ∧ j < b % 64 then b0 j else 0) else mpR τ1 t i) (gA τ1 725 0 t).toNat := by
            unfold mpc
            rw [fτ.a 725 0 (fun q => by omega)]
            refine tab_ext _ (fun i2 p0 p1 => ?_)
            show mpR τ t i2 = if i2 = j then _ else _
            unfold mpR
            rw [fτ.a 726 0 (fun q => by omega), fτ.a 727 0 (fun q => by omega), lτ]
            by_cases r : i2 = j
            · rw [if_pos (by omega), if_pos r, r, j2, j3]
              congr 3
              funext y
              by_cases u : 0 ≤ y ∧ y < 64
              · rw [if_pos u, bτ]
                by_cases u5 : y < b % 64
                · rw [if_neg (by omega), if_pos ⟨u.1, u5⟩, be y u.1 u.2]
                · rw [if_pos (by omega), if_neg (by omega)]
              · rw [if_neg u, if_neg (by omega)]
            · rw [if_neg (by omega), if_neg r]
              congr 3
              funext y
              by_cases u : 0 ≤ y ∧ y < 64
              · rw [if_pos u, if_pos u, bτ, if_neg (by omega)]
              · rw [if_neg u, if_neg u]
          rw [e5]
          exact perm_upd tu (T1.2.2.2.2.1.trans u1)
        have F5 : FT N E A ((a, b / 64, b % 64, fun j => if 0 ≤ j ∧ j < b % 64 then b0 j else 0) :: P0) := ⟨FT1.1, FT1.2.1, by have := u1.length_eq; rw [List.length_cons] at this ⊢; omega⟩
        exact fin τ _ kτ Tτ F5 (O1.tr Oτ) (by rw [fτ.a _ _ (fun q => by omega)]; exact c1) (by rw [fτ.a _ _ (fun q => by omega)]; exact c2) u4
      · rw [w32_id (x := 64 * (720 * t + j)) (by unfold rI; omega), w32_id (x := 64 * (720 * t + j) + z) (by unfold rI; omega)]
        refine ⟨by omega, fun σ13 e13 z2 ez => ?_⟩
        rw [w32_id (by unfold rI; omega)] at ez
        rw [ez]
        have f13 : Fr (fun f o' => (f = 728 ∨ f = 729) ∧ o' = 0) τ σ13 := by rw [e13]; exact (Fr.rf _ _).sA ⟨Or.inr rfl, rfl⟩
        refine hK _ _ (z + 1) σ13 ⟨rfl, rfl, by omega, by rw [e13]; exact kτ.sA (f := 729) (by show rB 0; unfold rB; omega), by rw [e13]; exact Oτ.sA (by unfold inT; omega), fτ.tr f13, fun q => by rw [e13, gA_sAo (by decide)]; exact lτ q, fun q => ?_⟩ (by omega)
        rw [e13, sA_if, bτ]
        by_cases u : q = 64 * (720 * t + j) + z
        · rw [if_pos u, if_pos (by omega)]
        · rw [if_neg u]
          by_cases u2 : 64 * (720 * t + j) + b % 64 ≤ q ∧ q < 64 * (720 * t + j) + z
          · rw [if_pos u2, if_pos (by omega)]
          · rw [if_neg u2, if_neg (by omega)]
