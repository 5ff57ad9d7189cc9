/-! the reference does what a group did -/
theorem ent_at {E : List (Int × Int × Int)} {r : Int × Int × Int} {σ : St} {t nx i : Int} {N A : List (Int × Int × Int)} {P : List (Int × Int × Int × (Int → Int))} (hT : TR σ t N E A P nx) (hu : ∀ q, q ∈ E → q.1 = r.1 → q.2.1 = r.2.1 → q = r) (i0 : 0 ≤ i) (i1 : i < gA σ 717 0 t) (h1 : gA σ 718 0 (700 * t + i) = r.1) (h2 : gA σ 719 0 (700 * t + i) = r.2.1) : meR σ t i = r := hu _ (hT.me.mpr ⟨i, i0, i1, rfl⟩) h1 h2
/-- an entry gets another holder, name and thing -/
theorem sp_Mentry {σ τ : St} {t nx i : Int} {N E A E0 : List (Int × Int × Int)} {P : List (Int × Int × Int × (Int → Int))} {r v : Int × Int × Int} (hT : TR σ t N E A P nx) (hi : 0 ≤ i ∧ i < gA σ 717 0 t) (hr : meR σ t i = r) (hE : E.Perm (r :: E0)) (hv : ∀ j, meR τ t j = if j = i then v else meR σ t j) (ho : ∀ f, f ≠ 718 → f ≠ 719 → f ≠ 720 → gA τ f 0 = gA σ f 0) : TR τ t N (v :: E0) A P nx := by
  refine hT.ext (Or.inr ⟨rfl, fun f hf => ho f (by omega) (by omega) (by omega)⟩) (Or.inl ⟨by rw [ho _ (by decide) (by decide) (by decide)]; exact hT.1.1.2, ?_⟩) (Or.inr ⟨rfl, fun f hf => ho f (by omega) (by omega) (by omega)⟩) (Or.inr ⟨rfl, fun f hf => ho f (by omega) (by omega) (by omega)⟩) (by rw [ho _ (by decide) (by decide) (by decide)]; exact hT.2.2.2.2.2)
  have tu := tab_upd (f := meR σ t) (y := i) (v := v) (gA σ 717 0 t).toNat hi.1 (by omega)
  rw [hr] at tu
  have e : men τ t = tab (fun j => if j = i then v else meR σ t j) (gA σ 717 0 t).toNat := by
    unfold men
    rw [ho _ (by decide) (by decide) (by decide)]
    exact tab_ext _ (fun j j0 j1 => hv j)
  rw [e]
  exact perm_upd tu (hT.2.2.1.trans hE)
/-- a row of what waits -/
def rwI (σ : St) (g op a b c d gn x y : Int) (bs : Int → Int) : Prop := (0 ≤ g ∧ g < 8) ∧ gA σ 732 0 g = op ∧ gA σ 733 0 g = a ∧ gA σ 734 0 g = b ∧ gA σ 735 0 g = c ∧ gA σ 736 0 g = d ∧ gA σ 737 0 g = gn ∧ gA σ 738 0 g = x ∧ gA σ 739 0 g = y ∧ rowB σ g = bs
theorem rwI.fr {σ τ : St} {g op a b c d gn x y : Int} {bs : Int → Int} {M : Nat → Int → Prop} (h : rwI σ g op a b c d gn x y bs) (f : Fr M σ τ) (n : ∀ f, 732 ≤ f → f ≤ 740 → ¬ M f 0) : rwI τ g op a b c d gn x y bs := by
  unfold rwI rowB
  rw [f.a 732 0 (n _ (by decide) (by decide)), f.a 733 0 (n _ (by decide) (by decide)), f.a 734 0 (n _ (by decide) (by decide)), f.a 735 0 (n _ (by decide) (by decide)), f.a 736 0 (n _ (by decide) (by decide)), f.a 737 0 (n _ (by decide) (by decide)), f.a 738 0 (n _ (by decide) (by decide)), f.a 739 0 (n _ (by decide) (by decide)), f.a 740 0 (n _ (by decide) (by decide))]
  exact h
theorem OT.rw {σ τ : St} {t g op a b c d gn x y : Int} {bs : Int → Int} (h : OT σ τ t) (k : rwI σ g op a b c d gn x y bs) : rwI τ g op a b c d gn x y bs := k.fr h.1 (fun f a b q => by unfold mMt at q; omega)
theorem sp_dMake {tv : Nat → Int} {cf : Cf} {σ : St} {t nx : Int} {N E A : List (Int × Int × Int)} {P : List (Int × Int × Int × (Int → Int))} {g a b c d gn x y : Int} {bs : Int → Int} {Q : St → Prop} (hrk : RK σ) (ht : t = 0 ∨ t = 1) (hT : TR σ t N E A P nx) (hF : FT N E A P) (hg : rwI σ g 1 a b c d gn x y bs) (hx : 0 ≤ nx ∧ nx < 1900000000) (hl : N.length ≤ 698 ∧ E.length ≤ 698 ∧ P.length ≤ 718) (hf : ∀ r, r ∈ N → r.1 ≠ nx) (hfp : ∀ p, p ∈ P → p.1 ≠ nx)
    (hQ : ∀ τ, TR τ t ((nx, b, if b = 3 then c else 0) :: N) ((a, x, nx) :: E) A (if b = 3 then (nx, 0, c, bs) :: P else P) (nx + 1) → OT σ τ t → RK τ → Q τ) : wp_Model_does cf tv t g Q σ := by
  obtain ⟨g0, g1, g2, g3, g4, g5, g6, g7, g8, g9⟩ := id hg
  obtain ⟨⟨f1, f2⟩, f3, f4⟩ := id hF
  have ri : ∀ f, aty f = 0 → rI (gA σ f 0 g) := fun f hf => hrk.ai _ _ _ hf
  have rb : rI b := by rw [← g3]; exact ri _ (by decide)
  have rc : rI c := by rw [← g4]; exact ri _ (by decide)
  have ra : rI a := by rw [← g2]; exact ri _ (by decide)
  have rx : rJ x := by rw [← g7]; exact hrk.2 738 0 g
  unfold wp_Model_does
  refine ⟨g0, fun _ => ⟨g0, g0, by omega, ?_⟩, fun w => absurd w (by omega), fun w => absurd w (by omega), fun w => absurd w (by omega), fun w => absurd w (by omega), fun w => absurd w (by omega), fun w => absurd w (by omega), fun w => absurd w (by omega), fun w => absurd w (by omega), fun w => absurd w (by omega), fun w => absurd w (by omega), fun w => absurd w (by omega)⟩
  rw [g2, g7, hT.2.2.2.2.2]
  refine sp_MaddEntry hrk ht hT hF ra rx (by unfold rI; omega) (fun τ1 T1 O1 k1 _ => ⟨g0, ?_⟩)
  have h1 := O1.rw hg
  rw [h1.2.2.2.1]
  have F1 : FT N ((a, x, nx) :: E) A P := ⟨⟨by omega, by rw [List.length_cons]; omega⟩, f3, f4⟩
  refine sp_MaddNode k1 ht T1 F1 rb (by omega) (fun τ2 T2 O2 k2 _ => ⟨g0, fun w => ?_, fun w => ⟨by omega, g0, g0, ?_⟩⟩)
  · have h2 := O2.rw h1
    rw [h2.2.2.2.1] at w
    refine hQ τ2 ?_ (O1.tr O2) k2
    rw [if_neg w, if_neg w]; exact T2
  · have h2 := O2.rw h1
    rw [h2.2.2.2.1] at w
    have F2 : FT ((nx, b, 0) :: N) ((a, x, nx) :: E) A P := ⟨⟨by rw [List.length_cons]; omega, by rw [List.length_cons]; omega⟩, f3, f4⟩
    rw [T2.2.2.2.2.2, w32_id (x := nx + 1 - 1) (by unfold rI; omega), show nx + 1 - 1 = nx by omega, h2.2.2.2.2.1]
    refine sp_MsetPiece (kd := b) (s0 := 0) (l0 := 0) (b0 := fun _ => 0) (N0 := N) (P0 := P) k2 ht T2 F2 (by unfold rI; omega) (by unfold rI; omega) rc rc g0 hl.2.2 (List.Perm.refl _) (fun r hr e => ?_) (Or.inr ⟨rfl, fun p hp q => hfp p hp q.1⟩) (fun τ3 T3 O3 k3 _ => ?_)
    · rcases List.mem_cons.mp hr with u | u
      · exact u
      · exact absurd e (hf r u)
    · refine hQ τ3 ?_ ((O1.tr O2).tr O3) k3
      rw [if_pos w, if_pos w, ← h2.2.2.2.2.2.2.2.2.2]; exact T3
theorem sp_dLink {tv : Nat → Int} {cf : Cf} {σ : St} {t nx : Int} {N E A : List (Int × Int × Int)} {P : List (Int × Int × Int × (Int → Int))} {g a b c d gn x y : Int} {bs : Int → Int} {Q : St → Prop} (hrk : RK σ) (ht : t = 0 ∨ t = 1) (hT : TR σ t N E A P nx) (hF : FT N E A P) (hg : rwI σ g 2 a b c d gn x y bs) (hQ : ∀ τ, TR τ t N ((a, x, b) :: E) A P nx → OT σ τ t → RK τ → Q τ) : wp_Model_does cf tv t g Q σ := by
  obtain ⟨g0, g1, g2, g3, g4, g5, g6, g7, g8, g9⟩ := id hg
  unfold wp_Model_does
  refine ⟨g0, fun w => absurd w (by omega), fun _ => ⟨g0, g0, g0, ?_⟩, fun w => absurd w (by omega), fun w => absurd w (by omega), fun w => absurd w (by omega), fun w => absurd w (by omega), fun w => absurd w (by omega), fun w => absurd w (by omega), fun w => absurd w (by omega), fun w => absurd w (by omega), fun w => absurd w (by omega), fun w => absurd w (by omega)⟩
  refine sp_MaddEntry hrk ht hT hF (hrk.ai _ _ _ (by decide)) (hrk.2 738 0 g) (hrk.ai _ _ _ (by decide)) (fun τ1 T1 O1 k1 _ => ?_)
  rw [g2, g7, g3] at T1
  exact hQ τ1 T1 O1 k1
/-- unlink, rmdir -/
theorem sp_dUnl {tv : Nat → Int} {cf : Cf} {σ : St} {t nx : Int} {N E A : List (Int × Int × Int)} {P : List (Int × Int × Int × (Int → Int))} {g op a b c d gn x y w k s : Int} {bs : Int → Int} {E0 N0 : List (Int × Int × Int)} {Q : St → Prop} (hrk : RK σ) (ht : t = 0 ∨ t = 1) (hT : TR σ t N E A P nx) (hF : FT N E A P) (hg : rwI σ g op a b c d gn x y bs) (ho : op = 3 ∨ op = 4) (hE : E.Perm ((a, x, w) :: E0)) (hu : ∀ q, q ∈ E → q.1 = a → q.2.1 = x → q = (a, x, w)) (hN : gn ≠ 0 → N.Perm ((w, k, s) :: N0)) (hn : ∀ r, r ∈ N → r.1 = w → r = (w, k, s)) (hP : ∀ p, p ∈ P → 0 ≤ p.2.1)
    (h0 : gn = 0 → ∀ τ, TR τ t N E0 A P nx → OT σ τ t → RK τ → Q τ) (h1 : gn ≠ 0 → ∀ τ, TR τ t N0 E0 (A.filter (fun r => decide (kpA w r))) (P.filter (fun p => decide (p.1 ≠ w))) nx → OT σ τ t → RK τ → Q τ) : wp_Model_does cf tv t g Q σ := by
  obtain ⟨g0, g1, g2, g3, g4, g5, g6, g7, g8, g9⟩ := id hg
  obtain ⟨⟨f1, f2⟩, f3, f4⟩ := id hF
  have nn := hT.n
  have core : wp_Model_does_b164 cf tv t g Q σ := by
    unfold wp_Model_does_b164
    refine ⟨g0, g0, ?_⟩
    rw [g2, g7]
    refine sp_MentryOf hrk ht hT hF (fun q _ _ => absurd ⟨rfl, rfl⟩ (q (a, x, w) (hE.mem_iff.mpr List.mem_cons_self))) (fun i i0 i1 i2 i3 _ _ => ⟨by omega, fun y4 e4 => ?_⟩)
    have me := ent_at (r := (a, x, w)) hT hu i0 i1 i2 i3
    have e4' : y4 = w := by
      rw [e4]
      have := congrArg (fun r => r.2.2) me
      exact this
    rw [e4']
    refine sp_MdropEntry hrk ht hT hF ⟨i0, i1⟩ (fun τ1 hd _ _ O1 _ k1 _ => ⟨g0, fun u => ?_, fun u => ?_⟩)
    · rw [(O1.rw hg).2.2.2.2.2.2.1] at u
      exact h0 u τ1 (hd _ (by rw [me]; exact hE)) O1 k1
    · rw [(O1.rw hg).2.2.2.2.2.2.1] at u
      have T1 := hd _ (by rw [me]; exact hE)
      have F1 : FT N E0 A P := ⟨⟨f1, by have := hE.length_eq; rw [List.length_cons] at this; omega⟩, f3, f4⟩
      refine sp_MdropNode k1 ht T1 F1 (hN u) hn hP (fun τ2 T2 O2 k2 _ => h1 u τ2 T2 (O1.tr O2) k2)
  unfold wp_Model_does
  refine ⟨g0, fun w => absurd w (by omega), fun w => absurd w (by omega), fun _ => core, fun _ => core, fun w => absurd w (by omega), fun w => absurd w (by omega), fun w => absurd w (by omega), fun w => absurd w (by omega), fun w => absurd w (by omega), fun w => absurd w (by omega), fun w => absurd w (by omega), fun w => absurd w (by omega)⟩
/-- rename -/
theorem sp_dRen {tv : Nat → Int} {cf : Cf} {σ : St} {t nx : Int} {N E A : List (Int × Int × Int)} {P : List (Int × Int × Int × (Int → Int))} {g a b c d gn x y w w2 k s : Int} {bs : Int → Int} {E0 E1 N0 : List (Int × Int × Int)} {Q : St → Prop} (hrk : RK σ) (ht : t = 0 ∨ t = 1) (hT : TR σ t N E A P nx) (hF : FT N E A P) (hg : rwI σ g 5 a b c d gn x y bs) (hE : E.Perm ((a, x, w) :: E0)) (hu : ∀ q, q ∈ E → q.1 = a → q.2.1 = x → q = (a, x, w)) (hab : ¬ (a = b ∧ x = y)) (hO : (E0.Perm ((b, y, w2) :: E1) ∧ (∀ q, q ∈ E → q.1 = b → q.2.1 = y → q = (b, y, w2)) ∧ (gn ≠ 0 → N.Perm ((w2, k, s) :: N0)) ∧ (∀ r, r ∈ N → r.1 = w2 → r = (w2, k, s))) ∨ (E1 = E0 ∧ gn = 0 ∧ ∀ q, q ∈ E → ¬ (q.1 = b ∧ q.2.1 = y))) (hP : ∀ p, p ∈ P → 0 ≤ p.2.1)
    (h0 : gn = 0 → ∀ τ, TR τ t N ((b, y, w) :: E1) A P nx → OT σ τ t → RK τ → Q τ) (h1 : gn ≠ 0 → ∀ τ, TR τ t N0 ((b, y, w) :: E1) (A.filter (fun r => decide (kpA w2 r))) (P.filter (fun p => decide (p.1 ≠ w2))) nx → OT σ τ t → RK τ → Q τ) : wp_Model_does cf tv t g Q σ := by
  obtain ⟨g0, g1, g2, g3, g4, g5, g6, g7, g8, g9⟩ := id hg
  obtain ⟨⟨f1, f2⟩, f3, f4⟩ := id hF
  have nn := hT.n
  -- the last step
  have b53 : ∀ τ N' E' A' P', RK τ → TR τ t N' E' A' P' nx → FT N' E' A' P' → rwI τ g 5 a b c d gn x y bs → E'.Perm ((a, x, w) :: E1) → (∀ q, q ∈ E' → q.1 = a → q.2.1 = x → q = (a, x, w)) → (∀ υ, TR υ t N' ((b, y, w) :: E1) A' P' nx → OT τ υ t → RK υ → Q υ) → wp_Model_moveEntry_b53 cf tv t g (fun σ_50 => RK σ_50 → Q σ_50) τ := by
    intro τ N' E' A' P' kτ Tτ Fτ hτ pτ uτ hq
    have n2 := Tτ.n
    obtain ⟨⟨e1, e2⟩, e3, e4⟩ := id Fτ
    unfold wp_Model_moveEntry_b53
    refine ⟨g0, g0, ?_⟩
    rw [hτ.2.2.1, hτ.2.2.2.2.2.2.2.1]
    refine sp_MentryOf kτ ht Tτ Fτ (fun q _ _ => absurd ⟨rfl, rfl⟩ (q (a, x, w) (pτ.mem_iff.mpr List.mem_cons_self))) (fun i i0 i1 i2 i3 _ _ => ⟨g0, by omega, fun σ14 e14 => ⟨g0, by omega, fun υ eυ => ?_⟩⟩)
    have me := ent_at (r := (a, x, w)) Tτ uτ i0 i1 i2 i3
    have b14 : gA σ14 739 0 g = y := by rw [e14, gA_sAo (by decide)]; exact hτ.2.2.2.2.2.2.2.2.1
    rw [hτ.2.2.2.1] at e14
    rw [b14] at eυ
    refine fun _ => hq υ (sp_Mentry Tτ ⟨i0, i1⟩ me pτ (fun j => ?_) (fun f h1 h2 h3 => by rw [eυ, gA_sAo h2, e14, gA_sAo h1])) (by rw [eυ, e14]; exact ((OT.rf τ t).sA (by unfold inT; omega)).sA (by unfold inT; omega)) (by rw [eυ, e14]; exact (kτ.sA (f := 718) (by rw [← hτ.2.2.2.1]; exact kτ.2 734 0 g)).sA (f := 719) (by rw [← hτ.2.2.2.2.2.2.2.2.1]; exact kτ.2 739 0 g))
    have m3 : gA τ 720 0 (700 * t + i) = w := congrArg (fun r => r.2.2) me
    show meR υ t j = _
    unfold meR
    rw [eυ, sA_if, gA_sAo (by decide), gA_sAo (by decide), e14, sA_if, gA_sAo (by decide), gA_sAo (by decide)]
    by_cases e : j = i
    · rw [if_pos (by omega), if_pos (by omega), if_pos e, e, m3]
    · rw [if_neg (by omega), if_neg (by omega), if_neg e]
  have el := hE.length_eq
  rw [List.length_cons] at el
  unfold wp_Model_does
  refine ⟨g0, fun w => absurd w (by omega), fun w => absurd w (by omega), fun w => absurd w (by omega), fun w => absurd w (by omega), fun _ => ?_, fun w => absurd w (by omega), fun w => absurd w (by omega), fun w => absurd w (by omega), fun w => absurd w (by omega), fun w => absurd w (by omega), fun w => absurd w (by omega), fun w => absurd w (by omega)⟩
  unfold wp_Model_moveEntry
  refine ⟨g0, g0, ?_⟩
  rw [g3, g8]
  refine sp_MentryOf hrk ht hT hF (fun q _ _ => ⟨fun _ => ?_, fun v => absurd rfl v⟩) (fun i i0 i1 i2 i3 _ _ => ⟨fun v => by omega, fun _ => ⟨by omega, fun y4 e4 => ?_⟩⟩)
  · rcases hO with ⟨o1, -⟩ | ⟨o1, o2, o3⟩
    · exact absurd ⟨rfl, rfl⟩ (q (b, y, w2) (hE.mem_iff.mpr (List.mem_cons_of_mem _ (o1.mem_iff.mpr List.mem_cons_self))))
    · exact b53 σ N E A P hrk hT hF hg (by rw [o1]; exact hE) hu (fun υ T2 O2 k2 => h0 o2 υ T2 O2 k2)
  · rcases hO with ⟨o1, o2, o3, o4⟩ | ⟨o1, o2, o3⟩
    · have me := ent_at (r := (b, y, w2)) hT o2 i0 i1 i2 i3
      have e4' : y4 = w2 := by
        rw [e4]
        have := congrArg (fun r => r.2.2) me
        exact this
      rw [e4']
      have pe : E.Perm ((b, y, w2) :: (a, x, w) :: E1) := (hE.trans (o1.cons _)).trans (List.Perm.swap _ _ _)
      have pl := pe.length_eq
      rw [List.length_cons, List.length_cons] at pl
      refine sp_MdropEntry hrk ht hT hF ⟨i0, i1⟩ (fun τ1 hd _ _ O1 _ k1 _ => ⟨g0, ?_⟩)
      have T1 := hd _ (by rw [me]; exact pe)
      have h1' := O1.rw hg
      have u1 : ∀ q, q ∈ (a, x, w) :: E1 → q.1 = a → q.2.1 = x → q = (a, x, w) := fun q hq => hu q (pe.mem_iff.mpr (List.mem_cons_of_mem _ hq))
      have F1 : FT N ((a, x, w) :: E1) A P := ⟨⟨f1, by rw [List.length_cons]; omega⟩, f3, f4⟩
      rw [h1'.2.2.2.2.2.2.1]
      refine ⟨fun u => b53 τ1 N _ A P k1 T1 F1 h1' (List.Perm.refl _) u1 (fun υ T2 O2 k2 => h0 u υ T2 (O1.tr O2) k2), fun u => ?_⟩
      refine sp_MdropNode k1 ht T1 F1 (o3 u) o4 hP (fun τ2 T2 O2 k2 _ => ?_)
      refine b53 τ2 _ _ _ _ k2 T2 ?_ (O2.rw h1') (List.Perm.refl _) u1 (fun υ T3 O3 k3 => h1 u υ T3 ((O1.tr O2).tr O3) k3)
      refine ⟨⟨?_, F1.1.2⟩, Nat.le_trans (List.length_filter_le _ _) f3, Nat.le_trans (List.length_filter_le _ _) f4⟩
      have := (o3 u).length_eq
      rw [List.length_cons] at this
      omega
    · have me : meR σ t i ∈ E := hT.me.mpr ⟨i, i0, i1, rfl⟩
      exact absurd ⟨i2, i3⟩ (o3 _ me)
