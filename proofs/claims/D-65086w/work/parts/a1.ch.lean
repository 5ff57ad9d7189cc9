/-! how a row of knots becomes another one -/
def FP (σ : St) (o x : Int) : Prop := ∃ i, (gI σ 386 o ≤ i ∧ i < 320) ∧ gA σ 385 o i = x
def PO (σ : St) (o : Int) : Prop := (0 ≤ gI σ 386 o ∧ gI σ 386 o ≤ 320) ∧ ∀ i, gI σ 386 o ≤ i → i < 320 → (320 * o ≤ gA σ 385 o i ∧ gA σ 385 o i < 320 * o + 320) ∧ ∀ j, gI σ 386 o ≤ j → j < 320 → gA σ 385 o i = gA σ 385 o j → i = j
def mCh (o : Int) (P : Int → Prop) (f : Nat) (o' : Int) : Prop := ((f = 385 ∨ f = 386 ∨ f = 388 ∨ f = 389 ∨ f = 390) ∧ o' = o) ∨ ((576 ≤ f ∧ f ≤ 587) ∧ P o')
def CH (σ τ : St) (o : Int) (K0 K1 : List Int) : Prop :=
  (∀ x, x ∈ K1 → x ∈ K0 ∨ FP σ o x) ∧ (∀ x, FP τ o x → FP σ o x ∨ x ∈ K0) ∧ (PO τ o ∧ ∀ x, x ∈ K1 → ¬ FP τ o x) ∧ ((K1.length : Int) - gI τ 386 o = K0.length - gI σ 386 o) ∧ (∀ n, n ≠ -1 → kS τ K1 n + oS τ o n = kS σ K0 n + oS σ o n) ∧ (0 ≤ gI τ 390 o ∧ gI τ 390 o + nfr τ K1 ≤ gI σ 390 o + nfr σ K0) ∧ (∀ x, x ∈ K1 → gI τ 584 x = 0 → x ∈ K0 ∧ KE σ τ x ∧ OE σ τ x) ∧ (∀ P : Int → Int → Prop, (∀ i, 0 ≤ i → i < gI σ 390 o → P (gA σ 388 o i) (gA σ 389 o i)) → (∀ x, x ∈ K0 → gI σ 584 x = 0 → P (gI σ 585 x) (gI σ 587 x)) → ∀ i, 0 ≤ i → i < gI τ 390 o → P (gA τ 388 o i) (gA τ 389 o i)) ∧ Fr (mCh o (fun x => x ∈ K0 ∨ FP σ o x)) σ τ
theorem CH.ke {σ τ : St} {o x : Int} {K0 K1 : List Int} (h : CH σ τ o K0 K1) (h1 : x ∉ K0) (h2 : ¬ FP σ o x) : KE σ τ x ∧ OE σ τ x := by
  have f := h.2.2.2.2.2.2.2.2
  have n : ∀ f, 576 ≤ f → f ≤ 587 → ¬ mCh o (fun x => x ∈ K0 ∨ FP σ o x) f x := by
    intro f a b q
    rcases q with q | q
    · omega
    · exact q.2.elim h1 h2
  exact ⟨KE.fr f (fun f' a b => n f' a (Nat.le_trans b (by decide))), OE.fr f (fun f' a b => n f' (Nat.le_trans (by decide) a) b)⟩
theorem CH.tr {σ τ υ : St} {o : Int} {K0 K1 K2 : List Int} (h : CH σ τ o K0 K1) (k : CH τ υ o K1 K2) : CH σ υ o K0 K2 := by
  obtain ⟨a1, a2, a3, a4, a5, a6, a7, a8, a9⟩ := h
  obtain ⟨b1, b2, b3, b4, b5, b6, b7, b8, b9⟩ := k
  refine ⟨fun x hx => ?_, fun x hx => ?_, b3, by omega, fun n hn => (b5 n hn).trans (a5 n hn), by omega, fun x hx e => ?_, fun P p1 p2 => ?_, ?_⟩
  · rcases b1 x hx with q | q
    · exact a1 x q
    · exact (a2 x q).symm
  · rcases b2 x hx with q | q
    · exact a2 x q
    · exact (a1 x q).symm
  · obtain ⟨c1, c2, c3⟩ := b7 x hx e
    obtain ⟨d1, d2, d3⟩ := a7 x c1 (by rw [← c3.1]; exact e)
    exact ⟨d1, d2.tr c2, d3.tr c3⟩
  · refine b8 P (a8 P p1 p2) (fun x hx e => ?_)
    obtain ⟨d1, d2, d3⟩ := a7 x hx e
    rw [d3.2.1, d3.2.2.2]
    exact p2 x d1 (by rw [← d3.1]; exact e)
  · refine a9.tr (b9.mono (fun f o' q => ?_))
    rcases q with q | q
    · exact Or.inl q
    · refine Or.inr ⟨q.1, ?_⟩
      rcases q.2 with w | w
      · exact a1 o' w
      · exact (a2 o' w).symm
theorem kS_perm {σ : St} {n : Int} {L M : List Int} (h : L.Perm M) : kS σ L n = kS σ M n := by
  induction h with
  | nil => rfl
  | cons x _ ih => rw [kS_cons, kS_cons, ih]
  | swap x y l => rw [kS_cons, kS_cons, kS_cons, kS_cons]; omega
  | trans _ _ ih1 ih2 => rw [ih1, ih2]
theorem nfr_perm {σ : St} {L M : List Int} (h : L.Perm M) : nfr σ L = nfr σ M := by
  induction h with
  | nil => rfl
  | cons x _ ih => rw [nfr_cons, nfr_cons, ih]
  | swap x y l => rw [nfr_cons, nfr_cons, nfr_cons, nfr_cons]; omega
  | trans _ _ ih1 ih2 => rw [ih1, ih2]
theorem CH.perm {σ τ : St} {o : Int} {K0 K1 K2 : List Int} (h : CH σ τ o K0 K1) (p : K1.Perm K2) : CH σ τ o K0 K2 := by
  obtain ⟨a1, a2, a3, a4, a5, a6, a7, a8, a9⟩ := h
  refine ⟨fun x hx => a1 x (p.mem_iff.mpr hx), a2, ⟨a3.1, fun x hx => a3.2 x (p.mem_iff.mpr hx)⟩, by rw [← p.length_eq]; exact a4, fun n hn => by rw [← kS_perm p]; exact a5 n hn, by rw [← nfr_perm p]; exact a6, fun x hx => a7 x (p.mem_iff.mpr hx), a8, a9⟩
theorem CH.perm0 {σ τ : St} {o : Int} {K0 K1 K2 : List Int} (h : CH σ τ o K0 K1) (p : K0.Perm K2) : CH σ τ o K2 K1 := by
  obtain ⟨a1, a2, a3, a4, a5, a6, a7, a8, a9⟩ := h
  refine ⟨fun x hx => (a1 x hx).imp p.mem_iff.mp (fun z => z), fun x hx => (a2 x hx).imp (fun z => z) p.mem_iff.mp, a3, by rw [← p.length_eq]; exact a4, fun n hn => by rw [← kS_perm p]; exact a5 n hn, by rw [← nfr_perm p]; exact a6, fun x hx e => ?_, fun P p1 p2 => a8 P p1 (fun x hx => p2 x (p.mem_iff.mp hx)), a9.mono (fun f o' q => ?_)⟩
  · obtain ⟨d1, d2, d3⟩ := a7 x hx e
    exact ⟨p.mem_iff.mp d1, d2, d3⟩
  · rcases q with q | q
    · exact Or.inl q
    · exact Or.inr ⟨q.1, q.2.imp p.mem_iff.mp (fun z => z)⟩
/-- beside other knots -/
theorem CH.ctx {σ τ : St} {o : Int} {K0 K1 : List Int} (h : CH σ τ o K0 K1) (A B : List Int) (hA : ∀ x, x ∈ A → x ∉ K0 ∧ ¬ FP σ o x) (hB : ∀ x, x ∈ B → x ∉ K0 ∧ ¬ FP σ o x) : CH σ τ o (A ++ (K0 ++ B)) (A ++ (K1 ++ B)) := by
  have keA : ∀ x, x ∈ A → KE σ τ x ∧ OE σ τ x := fun x hx => h.ke (hA x hx).1 (hA x hx).2
  have keB : ∀ x, x ∈ B → KE σ τ x ∧ OE σ τ x := fun x hx => h.ke (hB x hx).1 (hB x hx).2
  obtain ⟨a1, a2, a3, a4, a5, a6, a7, a8, a9⟩ := h
  have m : ∀ x, x ∈ A ++ (K0 ++ B) ↔ x ∈ A ∨ x ∈ K0 ∨ x ∈ B := fun x => by rw [List.mem_append, List.mem_append]
  have m1 : ∀ x, x ∈ A ++ (K1 ++ B) ↔ x ∈ A ∨ x ∈ K1 ∨ x ∈ B := fun x => by rw [List.mem_append, List.mem_append]
  refine ⟨fun x hx => ?_, fun x hx => ?_, ⟨a3.1, fun x hx q => ?_⟩, ?_, fun n hn => ?_, ?_, fun x hx e => ?_, fun P p1 p2 => ?_, a9.mono (fun f o' q => ?_)⟩
  · rcases (m1 x).mp hx with q | q | q
    · exact Or.inl ((m x).mpr (Or.inl q))
    · exact (a1 x q).imp (fun w => (m x).mpr (Or.inr (Or.inl w))) (fun w => w)
    · exact Or.inl ((m x).mpr (Or.inr (Or.inr q)))
  · exact (a2 x hx).imp (fun w => w) (fun w => (m x).mpr (Or.inr (Or.inl w)))
  · rcases (m1 x).mp hx with w | w | w
    · exact (a2 x q).elim (hA x w).2 (hA x w).1
    · exact a3.2 x w q
    · exact (a2 x q).elim (hB x w).2 (hB x w).1
  · simp only [List.length_append]; omega
  · have := a5 n hn
    rw [kS_app, kS_app, kS_app, kS_app, kS_ext (σ := σ) (τ := τ) (L := A) (fun x hx => (keA x hx).2.z n), kS_ext (σ := σ) (τ := τ) (L := B) (fun x hx => (keB x hx).2.z n)]
    omega
  · have e1 := nfr_ext (σ := σ) (τ := τ) (L := A) (fun x hx => (keA x hx).2.1)
    have e2 := nfr_ext (σ := σ) (τ := τ) (L := B) (fun x hx => (keB x hx).2.1)
    rw [nfr_app, nfr_app, nfr_app, nfr_app, e1, e2]
    omega
  · rcases (m1 x).mp hx with w | w | w
    · exact ⟨(m x).mpr (Or.inl w), keA x w⟩
    · obtain ⟨d1, d2, d3⟩ := a7 x w e
      exact ⟨(m x).mpr (Or.inr (Or.inl d1)), d2, d3⟩
    · exact ⟨(m x).mpr (Or.inr (Or.inr w)), keB x w⟩
  · exact a8 P p1 (fun x hx => p2 x ((m x).mpr (Or.inr (Or.inl hx))))
  · rcases q with q | q
    · exact Or.inl q
    · exact Or.inr ⟨q.1, q.2.imp (fun w => (m o').mpr (Or.inr (Or.inl w))) (fun w => w)⟩
theorem FP_fr {σ τ : St} {M : Nat → Int → Prop} {o : Int} (f : Fr M σ τ) (n : ¬ M 385 o ∧ ¬ M 386 o) : (∀ x, FP τ o x ↔ FP σ o x) ∧ (PO σ o → PO τ o) := by
  have e1 := f.a _ _ n.1
  have e2 := f.i _ _ n.2
  refine ⟨fun x => by unfold FP; rw [e1, e2], fun h => by unfold PO at *; rw [e1, e2]; exact h⟩
/-- the knot at hand is touched -/
theorem CH.touch {σ τ : St} {o z : Int} (hp : PO σ o) (hz : ¬ FP σ o z) (h0 : 0 ≤ gI σ 390 o) (q1 : gI τ 584 z ≠ 0) (q2 : ∀ n, n ≠ -1 → oS τ o n = oS σ o n + fz σ z n) (q3 : gI σ 390 o ≤ gI τ 390 o ∧ gI τ 390 o ≤ gI σ 390 o + (if gI σ 584 z = 0 then 1 else 0)) (q4 : ∀ P : Int → Int → Prop, (∀ i, 0 ≤ i → i < gI σ 390 o → P (gA σ 388 o i) (gA σ 389 o i)) → (gI σ 584 z = 0 → P (gI σ 585 z) (gI σ 587 z)) → ∀ i, 0 ≤ i → i < gI τ 390 o → P (gA τ 388 o i) (gA τ 389 o i)) (fr : Fr (mTc o z) σ τ) : CH σ τ o [z] [z] := by
  obtain ⟨f1, f2⟩ := FP_fr fr ⟨fun q => by unfold mTc at q; omega, fun q => by unfold mTc at q; omega⟩
  have fe := fr.i 386 o (fun q => by unfold mTc at q; omega)
  refine ⟨fun x hx => Or.inl hx, fun x hx => Or.inl ((f1 x).mp hx), ⟨f2 hp, fun x hx q => ?_⟩, by rw [fe], fun n hn => ?_, ?_, fun x hx e => ?_, fun P p1 p2 => q4 P p1 (fun e => p2 z (List.mem_singleton.mpr rfl) e), fr.mono (fun f o' q => ?_)⟩
  · rw [List.mem_singleton.mp hx] at q; exact hz ((f1 z).mp q)
  · have : fz τ z n = 0 := by unfold fz; rw [if_neg (fun y => q1 y.1)]
    rw [kS_cons, kS_cons, this, q2 n hn]
    show 0 + 0 + _ = _ + 0 + _
    omega
  · rw [nfr_cons, nfr_cons, if_neg q1]
    show _ ∧ _ + ((0 + 0 : Nat) : Int) ≤ _ + ((_ + 0 : Nat) : Int)
    split at q3 <;> rename_i h
    · rw [if_pos h]; omega
    · rw [if_neg h]; omega
  · rw [List.mem_singleton.mp hx] at e; exact absurd e q1
  · unfold mTc at q; unfold mCh
    rcases q with q | q
    · exact Or.inr ⟨by omega, Or.inl (List.mem_singleton.mpr q.2)⟩
    · exact Or.inl ⟨by omega, q.2⟩
/-- a knot that is fresh has other keys -/
theorem CH.upd {σ τ : St} {o z : Int} (hp : PO σ o) (hz : ¬ FP σ o z) (h0 : 0 ≤ gI σ 390 o) (hf : gI σ 584 z ≠ 0) (fr : Fr (fun f o' => mKa z f o' ∨ (f = 577 ∧ o' = z)) σ τ) : CH σ τ o [z] [z] := by
  have nm : ∀ f o', (f < 577 ∨ 583 < f) → ¬ (mKa z f o' ∨ (f = 577 ∧ o' = z)) := fun f o' a q => by unfold mKa at q; omega
  obtain ⟨f1, f2⟩ := FP_fr (o := o) fr ⟨nm _ _ (by decide), nm _ _ (by decide)⟩
  have fe := fr.i 386 o (nm _ _ (by decide))
  have f3 := fr.i 584 z (nm _ _ (by decide))
  have f4 := fr.i 390 o (nm _ _ (by decide))
  have f5 := fr.a 388 o (nm _ _ (by decide))
  have f6 := fr.a 389 o (nm _ _ (by decide))
  have oe : OE σ τ z := OE.fr fr (fun f a b => nm f z (Or.inr (Nat.lt_of_lt_of_le (by decide) a)))
  refine ⟨fun x hx => Or.inl hx, fun x hx => Or.inl ((f1 x).mp hx), ⟨f2 hp, fun x hx q => ?_⟩, by rw [fe], fun n hn => ?_, ?_, fun x hx e => ?_, fun P p1 p2 => by rw [f4, f5, f6]; exact p1, fr.mono (fun f o' q => ?_)⟩
  · rw [List.mem_singleton.mp hx] at q; exact hz ((f1 z).mp q)
  · unfold oS
    rw [kS_cons, kS_cons, oe.z, f4, f5, f6]; rfl
  · rw [nfr_cons, nfr_cons, f3, f4]
    show _ ∧ _ + ((_ + 0 : Nat) : Int) ≤ _ + ((_ + 0 : Nat) : Int)
    omega
  · rw [List.mem_singleton.mp hx, f3] at e; exact absurd e hf
  · unfold mKa at q; unfold mCh
    exact Or.inr ⟨by omega, Or.inl (List.mem_singleton.mpr (by omega))⟩
theorem CH.fetch {σ τ : St} {o z : Int} (hp : PO σ o) (h0 : 0 ≤ gI σ 390 o) (hf : gI σ 386 o < 320) (hz : gA σ 385 o (gI σ 386 o) = z) (q1 : gI τ 386 o = gI σ 386 o + 1) (q2 : ∀ i, i ≠ gI σ 386 o → gA τ 385 o i = gA σ 385 o i) (q3 : gI τ 584 z = 1) (fr : Fr (mKf o z) σ τ) : CH σ τ o [] [z] := by
  have nm : ∀ f o', (f ≠ 385 ∧ f ≠ 386 ∧ f < 576) → ¬ mKf o z f o' := fun f o' a q => by unfold mKf at q; omega
  have f4 := fr.i 390 o (nm _ _ (by decide))
  have f5 := fr.a 388 o (nm _ _ (by decide))
  have f6 := fr.a 389 o (nm _ _ (by decide))
  have hz' : FP σ o z := ⟨gI σ 386 o, ⟨Int.le_refl _, hf⟩, hz⟩
  have fp : ∀ x, FP τ o x → FP σ o x := by
    intro x ⟨i, hi, e⟩
    rw [q1] at hi
    rw [q2 i (by omega)] at e
    exact ⟨i, by omega, e⟩
  refine ⟨fun x hx => Or.inr (by rw [List.mem_singleton.mp hx]; exact hz'), fun x hx => Or.inl (fp x hx), ⟨⟨by rw [q1]; have := hp.1; omega, fun i i0 i1 => ?_⟩, fun x hx q => ?_⟩, by rw [q1]; simp only [List.length_cons, List.length_nil]; omega, fun n hn => ?_, ?_, fun x hx e => ?_, fun P p1 p2 => by rw [f4, f5, f6]; exact p1, fr.mono (fun f o' q => ?_)⟩
  · rw [q1] at i0
    rw [q2 i (by omega)]
    obtain ⟨g1, g2⟩ := hp.2 i (by omega) i1
    refine ⟨g1, fun j j0 j1 e => ?_⟩
    rw [q1] at j0
    rw [q2 j (by omega)] at e
    exact g2 j (by omega) j1 e
  · rw [List.mem_singleton.mp hx] at q
    obtain ⟨i, hi, e⟩ := q
    rw [q1] at hi
    rw [q2 i (by omega)] at e
    have := (hp.2 i (by omega) hi.2).2 (gI σ 386 o) (Int.le_refl _) hf (e.trans hz.symm)
    omega
  · unfold oS
    have : fz τ z n = 0 := by unfold fz; rw [if_neg (fun y => by omega)]
    rw [kS_cons, this, f4, f5, f6]
    show 0 + 0 + _ = 0 + _
    omega
  · rw [nfr_cons, if_neg (by omega), f4]
    show _ ∧ _ + ((0 + 0 : Nat) : Int) ≤ _ + ((0 : Nat) : Int)
    omega
  · rw [List.mem_singleton.mp hx] at e; omega
  · unfold mKf at q; unfold mCh
    rcases q with q | q
    · exact Or.inl ⟨by omega, q.2⟩
    · exact Or.inr ⟨by omega, Or.inr (by rw [q.2]; exact hz')⟩
