/-! Store.commitStep -/
def KSr (σ : St) (db : Int → Int → Int) (s : Int) : Prop := ∀ x, x ∈ krt σ 0 → gI σ 584 x = 0 → srl (db (gI σ 585 x)) (gI σ 586 x) ≤ s
/-- the knots that are still to be written -/
def CLn (σ : St) (R : List Int) : Prop := (R.Nodup ∧ (∀ x, x ∈ R ↔ x ∈ krt σ 0 ∧ gI σ 584 x ≠ 0) ∧ lnO σ (fun _ => False) R) ∧ gI σ 390 0 + nfr σ (krt σ 0) + R.length ≤ 640 ∧ ∃ D : List Int, odL σ 0 = D ++ R ∧ gI σ 222 0 = D.length ∧ gI σ 221 0 = D.length + R.length ∧ gI σ 221 0 ≤ 320
def CI (tv : Nat → Int) (cf : Cf) (σ : St) (dk : Int → Int) (db : Int → Int → Int) (L : List (Int × Int × Int × Int × Int × Int)) (c lg lr s f W G : Int) (R NW Old : List Int) : Prop := CLn σ R ∧ CBs tv cf σ dk db L c lg lr s ∧ CRm cf σ f W G (fS σ R) NW Old ∧ KSr σ db s
theorem cat1_get (f : Int → Int) : ∀ (n i : Nat), i < n → (cat1 f n)[i]? = some (f i)
  | 0, i, h => absurd h (by omega)
  | n + 1, i, h => by
    show (cat1 f n ++ [f n])[i]? = _
    by_cases q : i < n
    · rw [List.getElem?_append_left (by rw [cat1_len]; exact q)]
      exact cat1_get f n i q
    · have e : i = n := by omega
      rw [List.getElem?_append_right (by rw [cat1_len]; omega), cat1_len, e, Nat.sub_self]
      rfl
theorem cat1_at {f : Int → Int} {n : Nat} {D R : List Int} {x : Int} (h : cat1 f n = D ++ x :: R) : f (D.length : Nat) = x := by
  have l : n = D.length + (R.length + 1) := by
    have := congrArg List.length h
    rw [cat1_len, List.length_append, List.length_cons] at this
    exact this
  have a := cat1_get f n D.length (by omega)
  rw [h, List.getElem?_append_right (Nat.le_refl _), Nat.sub_self] at a
  have a' : some x = some (f (D.length : Nat)) := a
  injection a' with a''
  exact a''.symm
theorem KHo.used {cf : Cf} {σ τ : St} {sz : Int} (h : KHo cf σ τ sz) (hu : gI σ 451 4 ≠ -1 → gA σ 323 0 (gI σ 451 4) ≠ 0) {m : Int} (m0 : 0 ≤ m) (hm : gA τ 323 0 m ≠ 0) : gA σ 323 0 m ≠ 0 ∨ (m = gI τ 451 4 ∧ gI τ 452 4 = sz) := by
  rcases h with ⟨q1, q2, q3, q4, q5⟩ | ⟨q1, q2, q3, q4, q5, q6⟩
  · rw [q4] at hm; exact Or.inl hm
  · by_cases e : m = gI τ 451 4
    · exact Or.inr ⟨e, q2⟩
    · refine Or.inl ?_
      rw [q5 m m0, if_neg e] at hm
      by_cases e2 : m = gI σ 451 4
      · rw [e2]; exact hu (by omega)
      · rw [if_neg e2] at hm; exact hm
theorem SA.nhl {tv : Nat → Int} {cf : Cf} {σ : St} {dk : Int → Int} {db : Int → Int → Int} {L : List (Int × Int × Int × Int × Int × Int)} (h : SA tv cf σ dk db L) {m : Int} (m0 : 0 ≤ m) (m1 : m < 4 + cf.2.2) : eE σ 0 dk m = lmF dk m := eE_no (fun w hw e => by
    rcases h.1.1.all.1 w hw with q | q
    · omega
    · have := q.1.1
      omega)
theorem SA.u4 {tv : Nat → Int} {cf : Cf} {σ : St} {dk : Int → Int} {db : Int → Int → Int} {L : List (Int × Int × Int × Int × Int × Int)} (h : SA tv cf σ dk db L) : gI σ 451 4 ≠ -1 → gA σ 323 0 (gI σ 451 4) ≠ 0 := fun q => by
  have := (h.2.2.2.1 4 (Or.inr (Or.inr rfl)) q).1
  omega
theorem SA.rn {tv : Nat → Int} {cf : Cf} {σ : St} {dk : Int → Int} {db : Int → Int → Int} {L : List (Int × Int × Int × Int × Int × Int)} (h : SA tv cf σ dk db L) {w : Int} (hw : isW 0 w) (hn : gI σ 451 w ≠ -1) : (4 + cf.2.2 ≤ gI σ 451 w ∧ gI σ 451 w < cf.1 - 6) ∧ (0 ≤ gI σ 452 w ∧ gI σ 452 w ≤ (cf.2.1 - 2) * 128) ∧ max 0 (dk (gI σ 451 w)) = gI σ 452 w / 128 := by
  rcases h.1.1.all.1 w hw with q | q
  · exact absurd q hn
  · exact ⟨q.1, q.2.1, q.2.2.1⟩
theorem SA.p8 {tv : Nat → Int} {cf : Cf} {σ : St} {dk : Int → Int} {db : Int → Int → Int} {L : List (Int × Int × Int × Int × Int × Int)} (h : SA tv cf σ dk db L) {w : Int} (hw : isW 0 w) (hn : gI σ 451 w ≠ -1) : gI σ 452 w % 8 = 0 := by
  have r := h.rn hw hn
  have u := (h.2.2.2.1 w hw hn).1
  obtain ⟨t, ht⟩ := ((h.2.2.1 _ r.1.1 r.1.2).2.2.2.2.2.2 (by omega)).1 ⟨w, hw, rfl⟩
  have := chn_m8 ht (by decide)
  rw [eE_at h.1.1 hw rfl hn] at this
  exact this
/-- what is told of a commit stays, when numbers become longer -/
theorem CBs.grow {tv : Nat → Int} {cf : Cf} {σ τ : St} {dk dk' : Int → Int} {db db' : Int → Int → Int} {L : List (Int × Int × Int × Int × Int × Int)} {c lg lr s s' : Int} (hc : CfOK cf) (h : CBs tv cf σ dk db L c lg lr s) (hS : SA tv cf σ dk db L) (hg : LGo cf σ τ dk dk' db db') (fw : ∀ w f, (w = 0 ∨ w = 2) → (f = 451 ∨ f = 452) → gI τ f w = gI σ f w) (fs : ∀ f, (f = 208 ∨ f = 219 ∨ f = 212) → gI τ f 0 = gI σ f 0) (hs : s ≤ s') (hb : NSb cf τ dk' db' s') (hn : NSc cf τ db' lr) : CBs tv cf τ dk' db' L c lg lr s' := by
  have hR : 0 ≤ cf.2.2 ∧ cf.2.2 ≤ 4 := hc.2.2
  have hBl : 24 ≤ cf.1 ∧ cf.1 ≤ 64 := hc.1
  obtain ⟨⟨h1, h2⟩, ⟨a1, a2, a3, a4, a5⟩, h3, ⟨h4, h5⟩, h6, -, -⟩ := h
  have lo : ∀ m, 0 ≤ m → m < 4 + cf.2.2 → dk' m = dk m ∧ ∀ p, p < lmF dk m → db' m p = db m p := fun m m0 m1 => ⟨hg.2 m m0 m1, fun p p1 => (hg.1 m m0 (by omega)).2.2 p (by rw [hS.nhl m0 m1]; exact p1)⟩
  have am : AM db' L = AM db L := AM.grow hS.2.1.2.2 (fun e he p p0 p1 => by
    have q := hS.2.1.2.2 e he
    exact (hg.1 _ (by omega) q.1.2).2.2 p (by have := q.2.2.2.2.2.2; omega))
  refine ⟨⟨?_, ?_⟩, ⟨by rw [fs _ (by omega)]; exact a1, a2, by rw [fs _ (by omega)]; exact a3, by rw [fs _ (by omega)]; exact a4, a5⟩, ?_, ⟨by omega, fun m hm k k0 k1 => ?_⟩, fun q => ?_, hb, hn⟩
  · unfold flu; rw [fw 0 _ (by omega) (by omega), fw 0 _ (by omega) (by omega)]; exact h1
  · unfold flu; rw [fw 2 _ (by omega) (by omega), fw 2 _ (by omega) (by omega)]; exact h2
  · rw [am]
    have := h3.1
    exact h3.ext (lo lg (by omega) (by omega)).1 (fun i i0 i1 => (lo lg (by omega) (by omega)).2 i (by unfold lmF; omega))
  · obtain ⟨a, b⟩ := lo m (by omega) (by omega)
    rw [a] at k1
    have e : srl (db' m) (128 * k) = srl (db m) (128 * k) := srl_ext (n := 128) (by omega) (fun p p0 p1 => b p (by unfold lmF; omega))
    have := h5 m hm k k0 k1
    omega
  · obtain ⟨a, b⟩ := lo (5 - lg) (by omega) (by omega)
    rw [a] at q
    rw [rI4_ext (h := db (5 - lg)) (fun i i0 i1 => b i (by unfold lmF; omega))]
    exact h6 q
theorem nSr {g h : Int → Int} (e : ∀ p, 0 ≤ p → p < 24 → h p = g p) : rI4 h 4 = rI4 g 4 ∧ srl h 0 = srl g 0 := ⟨rI4_ext (fun i i0 i1 => e i (by omega) (by omega)), srl_ext (n := 24) (by omega) (fun p p0 p1 => e p p0 (by omega))⟩
theorem NS.step {cf : Cf} {σ τ : St} {dk dk' : Int → Int} {db db' : Int → Int → Int} {s s' lr : Int} (h0 : 0 ≤ cf.2.2) (hb : NSb cf σ dk db s) (hn : NSc cf σ db lr) (hg : LGo cf σ τ dk dk' db db') (hs : s ≤ s') (hk : ∀ x, x ∈ krt σ 0 → gI σ 584 x = 0 → x ∈ krt τ 0 ∧ gI τ 584 x = 0 ∧ gI τ 585 x = gI σ 585 x)
    (hnew : ∀ m, 4 + cf.2.2 ≤ m → m < cf.1 - 6 → gA τ 323 0 m ≠ 0 → gA σ 323 0 m ≠ 0 ∨ (24 ≤ eE τ 0 dk' m ∧ rI4 (db' m) 4 ≠ 0 ∧ srl (db' m) 0 ≤ s' ∧ ∃ x, x ∈ krt τ 0 ∧ gI τ 584 x = 0 ∧ gI τ 585 x = m)) : NSb cf τ dk' db' s' ∧ NSc cf τ db' lr := by
  refine ⟨fun m m0 m1 hm => ?_, fun m m0 m1 hm => ?_⟩
  · rcases hnew m m0 m1 hm with q | q
    · obtain ⟨a, b, c⟩ := hb m m0 m1 q
      obtain ⟨g1, g2, g3⟩ := hg.1 m (by omega) m1
      obtain ⟨e1, e2⟩ := nSr (g := db m) (h := db' m) (fun p p0 p1 => g3 p (by omega))
      rw [e1, e2]
      exact ⟨by omega, b, by omega⟩
    · exact ⟨q.1, q.2.1, q.2.2.1⟩
  · rcases hnew m m0 m1 hm with q | q
    · obtain ⟨a, b, c⟩ := hb m m0 m1 q
      obtain ⟨g1, g2, g3⟩ := hg.1 m (by omega) m1
      obtain ⟨e1, e2⟩ := nSr (g := db m) (h := db' m) (fun p p0 p1 => g3 p (by omega))
      rw [e2]
      rcases hn m m0 m1 q with w | ⟨x, x1, x2, x3⟩
      · exact Or.inl w
      · obtain ⟨y1, y2, y3⟩ := hk x x1 x2
        exact Or.inr ⟨x, y1, y2, by rw [y3]; exact x3⟩
    · exact Or.inr q.2.2.2
theorem ix_kr {σ : St} {o : Int} {L : List (Int × Int × Int × Int × Int × Int)} (h : IX σ o L) : ∀ x, x ∈ krt σ o → 320 * o ≤ x ∧ x < 320 * o + 320 := by
  obtain ⟨l, z, i1, i2, -, -, -, i6, -⟩ := h
  intro x hx
  unfold krt at hx
  rw [i1, i2.cnt.2.1, show ((l : Nat) : Int).toNat = l by omega] at hx
  exact (i6 x hx).2
def mCm (f : Nat) (o' : Int) : Prop := (f = 222 ∧ o' = 0) ∨ mMd 0 f o' ∨ mRm 0 4 f o' ∨ mWr 4 f o' ∨ ((584 ≤ f ∧ f ≤ 587) ∧ 0 ≤ o' ∧ o' < 320) ∨ (f = 324 ∧ o' = 0)
theorem sp_commitStep {tv : Nat → Int} {cf : Cf} {σ : St} {dk : Int → Int} {db : Int → Int → Int} {B c lg lr s c0 b0 f W G : Int} {r : RT} {L : List (Int × Int × Int × Int × Int × Int)} {R NW Old : List Int} {Q : St → Prop} (hc : CfOK cf) (h : SA tv cf σ dk db L) (hD : DJ tv cf σ 0 dk db (SpC cf c0 b0 r) B) (hB : B + 402 < 1073741000) (hc0 : c0 ≤ c) (hb0 : b0 ≤ lr) (hG : 0 ≤ G) (hL : L.length ≤ 880) (hs : gI σ 202 0 = s) (hr : 0 ≤ s ∧ s < 4000000000000000000) (hnx : 0 ≤ gI σ 203 0 ∧ gI σ 203 0 < 1073741824) (hI : CI tv cf σ dk db L c lg lr s f W G R NW Old)
    (hQ1 : ∀ τ dk' db' x R' f' NW', R = x :: R' → SA tv cf τ dk' db' L → DJ tv cf τ 0 dk' db' (SpC cf c0 b0 r) B → CI tv cf τ dk' db' L c lg lr (s + 1) f' (W + szK (gI σ 577 x)) G R' NW' Old → fS σ R = szK (gI σ 577 x) + fS τ R' → gI τ 202 0 = s + 1 → rmy cf (gA τ 323 0) (gA τ 325 0) = rmy cf (gA σ 323 0) (gA σ 325 0) → (krt τ 0 = krt σ 0 ∧ ∀ y, KE σ τ y) → LGo cf σ τ dk dk' db db' → ((∀ m, m ≠ gI σ 451 4 → m ≠ gI τ 451 4 → dk' m = dk m) ∧ KHo cf σ τ (szK (gI σ 577 x))) → Fr mCm σ τ → RK τ → Q τ)
    (hQ2 : R = [] → ∀ τ dk' db', SA tv cf τ dk' db' L → DJ tv cf τ 0 dk' db' (SpC cf c lr r) (B + 402) → ECo tv cf σ τ dk dk' db db' L c lg lr s → RK τ → Q τ) : wp_Store_commitStep cf tv 0 Q σ := by
  have hR : 0 ≤ cf.2.2 ∧ cf.2.2 ≤ 4 := hc.2.2
  obtain ⟨⟨⟨l1, l2, l3⟩, l4, D, l5, l6, l7, l8⟩, hcb, hrm, hks⟩ := hI
  have em : ∀ sz, 0 ≤ sz ∧ sz ≤ 256 → (gI σ 451 4 = -1 ∨ (cf.2.1 - 2) * 128 < gI σ 452 4 + sz) → 1 ≤ emp cf (gA σ 323 0) := fun sz hz q => hrm.need hc (fun q => h.p8 (Or.inr (Or.inr rfl)) q) hz hG q
  have tr := tbl_r hc
  unfold wp_Store_commitStep
  rw [l6, l7]
  refine ⟨fun q => ?_, fun q σ8 e8 => ?_⟩
  · have rn : R = [] := List.length_eq_zero_iff.mp (by omega)
    refine sp_endCommit hc h hD hB hc0 hb0 (em _ (by omega)) hL hs hr hnx ⟨fun x hx => ?_, hcb⟩ (fun τ dk' db' S1 D1 E1 k1 _ => hQ2 rn τ dk' db' S1 D1 E1 k1)
    apply Classical.byContradiction
    intro z
    have := (l2 x).mpr ⟨hx, z⟩
    rw [rn] at this
    exact absurd this List.not_mem_nil
  · obtain ⟨x, R', e⟩ : ∃ x R', R = x :: R' := by
      cases hR' : R with
      | nil => rw [hR'] at q; exact absurd (by show (D.length : Int) + 0 ≤ D.length; omega) q
      | cons x R' => exact ⟨x, R', rfl⟩
    rw [e] at l1 l2 l3 l4 l5 l7 hrm
    have ll : ((x :: R').length : Int) = R'.length + 1 := by rw [List.length_cons]; omega
    rw [ll] at l7 l4
    refine ⟨by omega, ?_⟩
    have f8 : Fr (fun f o' => f = 222 ∧ o' = 0) σ σ8 := by rw [e8]; exact (Fr.rf _ _).sI ⟨rfl, rfl⟩
    have d8 : gI σ8 222 0 = D.length + 1 := by rw [e8, gI_sI1, w32_id (by unfold rI; omega)]
    have k8 : RK σ8 := by rw [e8]; exact h.1.2.sI (by rw [w32_id (by unfold rI; omega)]; show rI _; unfold rI; omega)
    have xo : gA σ8 220 0 (D.length : Int) = x := by
      rw [f8.a _ _ (fun q => by omega)]
      exact cat1_at l5
    rw [xo]
    have S8 := h.fr f8 (fun f o' a q => by unfold mSA isW at a; omega) k8
    have D8 := hD.fr f8 (fun f o' a q => by unfold rBI at a; omega)
    obtain ⟨kr8, ko8⟩ := krt_fr (o := 0) f8 (fun f x a b q => by omega) (fun q => by omega)
    obtain ⟨xk, xf⟩ := (l2 x).mp List.mem_cons_self
    have xc := krt_cnt h.2.1.1.1 x xk
    obtain ⟨n1, n2⟩ := List.nodup_cons.mp l1
    have o8 : gI σ8 390 0 = gI σ 390 0 := f8.i _ _ (fun q => by omega)
    have nf8 : nfr σ8 (krt σ8 0) = nfr σ (krt σ 0) := by rw [kr8]; exact nfr_ext (fun y _ => (ko8 y).2.1)
    refine sp_wknot hc S8 D8 (by rw [kr8]; exact xk) (by rw [(ko8 x).2.1]; exact xf) (fun k k0 k1 => ?_) (fun q => by
      rw [f8.a _ _ (fun q => by omega)]
      rw [f8.i _ _ (fun q => by omega), f8.i _ _ (fun q => by omega)] at q
      exact em _ (by rw [(ko8 x).1.2.1]; have szr : szK (gI σ 577 x) = (32 + 28 * gI σ 577 x + 7) / 8 * 8 := rfl; omega) q) ((f8.i _ _ (fun q => by omega)).trans hs) ⟨hr.1, by omega⟩ (by rw [o8, nf8]; omega) (fun τ dk' db' S9 D9 s9 kr9 ke9 fx9 oe9 sr9 ow9 kh9 lg9 f9 => ?_)
    · rw [(ko8 x).1.2.1] at k1
      rw [(ko8 x).1.b k]
      rcases l3.1 k k0 k1 with w | w | w
      · exact Or.inl w
      · exact Or.inr (by rw [(ko8 _).2.1]; exact w)
      · exact absurd w (fun z => z)
    · intro k9
      have KEs : ∀ y, KE σ τ y := fun y => (ko8 y).1.tr (ke9 y)
      have OEs : ∀ y, y ≠ x → OE σ τ y := fun y ne => (ko8 y).2.tr (oe9 y ne)
      have krs : krt τ 0 = krt σ 0 := kr9.trans kr8
      have ct8 : gI σ8 577 x = gI σ 577 x := (ko8 x).1.2.1
      rw [ct8] at ow9 kh9
      have lgs : LGo cf σ τ dk dk' db db' := (LGo.fr f8 (fun f w _ a b q => by omega)).tr lg9
      have F : Fr mCm σ τ := (f8.mono (fun f o' q => Or.inl q)).tr (f9.mono (fun f o' q => by
        rcases q with q | q | q | q
        · exact Or.inr (Or.inl q)
        · exact Or.inr (Or.inr (Or.inl q))
        · exact Or.inr (Or.inr (Or.inr (Or.inl q)))
        · unfold mOw at q
          rcases q with q | q
          · exact Or.inr (Or.inr (Or.inr (Or.inr (Or.inl ⟨by omega, by have := ix_kr S8.2.1.1.1 x (by rw [kr8]; exact xk); omega⟩))))
          · exact Or.inr (Or.inr (Or.inr (Or.inr (Or.inr q))))))
      have kh : KHo cf σ τ (szK (gI σ 577 x)) := by
        unfold KHo at kh9 ⊢
        rw [f8.i 451 4 (fun q => by omega), f8.i 452 4 (fun q => by omega), f8.a 323 0 (fun q => by omega), f8.a 325 0 (fun q => by omega)] at kh9
        exact kh9
      have szr : szK (gI σ 577 x) = (32 + 28 * gI σ 577 x + 7) / 8 * 8 := rfl
      have fxs : ∀ y, y ∈ R' → gI τ 584 y = gI σ 584 y ∧ y ≠ x := fun y hy => by
        have ne : y ≠ x := fun z => n1 (by rw [← z]; exact hy)
        exact ⟨(OEs y ne).1, ne⟩
      have fse : fS τ R' = fS σ R' := by
        unfold fS
        congr 1
        exact List.map_congr_left (fun y hy => by rw [(fxs y hy).1, (KEs y).2.1])
      have f0 := fS_rng (σ := σ) (K := R') (fun y hy => krt_cnt h.2.1.1.1 y ((l2 y).mp (List.mem_cons_of_mem _ hy)).1)
      have fsc : fS σ (x :: R') = szK (gI σ 577 x) + fS σ R' := by rw [fS_cons, if_neg xf]
      have hn4 : gI τ 451 4 ≠ -1 := by
        have := ((S9.2.2.2.2.1 x (by rw [krs]; exact xk) fx9).1).2.2.1
        omega
      have rn9 := S9.rn (w := 4) (Or.inr (Or.inr rfl)) hn4
      rw [fsc] at hrm
      obtain ⟨f', NW', hrm'⟩ := hrm.step (τ := τ) (sz := szK (gI σ 577 x)) hc kh rn9.1 h.u4 (fun q => h.p8 (Or.inr (Or.inr rfl)) q) (by omega) (by omega) (fun y hy hf => by
        by_cases ne : y = x
        · exact Or.inr (by rw [ne]; exact ow9.1)
        · exact Or.inl ⟨by rw [← krs]; exact hy, by rw [← (OEs y ne).1]; exact hf, (OEs y ne).2.1⟩)
      rw [show szK (gI σ 577 x) + fS σ R' - szK (gI σ 577 x) = fS τ R' by rw [fse]; omega] at hrm'
      obtain ⟨ns1, ns2⟩ := NS.step (τ := τ) (dk' := dk') (db' := db') (s' := s + 1) hR.1 hcb.2.2.2.2.2.1 hcb.2.2.2.2.2.2 lgs (by omega) (fun y hy hf => by
        have ne : y ≠ x := fun z => xf (by rw [← z]; exact hf)
        exact ⟨by rw [krs]; exact hy, by rw [(OEs y ne).1]; exact hf, (OEs y ne).2.1⟩) (fun m m0 m1 hm => by
        rcases kh.used h.u4 (by omega) hm with w | ⟨w1, w2⟩
        · exact Or.inl w
        · refine Or.inr ?_
          have kx := (S9.2.2.2.2.1 x (by rw [krs]; exact xk) fx9).1
          have p0 : gI τ 586 x = 0 := by omega
          have en : gI τ 585 x = m := by rw [ow9.1]; exact w1.symm
          rw [en, p0] at sr9
          have wh := kx.2.2.2.2.2.1
          rw [en, p0, (KEs x).2.1] at wh
          have w4 := wh.2.1
          rw [show (0 : Int) + 4 = 4 by omega] at w4
          have ee : eE τ 0 dk' m = gI τ 452 4 := eE_at S9.1.1 (Or.inr (Or.inr rfl)) w1.symm (by omega)
          exact ⟨by rw [ee]; omega, by rw [w4]; omega, by omega, x, by rw [krs]; exact xk, fx9, en⟩)
      refine hQ1 τ dk' db' x R' f' NW' e S9 D9 ⟨⟨⟨n2, fun y => ?_, ?_⟩, ?_, D ++ [x], ?_, ?_, ?_, ?_⟩, hcb.grow hc h lgs (fun w g hw hg => F.i _ _ (fun q => by unfold mCm mMd mRow mRm mWc mSf mWr mBw mMv at q; omega)) (fun g hg => F.i _ _ (fun q => by unfold mCm mMd mRow mRm mWc mSf mWr mBw mMv at q; omega)) (by omega) ns1 ns2, hrm', fun y hy hf => ?_⟩ (by rw [e, fsc, fse]) s9 (kh.rm hR.1 h.u4) ⟨krs, KEs⟩ lgs ⟨fun m a b => ow9.2.2.2 m (by rw [f8.i _ _ (fun q => by omega)]; exact a) b, kh⟩ F k9
      · rw [krs]
        constructor
        · intro hy
          have w := (l2 y).mp (List.mem_cons_of_mem _ hy)
          exact ⟨w.1, by rw [(fxs y hy).1]; exact w.2⟩
        · intro w
          have ne : y ≠ x := fun z => w.2 (by rw [z]; exact fx9)
          rcases List.mem_cons.mp ((l2 y).mpr ⟨w.1, by rw [← (OEs y ne).1]; exact w.2⟩) with z | z
          · exact absurd z ne
          · exact z
      · refine lnO.step (fun y => (KEs y).2.1) (fun y k => (KEs y).b k) (fun y hy => ?_) l3.2 (fun y hy => ?_)
        · by_cases ne : y = x
          · rw [ne]; exact fx9
          · rw [(OEs y ne).1]; exact hy
        · rcases hy with w | w
          · exact absurd w (fun z => z)
          · exact Or.inl (by rw [w]; exact fx9)
      · have a := nfr_one (σ := σ) (τ := τ) (x := x) (K := krt σ 0) (by
          obtain ⟨l, z, a1, a2, -⟩ := h.2.1.1.1.krt
          rw [a1]; exact a2.nd) (fun y hy ne => (OEs y ne).1)
        have b : gI τ 390 0 = gI σ 390 0 := F.i _ _ (fun q => by unfold mCm mMd mRow mRm mWc mSf mWr mBw mMv at q; omega)
        rw [krs, b]
        omega
      · have a : odL τ 0 = odL σ 0 := by
          unfold odL
          rw [F.a 220 0 (fun q => by unfold mCm mMd mRow mRm mWc mSf mWr mBw mMv at q; omega), F.i 221 0 (fun q => by unfold mCm mMd mRow mRm mWc mSf mWr mBw mMv at q; omega)]
        rw [a, l5, List.append_assoc]; rfl
      · rw [f9.i _ _ (fun q => by unfold mWk mMd mRow mRm mWc mSf mWr mBw mMv mOw at q; omega), d8, List.length_append]; show _ = ((D.length + 1 : Nat) : Int); omega
      · rw [F.i 221 0 (fun q => by unfold mCm mMd mRow mRm mWc mSf mWr mBw mMv at q; omega), l7, List.length_append]
        show _ = ((D.length + 1 : Nat) : Int) + _
        omega
      · rw [F.i 221 0 (fun q => by unfold mCm mMd mRow mRm mWc mSf mWr mBw mMv at q; omega)]; exact l8
      · by_cases ne : y = x
        · rw [ne]; omega
        · have hy' : y ∈ krt σ 0 := by rw [← krs]; exact hy
          have hf' : gI σ 584 y = 0 := by rw [← (OEs y ne).1]; exact hf
          rw [(OEs y ne).2.1, (OEs y ne).2.2.1]
          have kx := (h.2.2.2.2.1 y hy' hf').1
          have sz := kx.sz (krt_cnt h.2.1.1.1 y hy')
          have g3 := (lgs.1 (gI σ 585 y) (by have := kx.2.2.1; omega) kx.2.2.1.2).2.2
          rw [srl_ext (g := db (gI σ 585 y)) (n := gI σ 587 y) (by omega) (fun p p0 p1 => g3 p (by have := kx.2.2.2.2.1; omega))]
          have := hks y hy' hf'
          omega
