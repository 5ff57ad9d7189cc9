/-! Store.writeTable whole -/
theorem Fr.asd3 {M : Nat → Int → Prop} {U V : Int → Int} {x y : St} (h : Fr M x y) (hm : M 324 0) : Fr M (gh U x) (gh V y) := by
  intro f o n
  refine ⟨?_, fun i => ?_⟩
  · rw [gh_i, gh_i, (h f o n).1]
  · have q : ¬ (f = 324 ∧ o = 0) := fun q => n (by rw [q.1, q.2]; exact hm)
    rw [gh_a, gh_a, if_neg q, if_neg q, (h f o n).2 i]
def mTb (f : Nat) (o' : Int) : Prop := mWt f o' ∨ mRm 0 4 f o' ∨ (f = 216 ∧ o' = 0)
theorem sp_writeTable {tv : Nat → Int} {cf : Cf} {σ : St} {dk : Int → Int} {db : Int → Int → Int} {Sp : Int → Int → (Int → Int → Int) → Prop} {B s : Int} {L : List (Int × Int × Int × Int × Int × Int)} {Q : St → Prop} (hc : CfOK cf) (h : SA tv cf σ dk db L) (hD : DJ tv cf σ 0 dk db Sp B) (hE : (gI σ 451 4 = -1 ∨ (cf.2.1 - 2) * 128 < gI σ 452 4 + tbl cf) → 1 ≤ emp cf (gA σ 323 0)) (hs : gI σ 202 0 = s) (hr : 0 ≤ s ∧ s < 4611686018427387904)
    (hQ : ∀ τ dk' db', SA tv cf τ dk' db' L → DJ tv cf τ 0 dk' db' Sp B → gI τ 214 0 = gI τ 451 4 → gI τ 215 0 = gI τ 452 4 - tbl cf → gI τ 451 4 ≠ -1 → tbG tv cf (gA τ 324 0) (db' (gI τ 214 0)) (gI τ 215 0) → srl (db' (gI τ 214 0)) (gI τ 215 0) = s + 1 → gI τ 202 0 = s + 1 → KHo cf σ τ (tbl cf) → CK σ τ 0 → krt τ 0 = krt σ 0 → (∀ x, KE σ τ x ∧ OE σ τ x) → gI τ 390 0 = gI σ 390 0 → LGo cf σ τ dk dk' db db' → Fr mTb σ τ → Q τ) : wp_Store_writeTable cf tv 0 (fun σ9 => RK σ9 → Q σ9) σ := by
  have hR : 0 ≤ cf.2.2 ∧ cf.2.2 ≤ 4 := hc.2.2
  have hP : 8 ≤ cf.2.1 ∧ cf.2.1 ≤ 32 := hc.2.1
  have hB : 24 ≤ cf.1 ∧ cf.1 ≤ 64 := hc.1
  have isw : isW 0 4 := Or.inr (Or.inr rfl)
  have tr := tbl_r hc
  have b27 : ∀ σ42, Fr (fun f o' => f = 324 ∧ o' = 0) σ σ42 → RK σ42 → (∀ m, 0 ≤ m → m < cf.1 - 6 → gA σ42 324 0 m = gA σ 324 0 m - tbS σ m) → wp_Store_writeTable_b27 cf tv 0 (fun σ9 => RK σ9 → Q σ9) σ42 := by
    intro σ42 f42 k42 lv42
    unfold wp_Store_writeTable_b27
    intro σ32 e32
    have f0 : Fr (fun f o' => (f = 324 ∨ f = 216) ∧ o' = 0) σ σ32 := by
      rw [e32]; exact (f42.mono (fun f o' q => ⟨Or.inl q.1, q.2⟩)).sI ⟨Or.inr rfl, rfl⟩
    have k32 : RK σ32 := by rw [e32]; exact k42.sI (by show rI _; unfold rI; omega)
    have z32 : gI σ32 216 0 = tbl cf := by rw [e32, gI_sI1]
    have S0 := h.off hc f0 k32 (fun m m0 m1 => by rw [← lv42 m m0 m1, e32]; rfl)
    have D0 := hD.fr f0 (fun f o' a q => by unfold rBI at a; omega)
    have W0 : WW cf σ32 0 dk db := S0.1.1.fr (gh_fr σ32).2 mAc_w
    have u0 : gA σ32 323 0 = gA σ 323 0 := f0.a _ _ (fun q => by omega)
    have o0 : gA σ32 325 0 = gA σ 325 0 := f0.a _ _ (fun q => by omega)
    have wn0 : gI σ32 451 4 = gI σ 451 4 := f0.i _ _ (fun q => by omega)
    have wp0 : gI σ32 452 4 = gI σ 452 4 := f0.i _ _ (fun q => by omega)
    have s0 : gI σ32 202 0 = s := by rw [f0.i _ _ (fun q => by omega)]; exact hs
    have lg0 : LGo cf σ σ32 dk dk db db := LGo.fr f0 (fun f w _ a b q => by omega)
    have un : gI σ 451 4 ≠ -1 → gA σ 323 0 (gI σ 451 4) = 2 ∧ gA σ 325 0 (gI σ 451 4) = 1 := fun q => by
      have := h.2.2.2.1 4 isw q
      rw [if_pos rfl] at this
      exact this
    -- from a head that takes it on
    have rest : ∀ τ2 dk2 db2 n2 p2, SA tv cf (gh (gA τ2 324 0) τ2) dk2 db2 L → RK τ2 → DJ tv cf τ2 0 dk2 db2 Sp B → gI τ2 451 4 = n2 → n2 ≠ -1 → gI τ2 452 4 = p2 → p2 + tbl cf ≤ (cf.2.1 - 2) * 128 → LGo cf σ τ2 dk dk2 db db2 → ((gI σ 451 4 ≠ -1 ∧ n2 = gI σ 451 4 ∧ p2 = gI σ 452 4 ∧ gA τ2 323 0 = gA σ 323 0 ∧ gA τ2 325 0 = gA σ 325 0) ∨ ((gI σ 451 4 = -1 ∨ (cf.2.1 - 2) * 128 < gI σ 452 4 + tbl cf) ∧ p2 = 0 ∧ gA σ 323 0 n2 = 0 ∧ n2 ≠ gI σ 451 4 ∧ (∀ m, 0 ≤ m → gA τ2 323 0 m = if m = n2 then 2 else if m = gI σ 451 4 then 1 else gA σ 323 0 m) ∧ gA τ2 325 0 = upF (gA σ 325 0) n2 1)) → Fr (mRm 0 4) σ32 τ2 →
        ∀ σ_35, σ_35 = sI τ2 214 0 (gI τ2 451 (0 + 4)) → ((0 : Int) ≤ gI σ_35 214 0 ∧ gI σ_35 214 0 < (cf.1 - 6)) ∧ ((0 : Int) ≤ gI σ_35 214 0 ∧ gI σ_35 214 0 < (cf.1 - 6)) ∧ ∀ σ_36, σ_36 = sA σ_35 324 0 (gI σ_35 214 0) (w32 ((gA σ_35 324 0 (gI σ_35 214 0)) + (gI σ_35 216 0))) → wp_Row_clear cf tv (0 + 2) (fun σ_38 => RK σ_38 → wp_Row_begin cf tv (0 + 2) 10 (gI σ_38 216 0) (fun σ_40 => RK σ_40 → ∀ y1_41, y1_41 = (4 + cf.2.2) → lQ1 (wp_Store_writeTable_L106 cf tv 0 (fun σ9 => RK σ9 → Q σ9)) y1_41 σ_40) σ_38) σ_36 := by
      intro τ2 dk2 db2 n2 p2 S2 k2 D2 hn2 n21 hp2 hS2 lg2 cs f2
      refine sp_tabput hc rfl k2 S2 D2 hn2 n21 hp2 hS2 (by rw [f2.i _ _ (fun q => by unfold mRm mWc mWr mBw mSf mMv at q; omega)]; exact z32) (by rw [f2.i _ _ (fun q => by unfold mRm mWc mWr mBw mSf mMv at q; omega)]; exact s0) hr (fun τ dk' db' S3 D3 t1 t2 t3 t4 t5 t6 t7 t8 lg3 f3 => ?_)
      have F : Fr mTb σ τ := ((f0.mono (fun f o' q => by
          rcases q with ⟨q | q, w⟩
          · exact Or.inl (Or.inr (Or.inr ⟨Or.inl q, w⟩))
          · exact Or.inr (Or.inr ⟨q, w⟩))).tr (f2.mono (fun f o' q => Or.inr (Or.inl q)))).tr (f3.mono (fun f o' q => Or.inl q))
      have nk : ∀ f x, 576 ≤ f → f ≤ 587 → ¬ mTb f x := fun f x a b q => by unfold mTb mWt mMd mRow mRm mWc mWr mBw mSf mMv at q; omega
      have ni : ∀ f, 385 ≤ f → f ≤ 390 → ¬ mTb f 0 := fun f a b q => by unfold mTb mWt mMd mRow mRm mWc mWr mBw mSf mMv at q; omega
      obtain ⟨kr, ko⟩ := krt_fr (o := 0) F nk (ni _ (by decide) (by decide))
      have us : ∀ f, (f = 323 ∨ f = 325) → gA τ f 0 = gA τ2 f 0 := fun f hf => f3.a _ _ (fun q => by unfold mWt mMd mRow mWr mBw at q; omega)
      refine hQ τ dk' db' S3 D3 (t1.trans t3.symm) (by rw [t2, t4]; omega) (by rw [t3]; exact n21) (by rw [t1, t2]; exact t5) (by rw [t1, t2]; exact t6) t7 ?_ (CK.fr F nk ni) kr ko (F.i _ _ (ni _ (by decide) (by decide))) (lg2.tr lg3) F
      unfold KHo
      rw [t3, t4, us 323 (by omega), us 325 (by omega)]
      rcases cs with ⟨q1, q2, q3, q4, q5⟩ | ⟨q1, q2, q3, q4, q5, q6⟩
      · exact Or.inl ⟨q1, q2, by omega, q4, q5⟩
      · exact Or.inr ⟨q1, by omega, q3, q4, q5, q6⟩
    rw [z32]
    have nme : ∀ k, 4 + cf.2.2 ≤ k → k < cf.1 - 6 → gA σ32 323 0 k = 0 → dk k = -1 ∧ ∀ v, isW 0 v → gI σ32 451 v ≠ k := by
      intro k k0 k1' hu
      rw [u0] at hu
      obtain ⟨b1, b2, b3⟩ := (h.2.2.1 k k0 k1').2.1 hu
      exact ⟨b1, fun v hv e => b3 ⟨v, hv, by rw [← e]; exact (f0.i _ _ (fun q => by omega)).symm⟩⟩
    refine sp_room (w := 0 + 4) (n := gI σ32 451 (0 + 4)) hc (Or.inl rfl) k32 isw D0 W0 rfl ⟨by omega, by omega⟩ (fun q => by rw [u0]; exact hE (by rw [← wn0, ← wp0]; exact q)) (fun q => ?_) nme (fun q1 q2 _ => ?_) (fun hno τ2 dk2 db2 k D2 W2 N2 F2 k2 _ => ?_)
    · show gA σ32 323 0 (gI σ32 451 4) ≠ 0
      have q' : gI σ32 451 4 ≠ -1 := q
      rw [wn0] at q' ⊢
      rw [u0, (un q').1]
      omega
    · have q1' : gI σ32 451 4 ≠ -1 := q1
      exact rest σ32 dk db _ _ S0 k32 D0 rfl q1' rfl q2 lg0 (Or.inl ⟨by rw [← wn0]; exact q1', wn0, wp0, u0, o0⟩) (Fr.rf _ _)
    · have N' := N2.asd
      have kg : RK (gh (gA τ2 324 0) τ2) := (RK.sAr (f := 324) (o := 0) (g := gA τ2 324 0) k2 (fun i => k2.ai _ _ _ (by decide))).sI (by show rI (-1); unfold rI; omega)
      have S2 := S0.neo hc isw (gh_w (by omega)) N' W2.asd (F2.asd3 (by unfold mRm mSf; omega)) kg
      have b := nme k N2.1.1 N2.1.2 N2.2.1
      have lg2 := N2.lg hc b.1 b.2 W0 isw rfl (fun n a b => D0.k hc ⟨a, b⟩)
      obtain ⟨c1, c2, c3, c4, c5, c6, c7, c8, -⟩ := N2
      refine rest τ2 dk2 db2 k 0 S2 k2 D2 c4 (by omega) c5 (by omega) (lg0.tr lg2) (Or.inr ⟨?_, rfl, by rw [← u0]; exact c2, by rw [← wn0]; exact c3, fun m m0 => ?_, ?_⟩) F2
      · rw [← wn0, ← wp0]; exact hno
      · rw [← u0, ← wn0]; exact c6 m m0
      · rw [← o0, c8]; rfl
  unfold wp_Store_writeTable
  refine ⟨fun q => b27 σ (Fr.rf _ _) h.1.2 (fun m m0 m1 => ?_), fun q => ?_⟩
  · have : tbS σ m = 0 := by unfold tbS; rw [q]; exact if_neg (by omega)
    omega
  · obtain ⟨w1, w2, w3⟩ : (4 + cf.2.2 ≤ gI σ 214 0 ∧ gI σ 214 0 < cf.1 - 6) ∧ gI σ 216 0 = tbl cf ∧ gA σ 325 0 (gI σ 214 0) ≠ 0 := by
      rcases h.2.2.2.2.2.2.1 with w | w
      · exact absurd w q
      · exact w
    have rl := h.1.2.ai 324 0 (gI σ 214 0) (by decide)
    have a3 := (h.2.2.1 _ w1.1 w1.2).2.2.1
    have a8 := h.nn hc (m := gI σ 214 0) (by omega)
    have t0 : tbS σ (gI σ 214 0) = tbl cf := by unfold tbS; rw [if_pos rfl]; exact w2
    have r2 : rI (gA σ 324 0 (gI σ 214 0) - tbl cf) := by
      have rl' : rI (gA σ 324 0 (gI σ 214 0)) := rl
      unfold rI at rl' ⊢; omega
    refine ⟨by omega, by omega, fun σ42 e42 => ?_⟩
    rw [w2, w32_id r2] at e42
    refine b27 σ42 (by rw [e42]; exact (Fr.rf _ _).sA ⟨rfl, rfl⟩) (by rw [e42]; exact h.1.2.sA r2) (fun m m0 m1 => ?_)
    rw [e42, gA_sA]
    by_cases z : m = gI σ 214 0
    · rw [if_pos ⟨rfl, rfl, z⟩, z, t0]
    · rw [if_neg (fun y => z y.2.2)]
      have : tbS σ m = 0 := by unfold tbS; exact if_neg z
      omega
