/-! a node is moved -/
theorem lput_rep {A B : List (Int × Int × Int × Int × Int × Int)} {e e' : Int × Int × Int × Int × Int × Int} (hs : Srt (A ++ e :: B)) (hk : kyE e' = kyE e) : lput e' (A ++ e :: B) = A ++ e' :: B := by
  have : PUT (A ++ e :: B) (A ++ e' :: B) (kyE e) e' := ⟨A, B, rfl, Or.inr ⟨e, rfl, rfl⟩⟩
  exact (this.eq hs hk).symm
/-- number and place of the mover: as before, or a new one -/
def MHo (cf : Cf) (σ τ : St) (sz : Int) : Prop := (gI σ 451 2 ≠ -1 ∧ gI σ 452 2 + sz ≤ (cf.2.1 - 2) * 128 ∧ gI τ 451 2 = gI σ 451 2 ∧ gI τ 452 2 = gI σ 452 2 + sz ∧ gA τ 323 0 = gA σ 323 0 ∧ gA τ 325 0 = gA σ 325 0) ∨ ((gI σ 451 2 = -1 ∨ (cf.2.1 - 2) * 128 < gI σ 452 2 + sz) ∧ gI τ 452 2 = sz ∧ gA σ 323 0 (gI τ 451 2) = 0 ∧ gI τ 451 2 ≠ gI σ 451 2 ∧ (∀ m, 0 ≤ m → gA τ 323 0 m = if m = gI τ 451 2 then 2 else if m = gI σ 451 2 then 1 else gA σ 323 0 m) ∧ gA τ 325 0 = upF (gA σ 325 0) (gI τ 451 2) 0)
def mMn (f : Nat) (o' : Int) : Prop := mRm 0 2 f o' ∨ mWr 2 f o' ∨ mIx 0 f o'
/-- serial numbers go along; a new number begins with a node -/
def SRo (σ τ : St) (db db' : Int → Int → Int) (L L' : List (Int × Int × Int × Int × Int × Int)) : Prop := (∀ X, ES db L X → ES db' L' X) ∧ (gI τ 451 2 = gI σ 451 2 ∨ ∃ e, e ∈ L' ∧ e.2.2.1 = gI τ 451 2 ∧ e.2.2.2.1 = 0)
theorem sp_moveNode {tv : Nat → Int} {cf : Cf} {σ : St} {dk : Int → Int} {db : Int → Int → Int} {Sp : Int → Int → (Int → Int → Int) → Prop} {B n : Int} {L A C : List (Int × Int × Int × Int × Int × Int)} {e : Int × Int × Int × Int × Int × Int} {g : Int → Int} {Q : St → Prop} (hc : CfOK cf) (h : SA tv cf σ dk db L) (hD : DJ tv cf σ 0 dk db Sp B) (hE : (gI σ 451 2 = -1 ∨ (cf.2.1 - 2) * 128 < gI σ 452 2 + n) → 1 ≤ emp cf (gA σ 323 0)) (hat : gI σ 513 0 = 0) (hg : gA σ 512 0 = g) (hL : L = A ++ e :: C) (hn : e.2.2.2.2.1 = n) (hr : ∀ i, 0 ≤ i → i < n → g (0 + i) = db e.2.2.1 (e.2.2.2.1 + i))
    (hQ : ∀ τ dk' db', SA tv cf τ dk' db' (A ++ (e.1, e.2.1, gI τ 451 2, gI τ 452 2 - n, n, -1) :: C) → DJ tv cf τ 0 dk' db' Sp B → AM db' (A ++ (e.1, e.2.1, gI τ 451 2, gI τ 452 2 - n, n, -1) :: C) = AM db L → CK σ τ 0 → MHo cf σ τ n → LGo cf σ τ dk dk' db db' → (∀ m, m ≠ gI σ 451 2 → m ≠ gI τ 451 2 → dk' m = dk m) → (∀ m, 4 + cf.2.2 ≤ m → m < cf.1 - 6 → gA τ 324 0 m = gA σ 324 0 m - (if m = e.2.2.1 then n else 0) + (if m = gI τ 451 2 then n else 0)) → SRo σ τ db db' L (A ++ (e.1, e.2.1, gI τ 451 2, gI τ 452 2 - n, n, -1) :: C) → Fr mMn σ τ → Q τ) : wp_Store_moveNode cf tv 0 n Q σ := by
  have hR : 0 ≤ cf.2.2 ∧ cf.2.2 ≤ 4 := hc.2.2
  have hP : 8 ≤ cf.2.1 ∧ cf.2.1 ≤ 32 := hc.2.1
  have hB : 24 ≤ cf.1 ∧ cf.1 ≤ 64 := hc.1
  have isw : isW 0 2 := Or.inr (Or.inl rfl)
  have he : e ∈ L := by rw [hL]; exact List.mem_append_right _ List.mem_cons_self
  obtain ⟨v1, v2, v3, v4, v5, v6, v7⟩ := h.2.1.2.2 e he
  rw [hn] at v2 v7
  have nn := v2.n
  have jg : jnV tv g 0 n := v2.sh (fun k k0 k1 => (hr k k0 k1).symm)
  have lg : lfT (g (0 + 16)) := by rw [hr 16 (by omega) (by omega)]; exact v3
  have hi : hiN g 0 = e.1 := by rw [hiN_sh (by omega) hr]; exact v4
  have lo : loN g 0 = e.2.1 := by rw [loN_sh jg lg hr]; exact v5
  have r0 : rowL 0 = 320 := by unfold rowL; rw [if_pos (by omega)]
  have rest : ∀ τ2 dk2 db2 n2 p2, SA tv cf τ2 dk2 db2 L → DJ tv cf τ2 0 dk2 db2 Sp B → gI τ2 451 2 = n2 → n2 ≠ -1 → gI τ2 452 2 = p2 → p2 + n ≤ (cf.2.1 - 2) * 128 → LGo cf σ τ2 dk dk2 db db2 → (∀ m, m ≠ gI σ 451 2 → dk2 m = dk m) → CK σ τ2 0 → gA τ2 324 0 = (if p2 = 0 ∧ gA σ 323 0 n2 = 0 then upF (gA σ 324 0) n2 0 else gA σ 324 0) → ((gI σ 451 2 ≠ -1 ∧ n2 = gI σ 451 2 ∧ p2 = gI σ 452 2 ∧ gA τ2 323 0 = gA σ 323 0 ∧ gA τ2 325 0 = gA σ 325 0) ∨ ((gI σ 451 2 = -1 ∨ (cf.2.1 - 2) * 128 < gI σ 452 2 + n) ∧ p2 = 0 ∧ gA σ 323 0 n2 = 0 ∧ n2 ≠ gI σ 451 2 ∧ (∀ m, 0 ≤ m → gA τ2 323 0 m = if m = n2 then 2 else if m = gI σ 451 2 then 1 else gA σ 323 0 m) ∧ gA τ2 325 0 = upF (gA σ 325 0) n2 0)) → Fr (mRm 0 2) σ τ2 → wp_Writer_put cf tv (0 + 2) 512 0 0 n (fun r_13 σ_14 => rI r_13 → RK σ_14 → wp_Store_highOf cf tv 0 (fun r_15 σ_16 => rJ r_15 → RK σ_16 → wp_Store_lowOf cf tv 0 (fun r_17 σ_18 => rJ r_17 → RK σ_18 → wp_Index_put cf tv 0 r_15 r_17 (gI σ_18 451 (0 + 2)) r_13 n (fun σ_20 => RK σ_20 → Q σ_20) σ_18) σ_16) σ_14) τ2 := by
    intro τ2 dk2 db2 n2 p2 S2 D2 hn2 n21 hp2 hS2 LG2 dk2e CK2 lv2 cs F2
    have hg2 : gA τ2 512 0 = g := by rw [F2.a _ _ (fun q => by unfold mRm mWc mWr mBw mSf mMv at q; omega)]; exact hg
    have ha2 : gI τ2 513 0 = 0 := by rw [F2.i _ _ (fun q => by unfold mRm mWc mWr mBw mSf mMv at q; omega)]; exact hat
    have rn2 : (4 + cf.2.2 ≤ n2 ∧ n2 < cf.1 - 6) ∧ 0 ≤ p2 := by
      rcases S2.1.1.all.1 2 isw with z | z
      · rw [hn2] at z; exact absurd z n21
      · rw [hn2, hp2] at z; exact ⟨z.1, z.2.1.1⟩
    refine sp_put3 (w := 2) (f := 512) (q := 0) (a := 0) (len := n) hc (Or.inl rfl) S2.1.2 isw D2 S2.1.1 hn2 n21 hp2 (by omega) hS2 (by decide) (by omega) (by rw [aln_row, r0]; omega) (by omega) (fun q => by unfold mWr mBw at q; omega) (fun τ3 dk3 D3 W3 G3 hn3 hp3 f3 k3 _ _ => ?_)
    rw [hg2] at D3 W3 G3
    generalize hdb3 : putB db2 n2 p2 n (fun i => g (0 + i)) = db3 at D3 W3 G3
    have c3 : ∀ i, 0 ≤ i → i < n → db3 n2 (p2 + i) = g (0 + i) := fun i i0 i1 => by
      rw [← hdb3]; unfold putB
      rw [if_pos ⟨rfl, by omega, by omega⟩]
      congr 1
      omega
    have ep2 : eE τ2 0 dk2 n2 = p2 := by rw [eE_at S2.1.1 isw hn2 n21]; exact hp2
    have ep3 : eE τ3 0 dk3 n2 = p2 + n := by rw [eE_at W3 isw hn3 n21]; exact hp3
    have j3 : jnV tv (db3 n2) p2 n := jg.sh (fun k k0 k1 => (c3 k k0 k1).symm)
    have ch3 : chn tv (db3 n2) [n] (eE τ2 0 dk2 n2) (eE τ3 0 dk3 n2) := by
      rw [ep2, ep3]
      show if n = 0 then _ else _
      rw [if_neg (by omega)]
      exact ⟨j3.v, rfl⟩
    have S3 := S2.grow hc isw hn2 n21 hn3 W3 G3 f3 k3 ch3
    have on3 : onC tv (db3 n2) p2 := by
      have u2 := (S2.2.2.2.1 2 isw (by rw [hn2]; exact n21)).1
      rw [hn2] at u2
      have q := ((S2.2.2.1 n2 rn2.1.1 rn2.1.2).2.2.2.2.2.2 (by omega)).1 ⟨2, isw, hn2⟩
      rw [ep2] at q
      refine onC.ext q (fun i i0 i1 => ?_)
      rw [← hdb3]; unfold putB
      rw [if_neg (fun z => by omega)]
    have g3 : gA τ3 512 0 = g := by rw [f3.a _ _ (fun q => by unfold mWr mBw at q; omega)]; exact hg2
    have a3 : gI τ3 513 0 = 0 := by rw [f3.i _ _ (fun q => by unfold mWr mBw at q; omega)]; exact ha2
    have lv3 : gA τ3 324 0 = gA τ2 324 0 := f3.a _ _ (fun q => by unfold mWr mBw at q; omega)
    refine sp_highOf a3 (by omega) (by omega) (fun rj1 _ => sp_lowOf a3 (by omega) (by omega) (fun rj2 _ => ?_))
    rw [g3, hi] at rj1
    rw [g3, lo] at rj2
    rw [g3, hi, lo]
    have hn3' : gI τ3 451 (0 + 2) = n2 := hn3
    rw [hn3']
    have sr3 := S3.2.1.1.1.srt
    rw [hL] at sr3
    have eL : lput (e.1, e.2.1, n2, p2, n, -1) L = A ++ (e.1, e.2.1, n2, p2, n, -1) :: C := by rw [hL]; exact lput_rep sr3 rfl
    refine sp_xput (Or.inl rfl) k3 rj1 rj2 S3.2.1.1 (by have := S3.2.1.2.1; omega) ⟨by omega, rn2.1.2⟩ ⟨by omega, by omega⟩ (fun τ4 X4 R4 k4 => ?_)
    rw [eL] at X4 R4
    have f4 : Fr (mAp 0) τ3 τ4 := R4.2.2.mono (fun f o' q => Or.inl q)
    have hl4 : ∀ m, lS (A ++ (e.1, e.2.1, n2, p2, n, -1) :: C) m = lS L m - (if m = e.2.2.1 then n else 0) + (if m = n2 then n else 0) := by
      intro m
      rw [hL, lS_app, lS_app, lS_cons, lS_cons, hn]
      show _ + ((if n2 = m then n else 0) + _) = _ + ((if e.2.2.1 = m then n else 0) + _) - _ + _
      have s1 : (if n2 = m then n else (0 : Int)) = if m = n2 then n else 0 := by
        by_cases q : m = n2
        · rw [if_pos q, if_pos q.symm]
        · rw [if_neg q, if_neg (fun w => q w.symm)]
      have s2 : (if e.2.2.1 = m then n else (0 : Int)) = if m = e.2.2.1 then n else 0 := by
        by_cases q : m = e.2.2.1
        · rw [if_pos q, if_pos q.symm]
        · rw [if_neg q, if_neg (fun w => q w.symm)]
      rw [s1, s2]; omega
    have lv4 : ∀ m, 0 ≤ m → m < cf.1 - 6 → gA τ4 324 0 m = gA τ2 324 0 m - (if m = e.2.2.1 then n else 0) + (if m = n2 then n else 0) := by
      intro m m0 m1
      have a := R4.2.1 m m0 m1
      rw [hl4 m, lv3] at a
      omega
    have mem : ∀ y, y ∈ A ++ (e.1, e.2.1, n2, p2, n, -1) :: C → y ∈ L ∨ y = (e.1, e.2.1, n2, p2, n, -1) := by
      intro y hy
      rw [hL]
      rcases List.mem_append.mp hy with w | w
      · exact Or.inl (List.mem_append_left _ w)
      · rcases List.mem_cons.mp w with w | w
        · exact Or.inr w
        · exact Or.inl (List.mem_append_right _ (List.mem_cons_of_mem _ w))
    have hi3 : hiN (db3 n2) p2 = e.1 := by rw [← hi]; exact (hiN_sh (by omega) (fun k k0 k1 => (c3 k k0 k1).symm)).symm
    have lo3 : loN (db3 n2) p2 = e.2.1 := by rw [← lo]; exact (loN_sh jg lg (fun k k0 k1 => (c3 k k0 k1).symm)).symm
    have S4 : SA tv cf τ4 dk3 db3 (A ++ (e.1, e.2.1, n2, p2, n, -1) :: C) := by
      refine S3.ix hc X4 R4.1 R4.2.1 f4 k4 ?_ ?_ ?_ ?_
      · have := S3.2.1.2.1
        rw [hL] at this
        rw [List.length_append, List.length_cons] at this ⊢
        exact this
      · intro y hy
        rcases mem y hy with w | w
        · exact S3.2.1.2.2 y w
        · rw [w]
          refine ⟨rn2.1, j3, ?_, hi3, lo3, ⟨rn2.2, on3⟩, by show p2 + n ≤ eE τ3 0 dk3 n2; rw [ep3]; omega⟩
          show lfT (db3 n2 (p2 + 16))
          rw [c3 16 (by omega) (by omega)]; exact lg
      · intro m m0 m1
        rw [lv4 m (by omega) m1]
        have a2 := (S2.2.2.1 m m0 m1).2.2.2.1
        by_cases q : m = n2
        · rw [if_pos q, q, ep3]
          rw [q, ep2] at a2
          split <;> omega
        · have ge := (G3.1 m q).2 (by omega)
          rw [if_neg q, ge]
          split <;> omega
      · intro y hy
        rcases mem y hy with w | w
        · have p := lS_pos S3.2.1.1.2.1 w (by have := (S3.2.1.2.2 y w).2.1.n; omega)
          have rg := (S3.2.1.2.2 y w).1
          have nmy := S3.2.2.1 y.2.2.1 rg.1 rg.2
          have q := S3.nn hc (m := y.2.2.1) (by omega)
          refine ⟨fun z => ?_, ?_⟩
          · have := (nmy.2.1 z).2.1
            have := nmy.2.2.1
            omega
          · apply Classical.byContradiction
            intro z
            have := nmy.2.2.2.2.1 z
            omega
        · rw [w]
          have := S3.2.2.2.1 2 isw (by rw [hn3]; exact n21)
          rw [hn3, if_neg (by omega)] at this
          exact ⟨by show gA τ3 323 0 n2 ≠ 0; rw [this.1]; omega, this.2⟩
    have nw4 : ∀ f, (f = 451 ∨ f = 452) → gI τ4 f 2 = gI τ3 f 2 := fun f hf => f4.i _ _ (fun q => by unfold mAp mIx mOr at q; omega)
    have wn4 : gI τ4 451 2 = n2 := (nw4 _ (Or.inl rfl)).trans hn3
    have wp4 : gI τ4 452 2 = p2 + n := (nw4 _ (Or.inr rfl)).trans hp3
    have LG4 : LGo cf σ τ4 dk dk3 db db3 := (LG2.tr (G3.lg rn2.1.1)).tr (LGo.fr f4 (fun f w _ a b q => by unfold mAp mIx mOr at q; omega))
    have eqL : (A ++ (e.1, e.2.1, gI τ4 451 2, gI τ4 452 2 - n, n, -1) :: C) = (A ++ (e.1, e.2.1, n2, p2, n, -1) :: C) := by rw [wn4, wp4, show p2 + n - n = p2 by omega]
    have CK3 : CK τ2 τ3 0 := CK.fr f3 (fun f x a b q => by unfold mWr mBw at q; omega) (fun f a b q => by unfold mWr mBw at q; omega)
    refine hQ τ4 dk3 db3 (by rw [eqL]; exact S4) (D3.fr f4 (fun f o' a q => by unfold rBI at a; unfold mAp mIx mOr at q; omega)) ?_ ((CK2.tr CK3).tr R4.1) ?_ LG4 (fun m a b => ((G3.1 m (fun z => b (by rw [z]; exact wn4.symm))).1).trans (dk2e m a)) (fun m m0 m1 => ?_) ?_ ?_
    · rw [eqL, hL]
      have dd : ∀ y, y ∈ L → ∀ p, y.2.2.2.1 ≤ p → p < y.2.2.2.1 + y.2.2.2.2.1 → db3 y.2.2.1 p = db y.2.2.1 p := by
        intro y hy p p0 p1
        have q := h.2.1.2.2 y hy
        exact (LG4.1 y.2.2.1 (by omega) q.1.2).2.2 p (by omega)
      unfold AM
      rw [List.map_append, List.map_append, List.map_cons, List.map_cons]
      have ext : ∀ K : List (Int × Int × Int × Int × Int × Int), (∀ y, y ∈ K → y ∈ L) → K.map (anE db3) = K.map (anE db) := fun K hK => AM_ext (fun y hy k k0 k1 => dd y (hK y hy) _ (by omega) (by omega))
      rw [ext A (fun y hy => by rw [hL]; exact List.mem_append_left _ hy), ext C (fun y hy => by rw [hL]; exact List.mem_append_right _ (List.mem_cons_of_mem _ hy))]
      congr 2
      unfold anE
      rw [hn]
      have : pay (db3 n2) p2 n = pay (db e.2.2.1) e.2.2.2.1 n := pay_ext (fun k k0 k1 => by rw [c3 k (by omega) k1, hr k (by omega) k1])
      show (e.1, e.2.1, n, pay (db3 n2) p2 n) = _
      rw [this]
    · unfold MHo
      have su : ∀ f, (f = 323 ∨ f = 325) → gA τ4 f 0 = gA τ2 f 0 := fun f hf => by rw [f4.a _ _ (fun q => by unfold mAp mIx mOr at q; omega), f3.a _ _ (fun q => by unfold mWr mBw at q; omega)]
      rw [wn4, wp4, su 323 (by omega), su 325 (by omega)]
      rcases cs with ⟨q1, q2, q3, q4, q5⟩ | ⟨q1, q2, q3, q4, q5, q6⟩
      · exact Or.inl ⟨q1, by omega, q2, by omega, q4, q5⟩
      · exact Or.inr ⟨q1, by omega, q3, q4, q5, q6⟩
    · rw [lv4 m (by omega) m1, wn4, lv2]
      by_cases q : p2 = 0 ∧ gA σ 323 0 n2 = 0
      · rw [if_pos q]
        unfold upF
        by_cases w : m = n2
        · rw [if_pos w, w]
          have := ((h.2.2.1 n2 rn2.1.1 rn2.1.2).2.1 q.2).2.1
          rw [this]
        · rw [if_neg w]
      · rw [if_neg q]
    · rw [eqL]
      refine ⟨fun X hX y hy => ?_, ?_⟩
      · rcases mem y hy with w | w
        · have q := h.2.1.2.2 y w
          have nn' := q.2.1.n
          rw [srl_ext (g := db y.2.2.1) (n := 16) (by omega) (fun p p0 p1 => (LG4.1 y.2.2.1 (by omega) q.1.2).2.2 p (by have := q.2.2.2.2.2.2; omega))]
          exact hX y w
        · rw [w]
          show srl (db3 n2) p2 ≤ X
          have : srl (db3 n2) p2 = srl (db e.2.2.1) e.2.2.2.1 := rL8_sh (fun i i0 i1 => by
            rw [show p2 + 8 + i = p2 + (8 + i) by omega, c3 _ (by omega) (by omega), hr _ (by omega) (by omega)]
            congr 1
            omega)
          rw [this]
          exact hX e he
      · rw [wn4]
        rcases cs with q | q
        · exact Or.inl q.2.1
        · exact Or.inr ⟨(e.1, e.2.1, n2, p2, n, -1), List.mem_append_right _ List.mem_cons_self, rfl, q.2.1⟩
    · refine ((F2.mono ?_).tr (f3.mono ?_)).tr (R4.2.2.mono ?_)
      · intro f o' q; exact Or.inl q
      · intro f o' q; exact Or.inr (Or.inl q)
      · intro f o' q; exact Or.inr (Or.inr q)
  unfold wp_Store_moveNode
  have nme : ∀ k, 4 + cf.2.2 ≤ k → k < cf.1 - 6 → gA σ 323 0 k = 0 → dk k = -1 ∧ ∀ v, isW 0 v → gI σ 451 v ≠ k := by
    intro k k0 k1' hu
    obtain ⟨b1, b2, b3⟩ := (h.2.2.1 k k0 k1').2.1 hu
    exact ⟨b1, fun v hv e => b3 ⟨v, hv, e⟩⟩
  refine sp_room (w := 0 + 2) (n := gI σ 451 (0 + 2)) hc (Or.inl rfl) h.1.2 isw hD h.1.1 rfl ⟨by omega, by omega⟩ hE (fun q => ?_) nme (fun q1 q2 _ => ?_) (fun hno τ2 dk2 db2 k D2 W2 N2 F2 k2 _ => ?_)
  · have := (h.2.2.2.1 2 isw q).1
    show gA σ 323 0 (gI σ 451 2) ≠ 0
    rw [this]; omega
  · have un := (h.2.2.2.1 2 isw q1).1
    refine rest σ dk db _ _ h hD rfl q1 rfl q2 (LGo.fr (M := fun _ _ => False) (Fr.rf _ _) (fun _ _ _ _ _ q => q)) (fun _ _ => rfl) (CK.fr (M := fun _ _ => False) (Fr.rf _ _) (fun _ _ _ _ q => q) (fun _ _ _ q => q)) ?_ (Or.inl ⟨q1, rfl, rfl, rfl, rfl⟩) (Fr.rf _ _)
    rw [if_neg (fun z => by have := z.2; rw [un] at this; omega)]
  · have S2 := h.neo hc isw rfl N2 W2 F2 k2
    have b := nme k N2.1.1 N2.1.2 N2.2.1
    have lg2 := N2.lg hc b.1 b.2 h.1.1 isw rfl (fun n a b => hD.k hc ⟨a, b⟩)
    obtain ⟨c1, c2, c3, c4, c5, c6, c7, c8, c9, -⟩ := N2
    refine rest τ2 dk2 db2 k 0 S2 D2 c4 (by omega) c5 (by omega) lg2 (fun m a => c9 m a) (CK.fr F2 (fun f x a b q => by unfold mRm mWc mWr mBw mSf mMv at q; omega) (fun f a b q => by unfold mRm mWc mWr mBw mSf mMv at q; omega)) (by rw [if_pos ⟨rfl, c2⟩]; exact c7) (Or.inr ⟨hno, rfl, c2, c3, fun m m0 => c6 m m0, by rw [c8]; rfl⟩) F2
