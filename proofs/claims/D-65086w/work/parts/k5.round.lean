/-! a round of makeRoom: what is picked is emptied, then a commit of all -/
/-- in the round: the mover has its number still (A), or a new one (B) -/
def CLa (cf : Cf) (ρ τ : St) (v : Int) : Prop := gA τ 323 0 = gA ρ 323 0 ∧ gA τ 325 0 = gA ρ 325 0 ∧ gI τ 451 2 = gI ρ 451 2 ∧ (gI ρ 451 2 ≠ -1 → gI τ 452 2 - gA τ 324 0 (gI ρ 451 2) = gI ρ 452 2 - gA ρ 324 0 (gI ρ 451 2)) ∧ ∀ m, 4 + cf.2.2 ≤ m → m < cf.1 - 6 → m ≠ v → m ≠ gI ρ 451 2 → gA τ 324 0 m = gA ρ 324 0 m
def CLb (cf : Cf) (ρ τ : St) (v k : Int) : Prop := gI τ 451 2 = k ∧ (4 + cf.2.2 ≤ k ∧ k < cf.1 - 6) ∧ gA ρ 323 0 k = 0 ∧ k ≠ gI ρ 451 2 ∧ (∀ m, 0 ≤ m → gA τ 323 0 m = if m = k then 2 else if m = gI ρ 451 2 then 1 else gA ρ 323 0 m) ∧ gA τ 325 0 = upF (gA ρ 325 0) k 0 ∧ gI τ 452 2 = gA τ 324 0 k ∧ gI τ 452 2 + gA τ 324 0 v ≤ (cf.2.1 - 2) * 128 ∧ gA ρ 325 0 v = 0 ∧ (gI ρ 451 2 ≠ -1 → (cf.2.1 - 2) * 128 - 96 - wst ρ < gA τ 324 0 (gI ρ 451 2)) ∧ ∀ m, 4 + cf.2.2 ≤ m → m < cf.1 - 6 → m ≠ v → m ≠ k → m ≠ gI ρ 451 2 → gA τ 324 0 m = gA ρ 324 0 m
theorem SA.lv {tv : Nat → Int} {cf : Cf} {σ : St} {dk : Int → Int} {db : Int → Int → Int} {L : List (Int × Int × Int × Int × Int × Int)} (h : SA tv cf σ dk db L) {m : Int} (m0 : 4 + cf.2.2 ≤ m) (m1 : m < cf.1 - 6) (hx : gA σ 325 0 m = 0) : gA σ 324 0 m = lS L m := by
  have nm := h.2.2.1 m m0 m1
  have z := nm.2.2.2.2.2.1 hx
  have t : tbS σ m = 0 := by unfold tbS; rw [if_neg z.2.2]
  have e := nm.2.2.1
  omega
theorem CL.step {tv : Nat → Int} {cf : Cf} {ρ τ υ : St} {dk dk' : Int → Int} {db db' : Int → Int → Int} {L L' : List (Int × Int × Int × Int × Int × Int)} {v : Int} (hc : CfOK cf) (hS : SA tv cf τ dk db L) (hT : SA tv cf υ dk' db' L') (hv : (4 + cf.2.2 ≤ v ∧ v < cf.1 - 6) ∧ gA ρ 323 0 v = 1) (r2 : gI ρ 451 2 = -1 ∨ ((4 + cf.2.2 ≤ gI ρ 451 2 ∧ gI ρ 451 2 < cf.1 - 6) ∧ gA ρ 323 0 (gI ρ 451 2) = 2)) (h : CLa cf ρ τ v ∨ ∃ k, CLb cf ρ τ v k) (cs : CSo cf τ υ v) (ck : CK τ υ 0) (hk2 : gI υ 451 2 = gI τ 451 2 ∨ gI υ 451 2 ≠ -1) (hdk : dk v ≤ cf.2.1 - 2) (fr : Fr mCs τ υ) : CLa cf ρ υ v ∨ ∃ k, CLb cf ρ υ v k := by
  have hP : 8 ≤ cf.2.1 ∧ cf.2.1 ≤ 32 := hc.2.1
  have h0 : 0 ≤ cf.2.2 ∧ cf.2.2 ≤ 4 := hc.2.2
  have n2v : gI ρ 451 2 ≠ v := fun e => by
    rcases r2 with q | q
    · omega
    · have := q.2; rw [e] at this; omega
  rcases cs with ⟨⟨a1, a2⟩, ⟨a3, a4⟩, a5⟩ | ⟨n, nr, mh, lv⟩
  · rcases h with ⟨b1, b2, b3, b4, b5⟩ | ⟨k, b1, b2, b3, b4, b5, b6, b7, b8, b9, b10, b11⟩
    · refine Or.inl ⟨a1.trans b1, a2.trans b2, a3.trans b3, fun q => ?_, fun m m0 m1 mv mn => (a5 m m0 m1).trans (b5 m m0 m1 mv mn)⟩
      rcases r2 with w | ⟨w, -⟩
      · exact absurd w q
      · rw [a4, a5 _ w.1 w.2]; exact b4 q
    · refine Or.inr ⟨k, a3.trans b1, b2, b3, b4, fun m m0 => by rw [a1]; exact b5 m m0, a2.trans b6, by rw [a4, a5 k b2.1 b2.2]; exact b7, by rw [a4, a5 v hv.1.1 hv.1.2]; exact b8, b9, fun q => ?_, fun m m0 m1 mv mk mn => (a5 m m0 m1).trans (b11 m m0 m1 mv mk mn)⟩
      rcases r2 with w | ⟨w, -⟩
      · exact absurd w q
      · rw [a5 _ w.1 w.2]; exact b10 q
  · have uv : gA τ 323 0 v = 1 := by
      rcases h with ⟨b1, -⟩ | ⟨k, b1, b2, b3, b4, b5, -⟩
      · rw [b1]; exact hv.2
      · rw [b5 v (by omega), if_neg (fun e => by rw [← e] at b3; omega), if_neg (fun e => n2v e.symm)]; exact hv.2
    have vu : v ≠ gI υ 451 2 := fun e => by
      rcases mh with q | q
      · have := (hS.2.2.2.1 2 (Or.inr (Or.inl rfl)) q.1).1
        rw [← q.2.2.1, ← e] at this
        omega
      · have := q.2.2.1
        rw [← e] at this
        omega
    have lvv : gA υ 324 0 v = gA τ 324 0 v - n := by
      rw [lv v hv.1.1 hv.1.2, if_pos rfl, if_neg vu]; omega
    have nnv : 0 ≤ gA υ 324 0 v := by
      have a := hT.nn hc (m := v) (by omega)
      have b := (hT.2.2.1 v hv.1.1 hv.1.2).2.2.1
      omega
    have xv : gA τ 325 0 v = 0 := by
      apply Classical.byContradiction
      intro w
      have w' : gA υ 325 0 v ≠ 0 := by
        rcases mh with q | q
        · rw [q.2.2.2.2.2]; exact w
        · rw [q.2.2.2.2.2]; unfold upF; rw [if_neg vu]; exact w
      have n1 := hS.2.2.1 v hv.1.1 hv.1.2
      have n2 := hT.2.2.1 v hv.1.1 hv.1.2
      have l1 := n1.2.2.2.2.1 w
      have l2 := n2.2.2.2.2.1 w'
      have e1 := n1.2.2.1
      have e2 := n2.2.2.1
      have cc := ck.1 v (by omega)
      have tb : tbS υ v = tbS τ v := by
        unfold tbS
        rw [fr.i 214 0 (fun q => by have q := mCs_n q; unfold mBw mMv mIx mRd2 mPg mRow at q; omega), fr.i 216 0 (fun q => by have q := mCs_n q; unfold mBw mMv mIx mRd2 mPg mRow at q; omega)]
      omega
    rcases h with ⟨b1, b2, b3, b4, b5⟩ | ⟨k, b1, b2, b3, b4, b5, b6, b7, b8, b9, b10, b11⟩
    · rcases mh with ⟨q1, q2, q3, q4, q5, q6⟩ | ⟨q1, q2, q3, q4, q5, q6⟩
      · refine Or.inl ⟨q5.trans b1, q6.trans b2, q3.trans b3, fun q => ?_, fun m m0 m1 mv mn => ?_⟩
        · rcases r2 with w | ⟨w, -⟩
          · exact absurd w q
          · have := b4 q
            rw [q4, lv _ w.1 w.2, if_neg n2v, if_pos (by rw [q3, b3])]
            omega
        · rw [lv m m0 m1, if_neg mv, if_neg (by rw [q3, b3]; exact mn)]
          have := b5 m m0 m1 mv mn
          omega
      · have rk := hT.rn (w := 2) (Or.inr (Or.inl rfl)) (by
          rcases hk2 with w | w
          · exact absurd w q4
          · exact w)
        generalize hk : gI υ 451 2 = k at *
        have lk0 : gA τ 324 0 k = 0 := ((hS.2.2.1 k rk.1.1 rk.1.2).2.1 q3).2.1
        rw [b3] at q4 q5
        rw [b1] at q3
        refine Or.inr ⟨k, hk, rk.1, q3, q4, fun m m0 => by rw [q5 m m0, b1], by rw [q6, b2], ?_, ?_, by rw [← b2]; exact xv, fun q => ?_, fun m m0 m1 mv mk mn => ?_⟩
        · rw [q2, lv k rk.1.1 rk.1.2, lk0, if_neg (fun e => vu e.symm), if_pos rfl]; omega
        · rw [q2, lvv]
          have := (hS.2.2.1 v hv.1.1 hv.1.2).2.2.2.1
          have ce := (hS.cn hc hv.1 uv).2
          unfold lmF at ce
          omega
        · rcases r2 with w | ⟨w, -⟩
          · exact absurd w q
          · rw [lv _ w.1 w.2, if_neg n2v, if_neg (fun e => q4 e.symm)]
            have := b4 q
            unfold wst
            rw [if_neg q]
            rcases q1 with y | y
            · rw [b3] at y; exact absurd y q
            · omega
        · rw [lv m m0 m1, if_neg mv, if_neg mk]
          have := b5 m m0 m1 mv mn
          omega
    · rcases mh with ⟨q1, q2, q3, q4, q5, q6⟩ | ⟨q1, q2, q3, q4, q5, q6⟩
      · rw [b1] at q3
        refine Or.inr ⟨k, q3, b2, b3, b4, fun m m0 => by rw [q5]; exact b5 m m0, q6.trans b6, ?_, ?_, b9, fun q => ?_, fun m m0 m1 mv mk mn => ?_⟩
        · rw [q4, lv k b2.1 b2.2, if_neg (fun e => vu (by rw [q3, e])), if_pos q3.symm]; omega
        · rw [q4, lvv]; omega
        · rcases r2 with w | ⟨w, -⟩
          · exact absurd w q
          · rw [lv _ w.1 w.2, if_neg n2v, if_neg (fun e => b4 (by rw [← q3, e]))]
            have := b10 q
            omega
        · rw [lv m m0 m1, if_neg mv, if_neg (by rw [q3]; exact mk)]
          have := b11 m m0 m1 mv mk mn
          omega
      · exfalso
        rcases q1 with y | y
        · omega
        · omega
theorem PR.dk {tv : Nat → Int} {cf : Cf} {σ : St} {dk : Int → Int} {db : Int → Int → Int} {L : List (Int × Int × Int × Int × Int × Int)} {S' : List (Int × Int × Int × (Int → Int)) × Int} {W : List (Int × (List (Int × Int × Int × (Int → Int)) × Int))} {r : RT} {B : Int} (hc : CfOK cf) (h : PG tv cf σ dk db L S' W r B) {n : Int} (hn : 0 ≤ n ∧ n < cf.1 - 6) : -1 ≤ dk n ∧ dk n ≤ cf.2.1 - 2 := by
  obtain ⟨σc, l, z, c, lg, lr, sv, nx, tn, tp, bl, s, s', b0, V, jn, sJ, hI, ⟨hD, -⟩, -⟩ := h
  exact hD.k hc hn
theorem PR.v {tv : Nat → Int} {cf : Cf} {σ : St} {dk : Int → Int} {db : Int → Int → Int} {L : List (Int × Int × Int × Int × Int × Int)} {S' : List (Int × Int × Int × (Int → Int)) × Int} {W : List (Int × (List (Int × Int × Int × (Int → Int)) × Int))} {r : RT} {B : Int} (h : PG tv cf σ dk db L S' W r B) : VCl tv cf σ dk db L ∧ cpM (AM db L) ≤ capa cf ∧ 0 ≤ B := by
  obtain ⟨σc, l, z, c, lg, lr, sv, nx, tn, tp, bl, s, s', b0, V, jn, sJ, hI, -, -, -, -, -, -, -, hV, -⟩ := h
  exact ⟨hV, hI.2.1.2, hI.2.2.2.2.2.1⟩
/-- what stays through makeRoom -/
def MRr (cf : Cf) (ρ τ : St) (v : Int) : Prop := whl cf ≤ emp cf (gA τ 323 0) ∧ (rmy cf (gA ρ 323 0) (gA ρ 325 0) ≤ rmy cf (gA τ 323 0) (gA τ 325 0) ∨ (rmy cf (gA ρ 323 0) (gA ρ 325 0) ≤ rmy cf (gA τ 323 0) (gA τ 325 0) + 1 ∧ gA τ 323 0 v = 1 ∧ gA τ 325 0 v = 0))
theorem CL.room {cf : Cf} {ρ τ : St} {v : Int} (hc : CfOK cf) (hv : (4 + cf.2.2 ≤ v ∧ v < cf.1 - 6) ∧ gA ρ 323 0 v = 1) (r2 : gI ρ 451 2 = -1 ∨ ((4 + cf.2.2 ≤ gI ρ 451 2 ∧ gI ρ 451 2 < cf.1 - 6) ∧ gA ρ 323 0 (gI ρ 451 2) = 2)) (hE : whl cf + 1 ≤ emp cf (gA ρ 323 0)) (h : CLa cf ρ τ v ∨ ∃ k, CLb cf ρ τ v k) : MRr cf ρ τ v := by
  have h0 : 0 ≤ cf.2.2 ∧ cf.2.2 ≤ 4 := hc.2.2
  rcases h with ⟨b1, b2, -⟩ | ⟨k, b1, b2, b3, b4, b5, b6, b7, b8, b9, -⟩
  · exact ⟨by rw [b1]; omega, Or.inl (by rw [b1, b2]; exact Int.le_refl _)⟩
  · have ux : ∀ m, 0 ≤ m → (gA τ 323 0 m = 0 ↔ m ≠ k ∧ gA ρ 323 0 m = 0) := fun m m0 => by
      rw [b5 m m0]
      by_cases e : m = k
      · rw [if_pos e]; exact ⟨fun q => absurd q (by decide), fun q => absurd e q.1⟩
      · rw [if_neg e]
        by_cases e2 : m = gI ρ 451 2
        · rw [if_pos e2]
          refine ⟨fun q => absurd q (by decide), fun q => ?_⟩
          rcases r2 with w | ⟨-, w⟩
          · omega
          · rw [← e2] at w; omega
        · rw [if_neg e2]; exact ⟨fun q => ⟨e, q⟩, fun q => q.2⟩
    have kv : v ≠ k := fun e => by rw [← e] at b3; omega
    have ck : gA τ 323 0 k = 2 := by rw [b5 k (by omega), if_pos rfl]
    have xk : gA τ 325 0 k = 0 := by rw [b6]; unfold upF; rw [if_pos rfl]
    have a1 := cnt_dec (p := fun i => 4 + cf.2.2 ≤ i ∧ gA ρ 323 0 i = 0) (q := fun i => 4 + cf.2.2 ≤ i ∧ gA τ 323 0 i = 0) (k := k) (cf.1 - 6).toNat (fun i i0 i1 ne => by rw [ux i i0]; exact ⟨fun q => ⟨q.1, ne, q.2⟩, fun q => ⟨q.1, q.2.2⟩⟩) ⟨b2.1, b3⟩ (fun q => by rw [ck] at q; omega) (by omega) (by omega)
    have a2 := cnt_dec (p := fun i => 4 + cf.2.2 ≤ i ∧ (gA ρ 323 0 i = 0 ∨ gA ρ 325 0 i ≠ 0)) (q := fun i => 4 + cf.2.2 ≤ i ∧ (gA τ 323 0 i = 0 ∨ gA τ 325 0 i ≠ 0)) (k := k) (cf.1 - 6).toNat (fun i i0 i1 ne => by
      have e : gA τ 325 0 i = gA ρ 325 0 i := by rw [b6]; unfold upF; rw [if_neg ne]
      rw [ux i i0, e]
      exact ⟨fun q => ⟨q.1, q.2.imp (fun w => ⟨ne, w⟩) id⟩, fun q => ⟨q.1, q.2.imp (fun w => w.2) id⟩⟩) ⟨b2.1, Or.inl b3⟩ (fun q => by rw [ck, xk] at q; omega) (by omega) (by omega)
    have n2v : v ≠ gI ρ 451 2 := fun e => by
      rcases r2 with q | q
      · omega
      · have := q.2; rw [← e] at this; omega
    refine ⟨by unfold emp at hE ⊢; omega, Or.inr ⟨by unfold rmy; omega, by rw [b5 v (by omega), if_neg kv, if_neg n2v]; exact hv.2, by rw [b6]; unfold upF; rw [if_neg kv]; exact b9⟩⟩
