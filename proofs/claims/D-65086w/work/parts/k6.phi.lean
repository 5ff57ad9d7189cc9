/-! behind the commit of a round: room, and less that may be picked -/
theorem cnt_ext1 {p q : Int → Prop} [DecidablePred p] [DecidablePred q] {k : Int} (n : Nat) (h : ∀ i : Int, 0 ≤ i → i < n → p i → q i) (hq : q k) (hp : ¬ p k) (k0 : 0 ≤ k) (k1 : k < n) : cnt p n + 1 ≤ cnt q n := by
  have a := cnt_dec (p := q) (q := fun i => q i ∧ i ≠ k) (k := k) n (fun i _ _ ne => ⟨fun w => ⟨w, ne⟩, fun w => w.1⟩) hq (fun w => w.2 rfl) k0 k1
  have b := cnt_le (p := p) (q := fun i => q i ∧ i ≠ k) n (fun i i0 i1 w => ⟨h i i0 i1 w, fun e => hp (by rw [← e]; exact w)⟩)
  omega
theorem lS_no {L : List (Int × Int × Int × Int × Int × Int)} {v : Int} (h : ∀ e, e ∈ L → e.2.2.1 ≠ v) : lS L v = 0 := lS_out h
theorem MRr.rom {tv : Nat → Int} {cf : Cf} {ρ τ υ : St} {dk' : Int → Int} {db' : Int → Int → Int} {L : List (Int × Int × Int × Int × Int × Int)} {v : Int} (hc : CfOK cf) (h : MRr cf ρ τ v) (hT : SA tv cf υ dk' db' L) (hv : 4 + cf.2.2 ≤ v ∧ v < cf.1 - 6) (hl : ∀ e, e ∈ L → e.2.2.1 ≠ v) (cw : CWo cf τ υ) (hr : 2 * whl cf + 2 ≤ rmy cf (gA ρ 323 0) (gA ρ 325 0)) : rom cf υ (whl cf + 1) (2 * whl cf + 2) := by
  have h0 : 0 ≤ cf.2.2 ∧ cf.2.2 ≤ 4 := hc.2.2
  obtain ⟨-, h2⟩ := h
  obtain ⟨c1, c2, c3, c4, c5, c6, c7, c8⟩ := cw
  have key : 2 * whl cf + 2 ≤ rmy cf (gA υ 323 0) (gA υ 325 0) := by
    rcases h2 with q | ⟨q1, q2, q3⟩
    · omega
    · have a := cnt_ext1 (p := fun i => 4 + cf.2.2 ≤ i ∧ (gA τ 323 0 i = 0 ∨ gA τ 325 0 i ≠ 0)) (q := fun i => 4 + cf.2.2 ≤ i ∧ (gA υ 323 0 i = 0 ∨ gA υ 325 0 i ≠ 0)) (k := v) (cf.1 - 6).toNat (fun i i0 i1 w => ⟨w.1, by
        by_cases x : gA υ 325 0 i = 0
        · obtain ⟨y1, y2⟩ := c8 i w.1 (by omega) x
          have u0 : gA τ 323 0 i = 0 := by
            rcases w.2 with z | z
            · exact z
            · exact absurd y1 z
          rcases y2 with y | y | y
          · exact Or.inl (y.trans u0)
          · exact Or.inl y
          · exact absurd u0 y.2
        · exact Or.inr x⟩) ⟨hv.1, by
        by_cases x : gA υ 325 0 v = 0
        · have lv := hT.lv hv.1 hv.2 x
          rw [lS_no hl] at lv
          obtain ⟨y1, y2⟩ := c8 v hv.1 hv.2 x
          have n1 : gA υ 323 0 v ≠ 1 := fun e => c3 v hv.1 hv.2 e lv
          rcases y2 with y | y | y
          · rw [q2] at y; exact absurd y n1
          · exact Or.inl y
          · exact absurd y.1 n1
        · exact Or.inr x⟩ (fun w => by rw [q2, q3] at w; omega) (by omega) (by omega)
      unfold rmy at q1 hr ⊢
      omega
  exact ⟨by omega, key⟩
theorem CL.phi {tv : Nat → Int} {cf : Cf} {ρ τ υ : St} {dk dk' : Int → Int} {db db' : Int → Int → Int} {L : List (Int × Int × Int × Int × Int × Int)} {v : Int} (hc : CfOK cf) (hS : SA tv cf τ dk db L) (hT : SA tv cf υ dk' db' L) (hv : (4 + cf.2.2 ≤ v ∧ v < cf.1 - 6) ∧ gA ρ 323 0 v = 1) (hx : gA ρ 325 0 v = 0 ∧ gA ρ 324 0 v ≤ (cf.2.1 - 2) * 128 - 256) (r2 : gI ρ 451 2 = -1 ∨ ((4 + cf.2.2 ≤ gI ρ 451 2 ∧ gI ρ 451 2 < cf.1 - 6) ∧ gA ρ 323 0 (gI ρ 451 2) = 2)) (h : CLa cf ρ τ v ∨ ∃ k, CLb cf ρ τ v k) (hl : ∀ e, e ∈ L → e.2.2.1 ≠ v) (cw : CWo cf τ υ) (hb : gI τ 211 0 = 0) : Phi cf υ + 1 ≤ Phi cf ρ := by
  have hP : 8 ≤ cf.2.1 ∧ cf.2.1 ≤ 32 := hc.2.1
  have h0 : 0 ≤ cf.2.2 ∧ cf.2.2 ≤ 4 := hc.2.2
  obtain ⟨c1, c2, c3, c4, c5, ⟨c6, c6'⟩, c7, c8⟩ := cw
  have ux := c5 hb
  have n2u : gI υ 451 2 = gI τ 451 2 := c6 2 (Or.inr (Or.inl rfl)) (by omega)
  have n2v : gI ρ 451 2 ≠ v := fun e => by
    rcases r2 with q | q
    · omega
    · have := q.2; rw [e] at this; omega
  have l0 := lS_no hl
  have lsame : ∀ m, 4 + cf.2.2 ≤ m → m < cf.1 - 6 → gA υ 325 0 m = 0 → gA υ 324 0 m = gA τ 324 0 m := fun m m0 m1 x => by
    rw [hT.lv m0 m1 x, hS.lv m0 m1 (ux m m0 m1 x).1]
  have vt : gA τ 323 0 v = 1 ∧ gA τ 325 0 v = 0 := by
    rcases h with ⟨b1, b2, -⟩ | ⟨k, b1, b2, b3, b4, b5, b6, -⟩
    · rw [b1, b2]; exact ⟨hv.2, hx.1⟩
    · have kv : v ≠ k := fun e => by rw [← e] at b3; omega
      refine ⟨by rw [b5 v (by omega), if_neg kv, if_neg (fun e => n2v e.symm)]; exact hv.2, ?_⟩
      rw [b6]; unfold upF; rw [if_neg kv]; exact hx.1
  have p1 : pkN cf (gA υ 323 0) (gA υ 325 0) (gA υ 324 0) + 1 ≤ pkN cf (gA τ 323 0) (gA τ 325 0) (gA τ 324 0) := by
    have := cnt_ext1 (p := fun k => 4 + cf.2.2 ≤ k ∧ gA υ 323 0 k = 1 ∧ gA υ 325 0 k = 0 ∧ gA υ 324 0 k ≤ (cf.2.1 - 2) * 128 - 256) (q := fun k => 4 + cf.2.2 ≤ k ∧ gA τ 323 0 k = 1 ∧ gA τ 325 0 k = 0 ∧ gA τ 324 0 k ≤ (cf.2.1 - 2) * 128 - 256) (k := v) (cf.1 - 6).toNat (fun i i0 i1 w => by
      obtain ⟨y1, y2⟩ := ux i w.1 (by omega) w.2.2.1
      refine ⟨w.1, ?_, y1, by rw [← lsame i w.1 (by omega) w.2.2.1]; exact w.2.2.2⟩
      rcases y2 with y | y
      · rw [← y]; exact w.2.1
      · omega) ⟨hv.1.1, vt.1, vt.2, by rw [hS.lv hv.1.1 hv.1.2 vt.2, l0]; omega⟩ (fun w => c3 v hv.1.1 hv.1.2 w.2.1 (by rw [hT.lv hv.1.1 hv.1.2 w.2.2.1]; exact l0)) (by omega) (by omega)
    unfold pkN
    omega
  have ju := jw_r (wst υ)
  rcases h with ⟨b1, b2, b3, b4, b5⟩ | ⟨k, b1, b2, b3, b4, b5, b6, b7, b8, b9, b10, b11⟩
  · have p2 : pkN cf (gA τ 323 0) (gA τ 325 0) (gA τ 324 0) ≤ pkN cf (gA ρ 323 0) (gA ρ 325 0) (gA ρ 324 0) := by
      have := cnt_le (p := fun k => 4 + cf.2.2 ≤ k ∧ gA τ 323 0 k = 1 ∧ gA τ 325 0 k = 0 ∧ gA τ 324 0 k ≤ (cf.2.1 - 2) * 128 - 256) (q := fun k => 4 + cf.2.2 ≤ k ∧ gA ρ 323 0 k = 1 ∧ gA ρ 325 0 k = 0 ∧ gA ρ 324 0 k ≤ (cf.2.1 - 2) * 128 - 256) (cf.1 - 6).toNat (fun i i0 i1 w => by
        rw [b1, b2] at w
        refine ⟨w.1, w.2.1, w.2.2.1, ?_⟩
        by_cases e : i = v
        · rw [e]; exact hx.2
        · have : i ≠ gI ρ 451 2 := fun e2 => by
            rcases r2 with q | q
            · omega
            · have := q.2; rw [← e2] at this; omega
          rw [← b5 i w.1 (by omega) e this]; exact w.2.2.2)
      unfold pkN
      omega
    have jj : jw (wst υ) ≤ jw (wst ρ) + 1 := by
      refine jw_127 ?_
      unfold wst
      rw [n2u, b3]
      by_cases q : gI ρ 451 2 = -1
      · rw [if_pos q, if_pos q]; omega
      · rw [if_neg q, if_neg q]
        rcases r2 with w | ⟨w, -⟩
        · exact absurd w q
        · have x2 : gA υ 325 0 (gI ρ 451 2) = 0 := by
            have := (hT.2.2.2.1 2 (Or.inr (Or.inl rfl)) (by rw [n2u, b3]; exact q)).2
            rw [n2u, b3, if_neg (by omega)] at this
            exact this
          rw [lsame _ w.1 w.2 x2]
          have := c6' (by rw [b3]; exact q)
          have := b4 q
          omega
    unfold Phi
    omega
  · have p2 : pkN cf (gA τ 323 0) (gA τ 325 0) (gA τ 324 0) ≤ pkN cf (gA ρ 323 0) (gA ρ 325 0) (gA ρ 324 0) + (if wst ρ ≤ 127 then 0 else 1) := by
      have step : ∀ i, 0 ≤ i → i < ((cf.1 - 6).toNat : Int) → i ≠ gI ρ 451 2 → (4 + cf.2.2 ≤ i ∧ gA τ 323 0 i = 1 ∧ gA τ 325 0 i = 0 ∧ gA τ 324 0 i ≤ (cf.2.1 - 2) * 128 - 256) → (4 + cf.2.2 ≤ i ∧ gA ρ 323 0 i = 1 ∧ gA ρ 325 0 i = 0 ∧ gA ρ 324 0 i ≤ (cf.2.1 - 2) * 128 - 256) := fun i i0 i1 ne w => by
        have ik : i ≠ k := fun e => by
          have := w.2.1
          rw [b5 i i0, if_pos e] at this
          omega
        have u1 := w.2.1
        rw [b5 i i0, if_neg ik, if_neg ne] at u1
        have x1 := w.2.2.1
        rw [b6] at x1
        unfold upF at x1
        rw [if_neg ik] at x1
        refine ⟨w.1, u1, x1, ?_⟩
        by_cases e : i = v
        · rw [e]; exact hx.2
        · rw [← b11 i w.1 (by omega) e ik ne]; exact w.2.2.2
      by_cases q : wst ρ ≤ 127
      · rw [if_pos q]
        have := cnt_le (p := fun k => 4 + cf.2.2 ≤ k ∧ gA τ 323 0 k = 1 ∧ gA τ 325 0 k = 0 ∧ gA τ 324 0 k ≤ (cf.2.1 - 2) * 128 - 256) (q := fun k => 4 + cf.2.2 ≤ k ∧ gA ρ 323 0 k = 1 ∧ gA ρ 325 0 k = 0 ∧ gA ρ 324 0 k ≤ (cf.2.1 - 2) * 128 - 256) (cf.1 - 6).toNat (fun i i0 i1 w => step i i0 i1 (fun e => by
          have l := w.2.2.2
          have := b10 (by rw [← e]; omega)
          rw [← e] at this
          omega) w)
        unfold pkN
        omega
      · rw [if_neg q]
        have := cnt_one (p := fun k => 4 + cf.2.2 ≤ k ∧ gA τ 323 0 k = 1 ∧ gA τ 325 0 k = 0 ∧ gA τ 324 0 k ≤ (cf.2.1 - 2) * 128 - 256) (q := fun k => 4 + cf.2.2 ≤ k ∧ gA ρ 323 0 k = 1 ∧ gA ρ 325 0 k = 0 ∧ gA ρ 324 0 k ≤ (cf.2.1 - 2) * 128 - 256) (k := gI ρ 451 2) (cf.1 - 6).toNat (fun i i0 i1 ne w => step i i0 i1 ne w)
        unfold pkN
        omega
    have wu : wst υ ≤ 127 := by
      unfold wst
      rw [n2u, b1, if_neg (by omega)]
      have x2 : gA υ 325 0 k = 0 := by
        have := (hT.2.2.2.1 2 (Or.inr (Or.inl rfl)) (by rw [n2u, b1]; omega)).2
        rw [n2u, b1, if_neg (by omega)] at this
        exact this
      rw [lsame _ b2.1 b2.2 x2]
      have := c6' (by rw [b1]; omega)
      omega
    have j1 : jw (wst υ) ≤ 1 := by unfold jw; split <;> (try split) <;> omega
    have jr := jw_r (wst ρ)
    unfold Phi
    by_cases q : wst ρ ≤ 127
    · rw [if_pos q] at p2; omega
    · rw [if_neg q] at p2
      have : jw (wst ρ) = 2 := by unfold jw; rw [if_neg (by omega), if_neg q]
      omega
