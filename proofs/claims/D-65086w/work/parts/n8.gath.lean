/-! entries are gathered -/
def mRg (f : Nat) (o' : Int) : Prop := mR0 0 f o' ∨ ((f = 83 ∨ f = 84 ∨ f = 93) ∧ o' = 0)
theorem mRg_h {f : Nat} {o' : Int} (h : mRg f o') : mHR f o' := by
  rcases h with h | h
  · exact mR0_h h
  · unfold mHR; omega
theorem jrl4 {x : Int} (h : 0 ≤ x ∧ x < 4294967296) : jrl x 4 = x % 4 := by
  unfold jrl
  rw [Int.tmod_eq_emod_of_nonneg h.1, w64_id (by unfold rJ; omega)]
theorem jdl4 {x : Int} (h : 0 ≤ x ∧ x < 4294967296) : w32 (jdl x 4) = x / 4 := by
  unfold jdl
  rw [Int.tdiv_eq_ediv_of_nonneg h.1, w64_id (by unfold rJ; omega), w32_id (by unfold rI; omega)]
/-- the entries of a directory, or all -/
abbrev enP (d h : Int) : Prop := h % 4 = 2 ∧ (d = 0 ∨ h = 4 * d + 2)
def enM (d : Int) (M : List (Int × Int × Int × (Int → Int))) : List (Int × Int × Int × (Int → Int)) := M.filter (fun y => decide (enP d y.1))
theorem enM_app (d : Int) (A B : List (Int × Int × Int × (Int → Int))) : enM d (A ++ B) = enM d A ++ enM d B := by unfold enM; exact List.filter_append _ _
theorem enM_one {d : Int} {x : Int × Int × Int × (Int → Int)} : enM d [x] = if enP d x.1 then [x] else [] := by
  unfold enM
  rw [List.filter_cons, List.filter_nil]
  by_cases q : enP d x.1
  · rw [if_pos q, if_pos (by rw [decide_eq_true_iff]; exact q)]
  · rw [if_neg q, if_neg (by rw [decide_eq_true_iff]; exact q)]
theorem enM_none {d : Int} {A : List (Int × Int × Int × (Int → Int))} (h : ∀ a, a ∈ A → ¬ enP d a.1) : enM d A = [] := by
  unfold enM
  rw [List.filter_eq_nil_iff]
  intro a ha
  rw [decide_eq_true_iff]
  exact h a ha
theorem AM_app (db : Int → Int → Int) (A B : List (Int × Int × Int × Int × Int × Int)) : AM db (A ++ B) = AM db A ++ AM db B := List.map_append
theorem AM_mem {db : Int → Int → Int} {A : List (Int × Int × Int × Int × Int × Int)} {y : Int × Int × Int × (Int → Int)} : y ∈ AM db A ↔ ∃ e, e ∈ A ∧ anE db e = y := List.mem_map
theorem sp_Hgather {tv : Nat → Int} {cf : Cf} {σ : St} {dk : Int → Int} {db : Int → Int → Int} {L : List (Int × Int × Int × Int × Int × Int)} {d : Int} {Q : Int → St → Prop} (hc : CfOK cf) (h : RD tv cf σ dk db L) (hd : rI d ∧ 0 ≤ d) (hE : ∀ y, y ∈ AM db L → okE y) (hlen : L.length ≤ 760)
    (hQ : ∀ τ, cat1 (gA τ 83 0) (enM d (AM db L)).length = (enM d (AM db L)).map (fun y => rev (rL8 y.2.2.2 32)) → cat1 (gA τ 84 0) (enM d (AM db L)).length = (enM d (AM db L)).map (fun y => rI4 y.2.2.2 28) → Fr mRg σ τ → RK τ → Q (enM d (AM db L)).length τ) : wp_House_gather cf tv d Q σ := by
  obtain ⟨hd1, hd0⟩ := hd
  have hd' := hd1
  unfold rI at hd'
  have srt := h.srt
  have rg' : rowL 0 = 320 := rfl
  -- from where on it is looked
  have core : ∀ t0, (t0 = if d = 0 then 0 else 4 * d + 2) → wp_House_gather_b24 cf tv d Q 0 t0 σ := by
    intro t0 et
    have tr : 0 ≤ t0 ∧ t0 ≤ 8589934592 := by rw [et]; split <;> omega
    unfold wp_House_gather_b24
    refine sp_itseek h (by unfold rJ; omega) (by unfold rJ; omega) (fun c τ A B q1 q2 q3 q4 f k => ?_)
    have A0 : ∀ a, a ∈ A → ¬ enP d a.1 := fun a ha q => by
      have x := kyE_l (q2 a ha)
      have y := h.hi (e := a) (by rw [q1]; exact List.mem_append_left _ ha)
      unfold enP at q
      by_cases w : d = 0
      · rw [if_pos w] at et; omega
      · rw [if_neg w] at et; omega
    refine lQ2_rule (fun n c τ => Fr mRg σ τ ∧ RK τ ∧ ∃ A B, L = A ++ B ∧ (∀ b, b ∈ B → kap t0 0 ≤ kyE b) ∧ n = (enM d (AM db A)).length ∧ cat1 (gA τ 83 0) n.toNat = (enM d (AM db A)).map (fun y => rev (rL8 y.2.2.2 32)) ∧ cat1 (gA τ 84 0) n.toNat = (enM d (AM db A)).map (fun y => rI4 y.2.2.2 28) ∧ IT τ B c) (fun _ c τ => mI L c τ) ?_ _ _ τ ⟨f.mono (fun f o' q => Or.inl (Or.inl q)), k, A, B, q1, q3, ?_, ?_, ?_, q4⟩
    · intro K n c τ hI hK
      obtain ⟨fr, rk, A, B, eL, hB, en, c1, c2, it⟩ := hI
      have hm := mI_it srt eL it
      have al : A.length ≤ 760 := by have := congrArg List.length eL; rw [List.length_append] at this; omega
      have el : (enM d (AM db A)).length ≤ A.length := by unfold enM; rw [← AM_len db A]; exact List.length_filter_le _ _
      have fin : (∀ b, b ∈ B → ¬ enP d b.1) → Q n τ := fun hb => by
        have eM : enM d (AM db L) = enM d (AM db A) := by
          rw [eL, AM_app, enM_app, enM_none (A := AM db B) (fun y hy => ?_), List.append_nil]
          obtain ⟨e, e1, e2⟩ := AM_mem.mp hy
          rw [← e2]; exact hb e e1
        have := hQ τ
        rw [eM, ← en] at this
        rw [en, show (((enM d (AM db A)).length : Nat) : Int).toNat = (enM d (AM db A)).length by omega] at c1 c2
        exact this c1 c2 fr rk
      unfold wp_House_gather_L30
      rcases it with ⟨c0, b0⟩ | ⟨c1', e, B', b1, cu⟩
      · exact ⟨fun _ => fin (fun b hb => by rw [b0] at hb; exact absurd hb List.not_mem_nil), fun w => absurd c0 w⟩
      · rw [b1] at eL hB hm
        have he : e ∈ L := by rw [eL]; exact List.mem_append_right _ List.mem_cons_self
        have hh := h.hi he
        have R1 := h.fr fr (fun _ _ q => mRg_h q) rk
        -- on to the next key
        have nxt : ∀ (υ : St) (n' : Int), Fr mRg τ υ → RK υ → CU υ e → n' = (enM d (AM db (A ++ [e]))).length → cat1 (gA υ 83 0) n'.toNat = (enM d (AM db (A ++ [e]))).map (fun y => rev (rL8 y.2.2.2 32)) → cat1 (gA υ 84 0) n'.toNat = (enM d (AM db (A ++ [e]))).map (fun y => rI4 y.2.2.2 28) → wp_House_gather_b137 cf tv d Q K n' υ := by
          intro υ n' fυ kυ cυ en' d1 d2
          unfold wp_House_gather_b137
          refine sp_itnext (R1.fr fυ (fun _ _ q => mRg_h q) kυ) eL cυ (fun c' τ3 it3 m3 f3 k4 => ?_)
          refine hK _ c' τ3 ⟨(fr.tr fυ).tr (f3.mono (fun f o' q => Or.inl (Or.inl q))), k4, A ++ [e], B', by rw [eL, List.append_assoc]; rfl, fun b hb => hB b (List.mem_cons_of_mem _ hb), en', by rw [f3.a _ _ (fun q => by unfold mIs at q; omega)]; exact d1, by rw [f3.a _ _ (fun q => by unfold mIs at q; omega)]; exact d2, it3⟩ (by rw [hm, List.length_cons]; exact m3)
        have b52 : (d = 0 ∨ e.1 = 4 * d + 2) → wp_House_gather_b52 cf tv d Q K n τ := by
          intro hde
          unfold wp_House_gather_b52
          rw [cu.1, jrl4 hh]
          refine ⟨fun w => ?_, fun w => ?_⟩
          · have hm' : anE db e ∈ AM db L := AM_mem.mpr ⟨e, he, rfl⟩
            have p := (hE (anE db e) hm' w).1
            have p' : e.2.2.2.2.1 = 48 := p
            have q : enP d (anE db e).1 := ⟨w, hde⟩
            have ap : enM d (AM db (A ++ [e])) = enM d (AM db A) ++ [anE db e] := by
              rw [AM_app, enM_app]
              show _ ++ enM d [anE db e] = _
              rw [enM_one, if_pos q]
            refine sp_hread hc R1 he cu (Or.inl rfl) (fun τ2 b2 a2 cu2 f2 k2 => ?_)
            refine sp_rgetL a2 (by omega) (by omega) (by omega) (fun k3 _ _ => ?_)
            refine sp_rev (fun _ _ => ⟨by omega, fun σ66 e66 y3 ey3 => ?_⟩)
            rw [show (0 : Int) + 24 + 8 = 32 by omega, rL8_row (P := (anE db e).2.2.2) (n := 48) (fun i i0 i1 => b2 i i0 (by omega)) (by omega) (by omega)] at e66
            rw [w32_id (by unfold rI; omega)] at ey3
            refine sp_rget (a := 0) (by rw [e66]; exact a2) (by omega) (by omega) (by omega) (fun k4 _ _ => ⟨by omega, fun σ70 e70 => ?_⟩)
            rw [show gA σ66 512 0 = gA τ2 512 0 by rw [e66]; rfl, show (0 : Int) + 24 + 4 = 28 by omega, rI4_row (P := (anE db e).2.2.2) (n := 48) (fun i i0 i1 => b2 i i0 (by omega)) (by omega) (by omega)] at e70
            have F : Fr (fun f o' => (f = 83 ∨ f = 84) ∧ o' = 0) τ2 σ70 := by rw [e70, e66]; exact ((Fr.rf _ _).sA ⟨Or.inl rfl, rfl⟩).sA ⟨Or.inr rfl, rfl⟩
            have nmn : ∀ i, gA σ70 83 0 i = if i = n then rev (rL8 (anE db e).2.2.2 32) else gA τ 83 0 i := fun i => by
              rw [e70]
              show gA σ66 83 0 i = _
              rw [e66, sA_if, f2.a _ _ (fun q => by unfold mRd2 mPg mRow at q; omega)]
            have nmd : ∀ i, gA σ70 84 0 i = if i = n then rI4 (anE db e).2.2.2 28 else gA τ 84 0 i := fun i => by
              rw [e70, sA_if]
              show (if i = n then _ else gA σ66 84 0 i) = _
              rw [e66]
              show (if i = n then _ else gA τ2 84 0 i) = _
              rw [f2.a _ _ (fun q => by unfold mRd2 mPg mRow at q; omega)]
            have k70 : RK σ70 := by rw [e70]; exact (k4).sA (f := 84) (rI4_r _ _)
            have n0 : n.toNat = (enM d (AM db A)).length := by omega
            refine nxt σ70 y3 ((f2.mono (fun f o' q => Or.inl (Or.inr q))).tr (F.mono (fun f o' q => Or.inr ⟨by have := q.1; omega, q.2⟩))) k70 (cu2.fr F (fun g a b q => by omega)) (by rw [ap, List.length_append, List.length_singleton]; omega) ?_ ?_
            · rw [ey3, show (n + 1).toNat = n.toNat + 1 by omega, cat1_S, ap, List.map_append, ← c1]
              congr 1
              · exact cat1_ext _ (fun i i0 i1 => by rw [nmn, if_neg (by omega)])
              · rw [nmn, if_pos (by omega)]; rfl
            · rw [ey3, show (n + 1).toNat = n.toNat + 1 by omega, cat1_S, ap, List.map_append, ← c2]
              congr 1
              · exact cat1_ext _ (fun i i0 i1 => by rw [nmd, if_neg (by omega)])
              · rw [nmd, if_pos (by omega)]; rfl
          · have ap : enM d (AM db (A ++ [e])) = enM d (AM db A) := by
              rw [AM_app, enM_app]
              show _ ++ enM d [anE db e] = _
              rw [enM_one, if_neg (fun q => w q.1), List.append_nil]
            exact nxt τ n (Fr.rf _ _) rk cu (by rw [ap]; exact en) (by rw [ap]; exact c1) (by rw [ap]; exact c2)
        refine ⟨fun w => absurd w (by omega), fun _ => ⟨fun w => b52 (Or.inl w), fun w => sp_keyOf hd1 ⟨by omega, by omega⟩ (fun _ _ => ?_)⟩⟩
        rw [cu.1]
        refine ⟨fun u => fin (fun b hb q => ?_), fun u => b52 (Or.inr u)⟩
        rw [b1] at hb
        rw [if_neg w] at et
        unfold enP at q
        exact rng_out srt eL (by rw [← et]; exact hB e List.mem_cons_self) u b hb (by omega)
    · rw [enM_none (fun y hy => by obtain ⟨e, e1, e2⟩ := AM_mem.mp hy; rw [← e2]; exact A0 e e1)]; rfl
    · rw [enM_none (fun y hy => by obtain ⟨e, e1, e2⟩ := AM_mem.mp hy; rw [← e2]; exact A0 e e1)]; rfl
    · rw [enM_none (fun y hy => by obtain ⟨e, e1, e2⟩ := AM_mem.mp hy; rw [← e2]; exact A0 e e1)]; rfl
  unfold wp_House_gather
  exact ⟨fun w => sp_keyOf hd1 ⟨by omega, by omega⟩ (fun _ _ => core _ (by rw [if_neg w])), fun w => core _ (by rw [if_pos w])⟩
/-- the directory that has the entry for another one -/
theorem sp_Habove {tv : Nat → Int} {cf : Cf} {σ : St} {dk : Int → Int} {db : Int → Int → Int} {L : List (Int × Int × Int × Int × Int × Int)} {x : Int} {Q : Int → St → Prop} (hc : CfOK cf) (h : RD tv cf σ dk db L) (hE : ∀ y, y ∈ AM db L → okE y)
    (h0 : ∀ τ, (∀ y, y ∈ AM db L → y.1 % 4 = 2 → rI4 y.2.2.2 28 ≠ x) → gI τ 93 0 = 0 → Fr mRg σ τ → RK τ → Q 1 τ)
    (h1 : ∀ τ y, y ∈ AM db L → y.1 % 4 = 2 → rI4 y.2.2.2 28 = x → gI τ 93 0 = rL8 y.2.2.2 32 → Fr mRg σ τ → RK τ → Q (y.1 / 4) τ) : wp_House_above cf tv x Q σ := by
  have srt := h.srt
  have rg' : rowL 0 = 320 := rfl
  unfold wp_House_above
  intro σ1 e1
  have f1 : Fr mRg σ σ1 := by rw [e1]; exact (Fr.rf _ _).sI (Or.inr ⟨Or.inr (Or.inr rfl), rfl⟩)
  have k1 : RK σ1 := by rw [e1]; exact h.rk.sI (by show rJ 0; unfold rJ; omega)
  have z1 : gI σ1 93 0 = 0 := by rw [e1, gI_sI1]
  refine sp_itseek (h.fr f1 (fun _ _ q => mRg_h q) k1) (by unfold rJ; omega) (by unfold rJ; omega) (fun c τ A B q1 q2 q3 q4 f k => ?_)
  refine lQ1_rule (fun c τ => Fr mRg σ τ ∧ RK τ ∧ gI τ 93 0 = 0 ∧ ∃ A B, L = A ++ B ∧ (∀ a, a ∈ A → a.1 % 4 = 2 → rI4 (anE db a).2.2.2 28 ≠ x) ∧ IT τ B c) (fun c τ => mI L c τ) ?_ _ τ ⟨f1.tr (f.mono (fun f o' q => Or.inl (Or.inl q))), k, by rw [f.i _ _ (fun q => by unfold mIs at q; omega)]; exact z1, A, B, q1, fun a ha => ?_, q4⟩
  · intro K c τ hI hK
    obtain ⟨fr, rk, nz, A, B, eL, hA, it⟩ := hI
    have hm := mI_it srt eL it
    unfold wp_House_above_L20
    rcases it with ⟨c0, b0⟩ | ⟨c1', e, B', b1, cu⟩
    · refine ⟨fun _ => h0 τ (fun y hy => ?_) nz fr rk, fun w => absurd c0 w⟩
      obtain ⟨e, e1, e2⟩ := AM_mem.mp hy
      rw [eL, b0, List.append_nil] at e1
      rw [← e2]; exact hA e e1
    · rw [b1] at eL hm
      have he : e ∈ L := by rw [eL]; exact List.mem_append_right _ List.mem_cons_self
      have hh := h.hi he
      have R1 := h.fr fr (fun _ _ q => mRg_h q) rk
      have nxt : ∀ υ, Fr mRg τ υ → RK υ → CU υ e → gI υ 93 0 = 0 → (e.1 % 4 = 2 → rI4 (anE db e).2.2.2 28 ≠ x) → wp_House_above_b109 cf tv x Q K υ := by
        intro υ fυ kυ cυ zυ ne
        unfold wp_House_above_b109
        refine sp_itnext (R1.fr fυ (fun _ _ q => mRg_h q) kυ) eL cυ (fun c' τ3 it3 m3 f3 k4 => ?_)
        refine hK c' τ3 ⟨(fr.tr fυ).tr (f3.mono (fun f o' q => Or.inl (Or.inl q))), k4, by rw [f3.i _ _ (fun q => by unfold mIs at q; omega)]; exact zυ, A ++ [e], B', by rw [eL, List.append_assoc]; rfl, fun a ha => ?_, it3⟩ (by rw [hm, List.length_cons]; exact m3)
        rcases List.mem_append.mp ha with u | u
        · exact hA a u
        · rw [List.mem_singleton.mp u]; exact ne
      refine ⟨fun w => absurd w (by omega), fun _ => ?_⟩
      rw [cu.1, jrl4 hh]
      refine ⟨fun w => ?_, fun w => nxt τ (Fr.rf _ _) rk cu nz (fun q => absurd q w)⟩
      have hm' : anE db e ∈ AM db L := AM_mem.mpr ⟨e, he, rfl⟩
      have p := (hE (anE db e) hm' w).1
      have p' : e.2.2.2.2.1 = 48 := p
      refine sp_hread hc R1 he cu (Or.inl rfl) (fun τ2 b2 a2 cu2 f2 k2 => ?_)
      refine sp_rget a2 (by omega) (by omega) (by omega) (fun k3 _ _ => ?_)
      rw [show (0 : Int) + 24 + 4 = 28 by omega, rI4_row (P := (anE db e).2.2.2) (n := 48) (fun i i0 i1 => b2 i i0 (by omega)) (by omega) (by omega)]
      have F2 : Fr mRg τ τ2 := f2.mono (fun f o' q => Or.inl (Or.inr q))
      refine ⟨fun ne => nxt τ2 F2 k2 cu2 (by rw [f2.i _ _ (fun q => by unfold mRd2 mPg mRow at q; omega)]; exact nz) (fun _ => ne), fun eq => ?_⟩
      refine sp_rgetL a2 (by omega) (by omega) (by omega) (fun k4 _ _ σ21 e21 => ?_)
      rw [show (0 : Int) + 24 + 8 = 32 by omega, rL8_row (P := (anE db e).2.2.2) (n := 48) (fun i i0 i1 => b2 i i0 (by omega)) (by omega) (by omega)] at e21
      have hi21 : gI σ21 391 0 = e.1 := by rw [e21, gI_sIo (by decide)]; exact cu2.1
      rw [hi21, jdl4 hh]
      exact h1 σ21 (anE db e) hm' w eq (by rw [e21, gI_sI1]) ((fr.tr F2).tr (by rw [e21]; exact (Fr.rf _ _).sI (Or.inr ⟨Or.inr (Or.inr rfl), rfl⟩))) (by rw [e21]; exact k2.sI (rL8_r _ _))
  · have x := kyE_l (q2 a ha)
    have y := h.hi (e := a) (by rw [q1]; exact List.mem_append_left _ ha)
    omega
