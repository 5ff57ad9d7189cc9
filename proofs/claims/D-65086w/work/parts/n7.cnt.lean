/-! loops over the index -/
theorem kyE_h {e : Int × Int × Int × Int × Int × Int} {h : Int} (a : kap h 0 ≤ kyE e) : h ≤ e.1 := by unfold kyE kap at a; omega
theorem kyE_l {e : Int × Int × Int × Int × Int × Int} {h : Int} (a : kyE e < kap h 0) : e.1 < h := by unfold kyE kap at a; omega
theorem kyE_m {a b : Int × Int × Int × Int × Int × Int} (q : kyE a < kyE b) : a.1 ≤ b.1 := by unfold kyE kap at q; omega
/-- behind the first key of another kind -/
theorem rng_out {L A B : List (Int × Int × Int × Int × Int × Int)} {e : Int × Int × Int × Int × Int × Int} {h : Int} (hs : Srt L) (hL : L = A ++ e :: B) (h0 : kap h 0 ≤ kyE e) (hn : e.1 ≠ h) : ∀ b, b ∈ e :: B → b.1 ≠ h := by
  have sp := srt_mid (by rw [← hL]; exact hs)
  have a := kyE_h h0
  intro b hb
  rcases List.mem_cons.mp hb with w | w
  · rw [w]; exact hn
  · have := kyE_m (sp.2 b w); omega
theorem rng_fl {A P B : List (Int × Int × Int × Int × Int × Int)} {h : Int} (hA : ∀ a, a ∈ A → kyE a < kap h 0) (hP : ∀ p, p ∈ P → p.1 = h) (hB : ∀ b, b ∈ B → b.1 ≠ h) : (A ++ (P ++ B)).filter (fun y => decide (y.1 = h)) = P := by
  rw [List.filter_append, List.filter_append, fl_none (p := fun y : Int × Int × Int × Int × Int × Int => y.1 = h) (fun a ha => by have := kyE_l (hA a ha); omega), fl_all (p := fun y : Int × Int × Int × Int × Int × Int => y.1 = h) hP, fl_none (p := fun y : Int × Int × Int × Int × Int × Int => y.1 = h) hB, List.append_nil]
  rfl
theorem AM_fl {db : Int → Int → Int} {L : List (Int × Int × Int × Int × Int × Int)} (p : Int → Prop) [DecidablePred p] : (AM db L).filter (fun y => decide (p y.1)) = AM db (L.filter (fun e => decide (p e.1))) := by
  unfold AM
  rw [List.filter_map]
  rfl
/-- entries, attributes of a thing: how many -/
theorem sp_Hmany {tv : Nat → Int} {cf : Cf} {σ : St} {dk : Int → Int} {db : Int → Int → Int} {L : List (Int × Int × Int × Int × Int × Int)} {x t : Int} {Q : Int → St → Prop} (h : RD tv cf σ dk db L) (hx : rI x) (ht : 0 ≤ t ∧ t ≤ 3) (hlen : L.length ≤ 880)
    (hQ : ∀ τ, Fr (mIs 0) σ τ → RK τ → Q ((AM db L).filter (fun y => decide (y.1 = 4 * x + t))).length τ) : wp_House_many cf tv x t Q σ := by
  have hx' := hx
  unfold rI at hx'
  have srt := h.srt
  unfold wp_House_many
  refine sp_keyOf hx ht (fun _ _ => ?_)
  refine sp_itseek h (by unfold rJ; omega) (by unfold rJ; omega) (fun c τ A B q1 q2 q3 q4 f k => ?_)
  refine lQ3_rule (fun a n c τ => a = 4 * x + t ∧ Fr (mIs 0) σ τ ∧ RK τ ∧ ∃ P B, L = A ++ (P ++ B) ∧ (∀ p, p ∈ P → p.1 = 4 * x + t) ∧ (∀ b, b ∈ B → kap (4 * x + t) 0 ≤ kyE b) ∧ n = P.length ∧ IT τ B c) (fun _ _ c τ => mI L c τ) ?_ _ _ _ τ ⟨rfl, f, k, [], B, q1, fun p hp => absurd hp List.not_mem_nil, q3, rfl, q4⟩
  intro K a n c τ hI hK
  obtain ⟨ea, fr, rk, P, B, eL, hP, hB, en, it⟩ := hI
  subst ea
  have eL' : L = (A ++ P) ++ B := by rw [eL, List.append_assoc]
  have hm := mI_it srt eL' it
  have fin : (∀ b, b ∈ B → b.1 ≠ 4 * x + t) → Q n τ := fun hb => by
    have := hQ τ fr rk
    rw [AM_fl (fun z => z = 4 * x + t), AM_len] at this
    rw [en]
    rw [eL, rng_fl q2 hP hb] at this
    exact this
  have pl : P.length ≤ 880 := by have := congrArg List.length eL; rw [List.length_append, List.length_append] at this; omega
  unfold wp_House_many_L23
  rcases it with ⟨c0, b0⟩ | ⟨c1, e, B', b1, cu⟩
  · exact ⟨fun _ => fin (fun b hb => by rw [b0] at hb; exact absurd hb List.not_mem_nil), fun w => absurd c0 w⟩
  · rw [b1] at eL' hB hm
    rw [cu.1]
    refine ⟨fun w => absurd w (by omega), fun _ => ⟨fun w => fin (by rw [b1]; exact rng_out srt eL' (hB e List.mem_cons_self) w), fun w y5 e5 => ?_⟩⟩
    rw [en, w32_id (by unfold rI; omega)] at e5
    rw [e5]
    refine sp_itnext (h.fr fr (fun f o' q => Or.inr (Or.inr (Or.inr (Or.inl q)))) rk) eL' cu (fun c' τ3 it3 m3 f3 k4 => ?_)
    refine hK _ _ c' τ3 ⟨rfl, fr.tr f3, k4, P ++ [e], B', by rw [eL, b1, List.append_assoc]; rfl, fun p hp => ?_, fun b hb => hB b (List.mem_cons_of_mem _ hb), by rw [List.length_append, List.length_singleton]; omega, it3⟩ (by rw [hm, List.length_cons]; exact m3)
    rcases List.mem_append.mp hp with u | u
    · exact hP p u
    · rw [List.mem_singleton.mp u]; exact w
theorem cpM_app (A B : List (Int × Int × Int × (Int → Int))) : cpM (A ++ B) = cpM A + cpM B := by
  unfold cpM
  rw [List.map_append, List.sum_append]
theorem cpM_one (x : Int × Int × Int × (Int → Int)) : cpM [x] = x.2.2.1 + 192 := by
  unfold cpM
  rw [List.map_cons, List.sum_cons, List.map_nil, List.sum_nil]
  omega
theorem cpM_b {tv : Nat → Int} {cf : Cf} {σ : St} {dk : Int → Int} {db : Int → Int → Int} {L : List (Int × Int × Int × Int × Int × Int)} (h : RD tv cf σ dk db L) : ∀ {A : List (Int × Int × Int × Int × Int × Int)}, (∀ e, e ∈ A → e ∈ L) → 0 ≤ cpM (AM db A) ∧ cpM (AM db A) ≤ 288 * A.length
  | [], _ => ⟨Int.le_refl _, Int.le_refl _⟩
  | e :: A, hA => by
    have a := cpM_b h (A := A) (fun x hx => hA x (List.mem_cons_of_mem _ hx))
    have b := h.ev (hA e List.mem_cons_self)
    have c : cpM (AM db (e :: A)) = (e.2.2.2.2.1 + 192) + cpM (AM db A) := by
      show cpM ([anE db e] ++ AM db A) = _
      rw [cpM_app, cpM_one]; rfl
    rw [c, List.length_cons]
    omega
/-- all that there is -/
theorem sp_Hcount {tv : Nat → Int} {cf : Cf} {σ : St} {dk : Int → Int} {db : Int → Int → Int} {L : List (Int × Int × Int × Int × Int × Int)} {Q : St → Prop} (h : RD tv cf σ dk db L) (hlen : L.length ≤ 880)
    (hQ : ∀ τ, gI τ 71 0 = cpM (AM db L) → gI τ 72 0 = (pkT 0 (AM db L)).length → Fr (fun f o' => mIs 0 f o' ∨ ((f = 71 ∨ f = 72) ∧ o' = 0)) σ τ → RK τ → Q τ) : wp_House_count cf tv Q σ := by
  have srt := h.srt
  unfold wp_House_count
  intro σ1 e1 σ2 e2
  have f2 : Fr (fun f o' => mIs 0 f o' ∨ ((f = 71 ∨ f = 72) ∧ o' = 0)) σ σ2 := by rw [e2, e1]; exact ((Fr.rf _ _).sI (Or.inr ⟨Or.inl rfl, rfl⟩)).sI (Or.inr ⟨Or.inr rfl, rfl⟩)
  have k2 : RK σ2 := by rw [e2, e1]; exact (h.rk.sI (by show rI 0; unfold rI; omega)).sI (by show rI 0; unfold rI; omega)
  have v2 : gI σ2 71 0 = 0 ∧ gI σ2 72 0 = 0 := ⟨by rw [e2, gI_sIo (by decide), e1, gI_sI1], by rw [e2, gI_sI1]⟩
  have hH : ∀ f o', (mIs 0 f o' ∨ ((f = 71 ∨ f = 72) ∧ o' = 0)) → mHR f o' := fun f o' q => by
    rcases q with q | q
    · exact Or.inr (Or.inr (Or.inr (Or.inl q)))
    · exact Or.inl (by omega)
  refine sp_itseek (h.fr f2 hH k2) (by unfold rJ; omega) (by unfold rJ; omega) (fun c τ A B q1 q2 q3 q4 f k => ?_)
  have A0 : A = [] := by
    match A, q1, q2 with
    | [], _, _ => rfl
    | a :: A, q1, q2 =>
      have x := kyE_l (q2 a List.mem_cons_self)
      have y := h.hi (e := a) (by rw [q1]; exact List.mem_append_left _ List.mem_cons_self)
      omega
  rw [A0] at q1
  refine lQ1_rule (fun c τ => Fr (fun f o' => mIs 0 f o' ∨ ((f = 71 ∨ f = 72) ∧ o' = 0)) σ τ ∧ RK τ ∧ ∃ A B, L = A ++ B ∧ gI τ 71 0 = cpM (AM db A) ∧ gI τ 72 0 = (pkT 0 (AM db A)).length ∧ IT τ B c) (fun c τ => mI L c τ) ?_ _ τ ⟨f2.tr (f.mono (fun f o' q => Or.inl q)), k, [], B, q1, by rw [f.i _ _ (fun q => by unfold mIs at q; omega), v2.1]; rfl, by rw [f.i _ _ (fun q => by unfold mIs at q; omega), v2.2]; rfl, q4⟩
  intro K c τ hI hK
  obtain ⟨fr, rk, A, B, eL, hl, ht, it⟩ := hI
  have hm := mI_it srt eL it
  have al : A.length ≤ 880 := by have := congrArg List.length eL; rw [List.length_append] at this; omega
  unfold wp_House_count_L23
  rcases it with ⟨c0, b0⟩ | ⟨c1, e, B', b1, cu⟩
  · refine ⟨fun _ => ?_, fun w => absurd c0 w⟩
    rw [b0, List.append_nil] at eL
    rw [← eL] at hl ht
    exact hQ τ hl ht fr rk
  · rw [b1] at eL hm
    have he : e ∈ L := by rw [eL]; exact List.mem_append_right _ List.mem_cons_self
    have nn := h.ev he
    have hh := h.hi he
    have cb := cpM_b h (A := A) (fun y hy => by rw [eL]; exact List.mem_append_left _ hy)
    have pk : (pkT 0 (AM db A)).length ≤ A.length := by unfold pkT; rw [← AM_len db A]; exact List.length_filter_le _ _
    refine ⟨fun w => absurd w (by omega), fun _ σ9 e9 σ10 e10 => ?_⟩
    rw [cu.2.2.2.2, w32_id (x := e.2.2.2.2.1 + 192) (by unfold rI; omega), hl, w32_id (by unfold rI; omega)] at e9
    have t9 : gI σ9 72 0 = (pkT 0 (AM db A)).length := by rw [e9, gI_sIo (by decide)]; exact ht
    have h9 : gI σ9 391 0 = e.1 := by rw [e9, gI_sIo (by decide)]; exact cu.1
    have jr : jrl e.1 4 = e.1 % 4 := by
      unfold jrl
      rw [Int.tmod_eq_emod_of_nonneg hh.1, w64_id (by unfold rJ; omega)]
    rw [t9, h9, jr] at e10
    have f10 : Fr (fun f o' => (f = 71 ∨ f = 72) ∧ o' = 0) τ σ10 := by rw [e10, e9]; exact ((Fr.rf _ _).sI ⟨Or.inl rfl, rfl⟩).sI ⟨Or.inr rfl, rfl⟩
    have ap : AM db (A ++ [e]) = AM db A ++ [anE db e] := by unfold AM; rw [List.map_append]; rfl
    have l10 : gI σ10 71 0 = cpM (AM db (A ++ [e])) := by
      rw [e10, gI_sIo (by decide), e9, gI_sI1, ap, cpM_app, cpM_one]; rfl
    have t10 : gI σ10 72 0 = (pkT 0 (AM db (A ++ [e]))).length := by
      rw [e10, gI_sI1, ap]
      unfold pkT
      rw [List.filter_append, List.length_append]
      have : ([anE db e].filter (fun x => decide (x.1 % 4 = 0))).length = if e.1 % 4 = 0 then 1 else 0 := by
        rw [List.filter_cons]
        by_cases w : e.1 % 4 = 0
        · have w' : (anE db e).1 % 4 = 0 := w
          rw [if_pos w, if_pos (decide_eq_true w')]; rfl
        · have w' : ¬ (anE db e).1 % 4 = 0 := w
          rw [if_neg w, if_neg (by rw [decide_eq_true_iff]; exact w')]; rfl
      rw [this]
      have pk' := pk
      unfold pkT at pk'
      by_cases w : e.1 % 4 = 0
      · rw [if_pos w, if_pos w, w32_id (by unfold rI; omega)]; omega
      · rw [if_neg w, if_neg w, w32_id (by unfold rI; omega)]; omega
    have k10 : RK σ10 := by
      rw [e10, e9]
      refine (rk.sI (by show rI _; unfold rI; omega)).sI (w32_r _)
    refine sp_itnext (h.fr (fr.tr (f10.mono (fun f o' q => Or.inr q))) hH k10) eL (cu.fr f10 (fun g a b q => by omega)) (fun c' τ3 it3 m3 f3 k4 => ?_)
    refine hK c' τ3 ⟨(fr.tr (f10.mono (fun f o' q => Or.inr q))).tr (f3.mono (fun f o' q => Or.inl q)), k4, A ++ [e], B', by rw [eL, List.append_assoc]; rfl, by rw [f3.i _ _ (fun q => by unfold mIs at q; omega)]; exact l10, by rw [f3.i _ _ (fun q => by unfold mIs at q; omega)]; exact t10, it3⟩ (by rw [hm, List.length_cons]; exact m3)
/-- how much room a thing takes, without its entries -/
theorem sp_HroomOf {tv : Nat → Int} {cf : Cf} {σ : St} {dk : Int → Int} {db : Int → Int → Int} {L : List (Int × Int × Int × Int × Int × Int)} {x : Int} {Q : Int → St → Prop} (h : RD tv cf σ dk db L) (hx : rI x) (hlen : L.length ≤ 880)
    (hQ : ∀ τ, Fr (mIs 0) σ τ → RK τ → Q (cpM ((AM db L).filter (fun y => decide (y.1 / 4 = x ∧ y.1 % 4 ≠ 2)))) τ) : wp_House_roomOf cf tv x Q σ := by
  have hx' := hx
  unfold rI at hx'
  have srt := h.srt
  unfold wp_House_roomOf
  refine sp_keyOf hx ⟨by omega, by omega⟩ (fun _ _ => ?_)
  rw [Int.add_zero]
  refine sp_itseek h (by unfold rJ; omega) (by unfold rJ; omega) (fun c τ A B q1 q2 q3 q4 f k => ?_)
  have flp : ∀ (R : List (Int × Int × Int × Int × Int × Int)), (AM db R).filter (fun y => decide (y.1 / 4 = x ∧ y.1 % 4 ≠ 2)) = AM db (R.filter (fun e => decide (e.1 / 4 = x ∧ e.1 % 4 ≠ 2))) := fun R => AM_fl (fun z => z / 4 = x ∧ z % 4 ≠ 2)
  refine lQ2_rule (fun n c τ => Fr (mIs 0) σ τ ∧ RK τ ∧ ∃ P B, L = A ++ (P ++ B) ∧ (∀ b, b ∈ B → kap (4 * x) 0 ≤ kyE b) ∧ n = cpM (AM db (P.filter (fun e => decide (e.1 / 4 = x ∧ e.1 % 4 ≠ 2)))) ∧ IT τ B c) (fun _ c τ => mI L c τ) ?_ _ _ τ ⟨f, k, [], B, q1, q3, rfl, q4⟩
  intro K n c τ hI hK
  obtain ⟨fr, rk, P, B, eL, hB, en, it⟩ := hI
  have eL' : L = (A ++ P) ++ B := by rw [eL, List.append_assoc]
  have hm := mI_it srt eL' it
  have fin : (∀ b, b ∈ B → ¬ (b.1 / 4 = x ∧ b.1 % 4 ≠ 2)) → Q n τ := fun hb => by
    have := hQ τ fr rk
    rw [flp, eL, List.filter_append, List.filter_append, fl_none (p := fun e : Int × Int × Int × Int × Int × Int => e.1 / 4 = x ∧ e.1 % 4 ≠ 2) (A := A) (fun a ha => by have := kyE_l (q2 a ha); omega), fl_none (p := fun e : Int × Int × Int × Int × Int × Int => e.1 / 4 = x ∧ e.1 % 4 ≠ 2) (A := B) hb, List.append_nil, List.nil_append, ← en] at this
    exact this
  have pl : P.length ≤ 880 := by have := congrArg List.length eL; rw [List.length_append, List.length_append] at this; omega
  have cb := cpM_b h (A := P.filter (fun e => decide (e.1 / 4 = x ∧ e.1 % 4 ≠ 2))) (fun y hy => by rw [eL]; exact List.mem_append_right _ (List.mem_append_left _ (List.mem_filter.mp hy).1))
  have pf : (P.filter (fun e => decide (e.1 / 4 = x ∧ e.1 % 4 ≠ 2))).length ≤ P.length := List.length_filter_le _ _
  unfold wp_House_roomOf_L19
  rcases it with ⟨c0, b0⟩ | ⟨c1, e, B', b1, cu⟩
  · exact ⟨fun _ => fin (fun b hb => by rw [b0] at hb; exact absurd hb List.not_mem_nil), fun w => absurd c0 w⟩
  · rw [b1] at eL' hB hm
    have he : e ∈ L := by rw [eL']; exact List.mem_append_right _ List.mem_cons_self
    have nn := h.ev he
    have sp := srt_mid (by rw [← eL']; exact srt)
    rw [cu.1]
    refine ⟨fun w => absurd w (by omega), fun _ => sp_keyOf hx ⟨by omega, by omega⟩ (fun _ _ => ⟨fun w => fin (fun b hb q => ?_), fun w => sp_keyOf hx ⟨by omega, by omega⟩ (fun _ _ => ?_)⟩)⟩
    · rw [b1] at hb
      rcases List.mem_cons.mp hb with u | u
      · rw [u] at q; omega
      · have := kyE_m (sp.2 b u); omega
    · have hk := kyE_h (hB e List.mem_cons_self)
      have go : ∀ v, v = (if e.1 / 4 = x ∧ e.1 % 4 ≠ 2 then e.2.2.2.2.1 + 192 else 0) → wp_House_roomOf_b80 cf tv x Q K v n τ := by
        intro v ev
        unfold wp_House_roomOf_b80
        intro y2 e2
        have vb : 0 ≤ v ∧ v ≤ 288 := by rw [ev]; split <;> omega
        rw [w32_id (by unfold rI; omega)] at e2
        rw [e2]
        refine sp_itnext (h.fr fr (fun f o' q => Or.inr (Or.inr (Or.inr (Or.inl q)))) rk) eL' cu (fun c' τ3 it3 m3 f3 k4 => ?_)
        refine hK _ c' τ3 ⟨fr.tr f3, k4, P ++ [e], B', by rw [eL, b1, List.append_assoc]; rfl, fun b hb => hB b (List.mem_cons_of_mem _ hb), ?_, it3⟩ (by rw [hm, List.length_cons]; exact m3)
        rw [List.filter_append, List.filter_cons, List.filter_nil]
        by_cases u : e.1 / 4 = x ∧ e.1 % 4 ≠ 2
        · rw [if_pos u] at ev
          rw [if_pos (decide_eq_true u)]
          unfold AM
          rw [List.map_append, cpM_app]
          show n + v = _ + cpM [anE db e]
          rw [cpM_one, ev, en]; rfl
        · rw [if_neg u] at ev
          rw [if_neg (by rw [decide_eq_true_iff]; exact u), List.append_nil, ev, en, Int.add_zero]
      rw [cu.2.2.2.2, w32_id (x := e.2.2.2.2.1 + 192) (by unfold rI; omega)]
      have c1e := cu.1
      exact ⟨fun u => go _ (by rw [if_pos (by omega)]), fun u => go _ (by rw [if_neg (by omega)])⟩
