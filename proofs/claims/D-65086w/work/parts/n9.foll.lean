/-! names in order -/
theorem rev0 : rev 0 = 0 := bt_inj (rev_r _) (by unfold rJ; omega) (fun k k0 k1 => by
  rw [bt_rev ⟨k0, k1⟩]
  have z : ∀ j, bt 0 j = 0 := fun j => by unfold bt; rw [Int.zero_ediv]; rfl
  rw [z, z])
theorem ur0 : ur 0 = 0 := by unfold ur; rw [rev0]; rfl
theorem ur_r (x : Int) : 0 ≤ ur x ∧ ur x < 18446744073709551616 := by unfold ur; omega
theorem rev_u (x : Int) : rev x % 18446744073709551616 = ur x := rfl
theorem nm_ne {x : Int} (h : nmV x) : x ≠ 0 := fun e => h.1 (by rw [e]; unfold bt; rw [Int.zero_ediv]; rfl)
/-- names of a directory's entries -/
def nmsD (d : Int) (M : List (Int × Int × Int × (Int → Int))) : List Int := (M.filter (fun y => decide (y.1 = 4 * d + 2))).map (fun y => rL8 y.2.2.2 32)
theorem nmsD_mem {d : Int} {M : List (Int × Int × Int × (Int → Int))} {n : Int} : n ∈ nmsD d M ↔ ∃ y, y ∈ M ∧ y.1 = 4 * d + 2 ∧ rL8 y.2.2.2 32 = n := by
  unfold nmsD
  rw [List.mem_map]
  exact ⟨fun ⟨y, a, b⟩ => ⟨y, (fl_mem.mp a).1, (fl_mem.mp a).2, b⟩, fun ⟨y, a, b, c⟩ => ⟨y, fl_mem.mpr ⟨a, b⟩, c⟩⟩
theorem sp_Hfoll {tv : Nat → Int} {cf : Cf} {σ : St} {dk : Int → Int} {db : Int → Int → Int} {L : List (Int × Int × Int × Int × Int × Int)} {d q : Int} {Q : Int → St → Prop} (hc : CfOK cf) (h : RD tv cf σ dk db L) (hd : rI d) (hq : rJ q) (hE : ∀ y, y ∈ AM db L → okE y)
    (h0 : ∀ τ, (∀ n, n ∈ nmsD d (AM db L) → ¬ ur q < ur n) → Fr (mR0 0) σ τ → RK τ → Q 0 τ)
    (h1 : ∀ τ r, r ∈ nmsD d (AM db L) → ur q < ur r → (∀ n, n ∈ nmsD d (AM db L) → ur q < ur n → ur r ≤ ur n) → Fr (mR0 0) σ τ → RK τ → Q r τ) : wp_House_following cf tv d q Q σ := by
  have hd' := hd
  unfold rI at hd'
  have srt := h.srt
  have rg' : rowL 0 = 320 := rfl
  unfold wp_House_following
  refine sp_keyOf hd ⟨by omega, by omega⟩ (fun _ _ => ?_)
  refine sp_rev (fun _ _ => ?_)
  refine sp_itseek h (by unfold rJ; omega) (by unfold rJ; omega) (fun c τ A B q1 q2 q3 q4 f k => ?_)
  have A0 : ∀ a, a ∈ A → a.1 ≠ 4 * d + 2 := fun a ha => by have := kyE_l (q2 a ha); omega
  refine lQ4_rule (fun a b m c τ => a = 4 * d + 2 ∧ b = rev q ∧ Fr (mR0 0) σ τ ∧ RK τ ∧ ∃ A B, L = A ++ B ∧ (∀ b, b ∈ B → kap (4 * d + 2) 0 ≤ kyE b) ∧ ((m = 0 ∧ ∀ n, n ∈ nmsD d (AM db A) → ¬ ur q < ur n) ∨ ∃ r, m = rev r ∧ r ∈ nmsD d (AM db A) ∧ ur q < ur r ∧ ∀ n, n ∈ nmsD d (AM db A) → ur q < ur n → ur r ≤ ur n) ∧ IT τ B c) (fun _ _ _ c τ => mI L c τ) ?_ _ _ _ _ τ ⟨rfl, rfl, f.mono (fun f o' q => Or.inl q), k, A, B, q1, q3, Or.inl ⟨rfl, fun n hn => ?_⟩, q4⟩
  · intro K a b m c τ hI hK
    obtain ⟨ea, eb, fr, rk, A, B, eL, hB, hm', it⟩ := hI
    subst ea; subst eb
    have hm := mI_it srt eL it
    have fin : (∀ b, b ∈ B → b.1 ≠ 4 * d + 2) → wp_House_following_b150 cf tv d q Q m τ := fun hb => by
      have eM : nmsD d (AM db L) = nmsD d (AM db A) := by
        unfold nmsD
        rw [eL, AM_app, List.filter_append, fl_none (p := fun y : Int × Int × Int × (Int → Int) => y.1 = 4 * d + 2) (A := AM db B) (fun y hy => ?_), List.append_nil]
        obtain ⟨e, e1, e2⟩ := AM_mem.mp hy
        rw [← e2]; exact hb e e1
      unfold wp_House_following_b150
      refine sp_rev (fun _ _ => ?_)
      rw [eM] at h0 h1
      rcases hm' with ⟨u, v⟩ | ⟨r, u, v1, v2, v3⟩
      · rw [u, rev0]; exact h0 τ v fr rk
      · have rj : rJ r := by obtain ⟨y, y1, y2, y3⟩ := nmsD_mem.mp v1; rw [← y3]; exact rL8_r _ _
        rw [u, rev_rev rj]; exact h1 τ r v1 v2 v3 fr rk
    unfold wp_House_following_L35
    rcases it with ⟨c0, b0⟩ | ⟨c1', e, B', b1, cu⟩
    · exact ⟨fun _ => fin (fun b hb => by rw [b0] at hb; exact absurd hb List.not_mem_nil), fun w => absurd c0 w⟩
    · rw [b1] at eL hB hm
      have he : e ∈ L := by rw [eL]; exact List.mem_append_right _ List.mem_cons_self
      have hh := h.hi he
      have R1 := h.fr fr (fun _ _ q => mR0_h q) rk
      rw [cu.1]
      refine ⟨fun w => absurd w (by omega), fun _ => ⟨fun w => fin (by rw [b1]; exact rng_out srt eL (hB e List.mem_cons_self) w), fun w => ?_⟩⟩
      have hme : anE db e ∈ AM db L := AM_mem.mpr ⟨e, he, rfl⟩
      have ok := hE (anE db e) hme (by show e.1 % 4 = 2; omega)
      have p' : e.2.2.2.2.1 = 48 := ok.1
      generalize hn : rL8 (anE db e).2.2.2 32 = nm at *
      have nj : rJ nm := by rw [← hn]; exact rL8_r _ _
      refine sp_hread hc R1 he cu (Or.inl rfl) (fun τ2 b2 a2 cu2 f2 k2 => ?_)
      refine sp_rgetL a2 (by omega) (by omega) (by omega) (fun k3 _ _ => ?_)
      rw [show (0 : Int) + 24 + 8 = 32 by omega, rL8_row (P := (anE db e).2.2.2) (n := 48) (fun i i0 i1 => b2 i i0 (by omega)) (by omega) (by omega), hn]
      refine sp_rev (fun _ _ => ?_)
      have ms : ∀ n, n ∈ nmsD d (AM db (A ++ [e])) ↔ n ∈ nmsD d (AM db A) ∨ n = nm := fun n => by
        rw [AM_app]
        unfold nmsD
        rw [List.filter_append, List.map_append, List.mem_append]
        have : ((AM db [e]).filter (fun y => decide (y.1 = 4 * d + 2))).map (fun y => rL8 y.2.2.2 32) = [nm] := by
          show (([anE db e] : List (Int × Int × Int × (Int → Int))).filter (fun y => decide (y.1 = 4 * d + 2))).map (fun y => rL8 y.2.2.2 32) = [nm]
          have w' : (anE db e).1 = 4 * d + 2 := w
          rw [List.filter_cons, if_pos (decide_eq_true w'), ← hn]; rfl
        rw [this, List.mem_singleton]
      have nxt : ∀ m2, ((m2 = 0 ∧ ∀ n, n ∈ nmsD d (AM db (A ++ [e])) → ¬ ur q < ur n) ∨ ∃ r, m2 = rev r ∧ r ∈ nmsD d (AM db (A ++ [e])) ∧ ur q < ur r ∧ ∀ n, n ∈ nmsD d (AM db (A ++ [e])) → ur q < ur n → ur r ≤ ur n) → wp_House_following_b140 cf tv d q Q K (4 * d + 2) (rev q) m2 τ2 := by
        intro m2 hm2
        unfold wp_House_following_b140
        refine sp_itnext (R1.fr (f2.mono (fun f o' q => (Or.inr q : mR0 0 f o'))) (fun _ _ q => mR0_h q) k2) eL cu2 (fun c' τ3 it3 m3 f3 k4 => ?_)
        exact hK _ _ _ c' τ3 ⟨rfl, rfl, (fr.tr (f2.mono (fun f o' q => Or.inr q))).tr (f3.mono (fun f o' q => Or.inl q)), k4, A ++ [e], B', by rw [eL, List.append_assoc]; rfl, fun b hb => hB b (List.mem_cons_of_mem _ hb), hm2, it3⟩ (by rw [hm, List.length_cons]; exact m3)
      -- it is not behind: as before
      have same : (¬ ur q < ur nm ∨ (m ≠ 0 ∧ ∃ r, m = rev r ∧ ur r ≤ ur nm)) → wp_House_following_b140 cf tv d q Q K (4 * d + 2) (rev q) m τ2 := fun hs => by
        refine nxt m ?_
        rcases hm' with ⟨u, v⟩ | ⟨r, u, v1, v2, v3⟩
        · rcases hs with s | ⟨s, -⟩
          · refine Or.inl ⟨u, fun n hn2 => ?_⟩
            rcases (ms n).mp hn2 with x | x
            · exact v n x
            · rw [x]; exact s
          · exact absurd u s
        · refine Or.inr ⟨r, u, (ms r).mpr (Or.inl v1), v2, fun n hn2 x => ?_⟩
          rcases (ms n).mp hn2 with y | y
          · exact v3 n y x
          · rw [y] at x ⊢
            rcases hs with s | ⟨-, r', r1, r2⟩
            · exact absurd x s
            · have e : ur r' = ur r := by unfold ur; rw [← r1, u]
              omega
      have take : ur q < ur nm → (m = 0 ∨ ∃ r, m = rev r ∧ ur nm < ur r) → wp_House_following_b140 cf tv d q Q K (4 * d + 2) (rev q) (rev nm) τ2 := fun b hs => by
        refine nxt (rev nm) (Or.inr ⟨nm, rfl, (ms nm).mpr (Or.inr rfl), b, fun n hn2 x => ?_⟩)
        rcases (ms n).mp hn2 with y | y
        · rcases hm' with ⟨u, v⟩ | ⟨r, u, v1, v2, v3⟩
          · exact absurd x (v n y)
          · rcases hs with s | ⟨r', r1, r2⟩
            · have : ur r = 0 := by unfold ur; rw [← u, s]; rfl
              have := ur_r q
              omega
            · have e : ur r' = ur r := by unfold ur; rw [← r1, u]
              have := v3 n y x
              omega
        · rw [y]; exact Int.le_refl _
      unfold wp_House_following_b136
      refine sp_cmpU (rev_r _) (rev_r _) (fun lt _ _ y14 e14 => ?_) (fun eq _ _ y14 e14 => ?_) (fun gt _ _ y14 e14 => ?_)
      · rw [if_pos (by decide)] at e14
        rw [rev_u, rev_u] at lt
        exact ⟨fun _ => same (Or.inl (by omega)), fun w => absurd e14 w⟩
      · rw [if_pos (by decide)] at e14
        have : ur nm = ur q := by unfold ur; rw [eq]
        exact ⟨fun _ => same (Or.inl (by omega)), fun w => absurd e14 w⟩
      · rw [if_neg (by decide)] at e14
        rw [rev_u, rev_u] at gt
        refine ⟨fun w => absurd w (by omega), fun _ => ⟨fun w0 => take gt (Or.inl w0), fun w0 => ?_⟩⟩
        rcases hm' with ⟨u, v⟩ | ⟨r, u, v1, v2, v3⟩
        · exact absurd u w0
        · rw [u]
          refine sp_cmpU (rev_r _) (rev_r _) (fun lt _ _ => ⟨fun w => absurd w (by decide), fun _ => take gt (Or.inr ⟨r, u, by rw [rev_u, rev_u] at lt; exact lt⟩)⟩) (fun eq _ _ => ⟨fun _ => ?_, fun w => absurd (by decide) w⟩) (fun g2 _ _ => ⟨fun _ => ?_, fun w => absurd (by decide) w⟩)
          · rw [← u]
            refine same (Or.inr ⟨w0, r, u, ?_⟩)
            have : ur nm = ur r := by unfold ur; rw [eq]
            omega
          · rw [← u]
            rw [rev_u, rev_u] at g2
            exact same (Or.inr ⟨w0, r, u, by omega⟩)
  · obtain ⟨y, y1, y2, y3⟩ := nmsD_mem.mp hn
    obtain ⟨e, e1, e2⟩ := AM_mem.mp y1
    rw [← e2] at y2
    exact absurd y2 (A0 e e1)
/-- the k-th key of a thing -/
theorem sp_HkeyL {tv : Nat → Int} {cf : Cf} {σ : St} {dk : Int → Int} {db : Int → Int → Int} {L : List (Int × Int × Int × Int × Int × Int)} {x k : Int} {Q : Int → St → Prop} (hc : CfOK cf) (h : RD tv cf σ dk db L) (hx : rI x) (hA : ∀ y, y ∈ AM db L → okA y) (hlen : L.length ≤ 880) (hk : 0 ≤ k ∧ k < ((AM db L).filter (fun y => decide (y.1 = 4 * x + 3))).length)
    (hQ : ∀ τ y, y ∈ AM db L → y.1 = 4 * x + 3 → (((AM db L).filter (fun z => decide (z.1 = 4 * x + 3 ∧ ur (rL8 z.2.2.2 32) < ur (rL8 y.2.2.2 32)))).length : Int) = k → Fr (mIs 0) σ τ → RK τ → Q (rL8 y.2.2.2 32) τ) : wp_House_keyOf cf tv x 3 (fun r_30 σ_31 => rJ r_30 → RK σ_31 → wp_Index_seek cf tv 0 r_30 0 (fun r_32 σ_33 => rZ r_32 → RK σ_33 → lQ2 (wp_House_key_L56 cf tv x k Q) r_32 0 σ_33) σ_31) σ := by
  have hx' := hx
  unfold rI at hx'
  have srt := h.srt
  refine sp_keyOf hx ⟨by omega, by omega⟩ (fun _ _ => ?_)
  rw [AM_fl (fun z => z = 4 * x + 3), AM_len] at hk
  refine sp_itseek h (by unfold rJ; omega) (by unfold rJ; omega) (fun c τ A B q1 q2 q3 q4 f kk => ?_)
  refine lQ2_rule (fun c j τ => Fr (mIs 0) σ τ ∧ RK τ ∧ (0 ≤ j ∧ j ≤ k) ∧ ∃ P B, L = A ++ (P ++ B) ∧ (∀ p, p ∈ P → p.1 = 4 * x + 3) ∧ (∀ b, b ∈ B → kap (4 * x + 3) 0 ≤ kyE b) ∧ j = P.length ∧ IT τ B c) (fun c _ τ => mI L c τ) ?_ _ _ τ ⟨f, kk, by omega, [], B, q1, fun p hp => absurd hp List.not_mem_nil, q3, rfl, q4⟩
  intro K c j τ hI hK
  obtain ⟨fr, rk, hj, P, B, eL, hP, hB, ej, it⟩ := hI
  have eL' : L = (A ++ P) ++ B := by rw [eL, List.append_assoc]
  have hm := mI_it srt eL' it
  have pl : P.length ≤ 880 := by have := congrArg List.length eL; rw [List.length_append, List.length_append] at this; omega
  have noo : ¬ (∀ b, b ∈ B → b.1 ≠ 4 * x + 3) := fun w => by
    rw [eL, rng_fl q2 hP w] at hk
    omega
  rcases it with ⟨c0, b0⟩ | ⟨c1, e, B', b1, cu⟩
  · exact absurd (fun b hb => by rw [b0] at hb; exact absurd hb List.not_mem_nil) noo
  · rw [b1] at eL' hB hm noo eL
    have e1 : e.1 = 4 * x + 3 := by
      apply Classical.byContradiction
      intro w
      exact noo (rng_out srt eL' (hB e List.mem_cons_self) w)
    have he : e ∈ L := by rw [eL']; exact List.mem_append_right _ List.mem_cons_self
    unfold wp_House_key_L56
    refine ⟨fun w => ?_, fun w => ⟨fun w0 => absurd w0 (by omega), fun _ => ?_⟩⟩
    · unfold wp_House_key_b83
      refine sp_rev (fun _ _ => ?_)
      have hme : anE db e ∈ AM db L := AM_mem.mpr ⟨e, he, rfl⟩
      have ok : ∀ a, a ∈ L → a.1 = 4 * x + 3 → a.2.1 = rev (rL8 (anE db a).2.2.2 32) := fun a ha w => ((hA (anE db a) (AM_mem.mpr ⟨a, ha, rfl⟩)) (by show a.1 % 4 = 3; omega)).2.2.2.2
      rw [cu.2.1, ok e he e1, rev_rev (rL8_r _ _)]
      refine hQ τ (anE db e) hme e1 ?_ fr rk
      have jk : j = k := by omega
      rw [← jk, ej]
      have sp := srt_mid (by rw [← eL']; exact srt)
      have cmp : ∀ a, a ∈ L → a.1 = 4 * x + 3 → (ur (rL8 (anE db a).2.2.2 32) < ur (rL8 (anE db e).2.2.2 32) ↔ kyE a < kyE e) := fun a ha w => by
        have oa := ok a ha w
        have oe := ok e he e1
        have ua : ur (rL8 (anE db a).2.2.2 32) = a.2.1 % 18446744073709551616 := by unfold ur; rw [← oa]
        have ue : ur (rL8 (anE db e).2.2.2 32) = e.2.1 % 18446744073709551616 := by unfold ur; rw [← oe]
        rw [ua, ue]
        unfold kyE kap
        rw [w, e1]
        omega
      have fl : (AM db L).filter (fun z => decide (z.1 = 4 * x + 3 ∧ ur (rL8 z.2.2.2 32) < ur (rL8 (anE db e).2.2.2 32))) = AM db P := by
        have z1 : (AM db A).filter (fun z => decide (z.1 = 4 * x + 3 ∧ ur (rL8 z.2.2.2 32) < ur (rL8 (anE db e).2.2.2 32))) = [] := fl_none (p := fun z : Int × Int × Int × (Int → Int) => z.1 = 4 * x + 3 ∧ ur (rL8 z.2.2.2 32) < ur (rL8 (anE db e).2.2.2 32)) (fun z hz => by
          obtain ⟨a, a1, a2⟩ := AM_mem.mp hz
          rw [← a2]
          intro w2
          have := kyE_l (q2 a a1)
          have w3 : a.1 = 4 * x + 3 := w2.1
          omega)
        have z2 : (AM db P).filter (fun z => decide (z.1 = 4 * x + 3 ∧ ur (rL8 z.2.2.2 32) < ur (rL8 (anE db e).2.2.2 32))) = AM db P := fl_all (p := fun z : Int × Int × Int × (Int → Int) => z.1 = 4 * x + 3 ∧ ur (rL8 z.2.2.2 32) < ur (rL8 (anE db e).2.2.2 32)) (fun z hz => by
          obtain ⟨a, a1, a2⟩ := AM_mem.mp hz
          rw [← a2]
          have ha : a ∈ L := by rw [eL]; exact List.mem_append_right _ (List.mem_append_left _ a1)
          exact ⟨hP a a1, (cmp a ha (hP a a1)).mpr (sp.1 a (List.mem_append_right _ a1))⟩)
        have z3 : (AM db (e :: B')).filter (fun z => decide (z.1 = 4 * x + 3 ∧ ur (rL8 z.2.2.2 32) < ur (rL8 (anE db e).2.2.2 32))) = [] := fl_none (p := fun z : Int × Int × Int × (Int → Int) => z.1 = 4 * x + 3 ∧ ur (rL8 z.2.2.2 32) < ur (rL8 (anE db e).2.2.2 32)) (fun z hz => by
          obtain ⟨a, a1, a2⟩ := AM_mem.mp hz
          rw [← a2]
          intro w2
          have w3 : a.1 = 4 * x + 3 := w2.1
          have ha : a ∈ L := by rw [eL']; exact List.mem_append_right _ a1
          have := (cmp a ha w3).mp w2.2
          rcases List.mem_cons.mp a1 with u | u
          · rw [u] at this; omega
          · have := sp.2 a u; omega)
        rw [eL, AM_app, AM_app, List.filter_append, List.filter_append, z1, z2, z3, List.append_nil, List.nil_append]
      rw [fl, AM_len]
    · refine sp_itnext (h.fr fr (fun f o' q => Or.inr (Or.inr (Or.inr (Or.inl q)))) rk) eL' cu (fun c' τ3 it3 m3 f3 k4 y4 e4 => ?_)
      rw [w32_id (by unfold rI; omega)] at e4
      rw [e4]
      refine hK c' (j + 1) τ3 ⟨fr.tr f3, k4, by omega, P ++ [e], B', by rw [eL, List.append_assoc]; rfl, fun p hp => ?_, fun b hb => hB b (List.mem_cons_of_mem _ hb), by rw [List.length_append, List.length_singleton]; omega, it3⟩ (by rw [hm, List.length_cons]; exact m3)
      rcases List.mem_append.mp hp with u | u
      · exact hP p u
      · rw [List.mem_singleton.mp u]; exact e1
