/-! Flash.fails()Z -/
set_option maxHeartbeats 4000000 in
set_option maxRecDepth 100000 in
theorem met_Flash_fails (l : Launch) {w : Wp} (hV : Hvl w) (Q : Int → St → Prop) (σ : St) (h : wp_Flash_fails (wc w) (wtv w) Q σ) : Met l yX4_fails (ws_ yX4_fails cX4_fails 1 (some .boolean)) rm_Flash_fails (PcW w σ [.ref (wad w 2 0)]) (QcZ w Q) 0 0 (wA w) := by
  refine Met.ofW (cc := cX4_fails) (maxL := 1) (ret := (some .boolean)) (by decide) rfl ?_
  intro p e st m args below meth c s₁ B hml hv
  obtain ⟨hargs, hW, hT⟩ := hv
  have X : CallFix p m c cX4_fails 1 st _ lw_all RX4 := ⟨B.exec, B.bytes, hml, findClass_of_methodNamed B.named, fun w h => atoms_spec (ws := ws_ yX4_fails cX4_fails 1 (some .boolean)) B.pre w (List.mem_cons_of_mem _ h)⟩
  have hr := B.returns
  have hlk := B.notSynchronized
  have hS : va_S (wA w) st.heap st.heap [] := va_S.rf
  have vl2_0 : vl w 2 0 := hV.hv 2 rfl ⟨by omega, by show _ < (1 : Int); omega⟩
  have hl := lv_entry ([.ref (wad w 2 0)]) (n := 1) (Nat.le_of_ble_eq_true rfl)
  have hfr := lg_entry_eq m ([.ref (wad w 2 0)]) 1
  rw [← hargs] at hfr
  rw [hfr]
  generalize (lg_sl ([.ref (wad w 2 0)]) ++ List.replicate (1 - (lg_sl ([.ref (wad w 2 0)])).length) Slot.unset).toArray = ls at hl ⊢
  have hl : lv_has ls 1 [(0, .ref (wad w 2 0))] := hl
  unfold wp_Flash_fails at h
  refine lv_aload_n X.1 X.2.1 dX4_fails_0 rfl (lv_at hl 0 rfl) ?_
  refine wg (v := .int (oI (gI σ 136 0))) X hT hW 2 8 136 vl2_0 rfl rfl (by decide) rfl (by decide) in_X4 q231 rfl dX4_fails_1 ?_
  refine w_if_ge (tgt := 9) X (hW.r.i 136 0 rfl) dX4_fails_4 (by decide) (fun hc => ?_) (fun hc => ?_)
  · have h := h.1 hc
    refine lv_aload_n X.1 X.2.1 dX4_fails_9 rfl (lv_at hl 0 rfl) ?_
    refine lv_dup X.1 X.2.1 dX4_fails_10 rfl ?_
    refine wg (v := .int (oI (gI σ 136 0))) X hT hW 2 8 136 vl2_0 rfl rfl (by decide) rfl (by decide) in_X4 q231 rfl dX4_fails_11 ?_
    refine lv_iconst (v := oI 1) X.1 X.2.1 dX4_fails_14 rfl ?_
    refine w_isub X dX4_fails_15 ?_
    refine wput (z := w32 ((gI σ 136 0) - 1)) X hT hW hS 2 8 136 vl2_0 rfl rfl (by decide) rfl (by decide) in_X4 tyX4 tyX4_ok nmX4 q231 rfl rfl (w32_r _) (fv0 w rfl) rfl rfl dX4_fails_16 (fun H locs hN hS => ?_)
    obtain ⟨σ_2, eσ_2⟩ : ∃ x, x = sI σ 136 0 (w32 ((gI σ 136 0) - 1)) := ⟨_, rfl⟩
    have hWσ_2 : Wo w σ_2 H := eσ_2 ▸ hN
    have h := h σ_2 eσ_2
    clear hN
    refine lv_aload_n X.1 X.2.1 dX4_fails_19 rfl (lv_at hl 0 rfl) ?_
    refine wg (v := .int (oI (gI σ_2 136 0))) X hT hWσ_2 2 8 136 vl2_0 rfl rfl (by decide) rfl (by decide) in_X4 q231 rfl dX4_fails_20 ?_
    refine w_cut (pc2 := 31) (st2 := [.int (oI (if 0 ≤ (gI σ_2 136 0) then (0 : Int) else (1 : Int)))]) (fun hj => ?_) ?_
    · refine w_if_ge (tgt := 30) X (hWσ_2.r.i 136 0 rfl) dX4_fails_23 (by decide) (fun hc => ?_) (fun hc => ?_)
      · refine lv_iconst (v := oI 0) X.1 X.2.1 dX4_fails_30 rfl ?_
        rw [if_pos hc] at hj; exact hj
      · refine lv_iconst (v := oI 1) X.1 X.2.1 dX4_fails_26 rfl ?_
        refine lv_goto (tgt := 31) X.1 X.2.1 dX4_fails_27 (by decide) ?_
        rw [if_neg hc] at hj; exact hj
    exact wret_Z X hr hlk hWσ_2 hS (ite_rZ rZ_0 rZ_1) h dX4_fails_31
  · have h := h.2 hc
    refine lv_iconst (v := oI 0) X.1 X.2.1 dX4_fails_7 rfl ?_
    exact wret_Z X hr hlk hW hS rZ_0 h dX4_fails_8
/-! Arrays.rangeCheck(III)V -/
set_option maxHeartbeats 4000000 in
set_option maxRecDepth 100000 in
theorem met_Arrays_rangeCheck (l : Launch) {w : Wp} (x0 : Int) (x1 : Int) (x2 : Int) (Q : St → Prop) (σ : St) (rx0 : rI x0) (rx1 : rI x1) (rx2 : rI x2) (h : wp_Arrays_rangeCheck (wc w) (wtv w) x0 x1 x2 Q σ) : Met l yJ0_rangeCheck (ws_ yJ0_rangeCheck cJ0_rangeCheck 3 none) rm_Arrays_rangeCheck (PcW w σ [.int (oI x0), .int (oI x1), .int (oI x2)]) (QcV w Q) 0 0 (wA w) := by
  refine Met.ofW (cc := cJ0_rangeCheck) (maxL := 3) (ret := none) (by decide) rfl ?_
  intro p e st m args below meth c s₁ B hml hv
  obtain ⟨hargs, hW, hT⟩ := hv
  have X : CallFix p m c cJ0_rangeCheck 3 st _ lw_all RJ0 := ⟨B.exec, B.bytes, hml, findClass_of_methodNamed B.named, fun w h => atoms_spec (ws := ws_ yJ0_rangeCheck cJ0_rangeCheck 3 none) B.pre w (List.mem_cons_of_mem _ h)⟩
  have hr := B.returns
  have hlk := B.notSynchronized
  have hS : va_S (wA w) st.heap st.heap [] := va_S.rf
  have hl := lv_entry ([.int (oI x0), .int (oI x1), .int (oI x2)]) (n := 3) (Nat.le_of_ble_eq_true rfl)
  have hfr := lg_entry_eq m ([.int (oI x0), .int (oI x1), .int (oI x2)]) 3
  rw [← hargs] at hfr
  rw [hfr]
  generalize (lg_sl ([.int (oI x0), .int (oI x1), .int (oI x2)]) ++ List.replicate (3 - (lg_sl ([.int (oI x0), .int (oI x1), .int (oI x2)])).length) Slot.unset).toArray = ls at hl ⊢
  have hl : lv_has ls 3 [(0, .int (oI x0)), (1, .int (oI x1)), (2, .int (oI x2))] := hl
  unfold wp_Arrays_rangeCheck at h
  refine lv_iload_n X.1 X.2.1 dJ0_rangeCheck_0 rfl (lv_at hl 1 rfl) ?_
  refine lv_iload_n X.1 X.2.1 dJ0_rangeCheck_1 rfl (lv_at hl 2 rfl) ?_
  refine w_icmp_le (tgt := 46) X rx1 rx2 dJ0_rangeCheck_2 (by decide) (fun hc => ?_) (fun hc => ?_)
  · have h := h.1 hc
    refine lv_iload_n X.1 X.2.1 dJ0_rangeCheck_46 rfl (lv_at hl 1 rfl) ?_
    refine w_if_ge (tgt := 59) X rx1 dJ0_rangeCheck_47 (by decide) (fun hc => ?_) (fun hc => ?_)
    · have h := h.1 hc
      refine lv_iload_n X.1 X.2.1 dJ0_rangeCheck_59 rfl (lv_at hl 2 rfl) ?_
      refine lv_iload_n X.1 X.2.1 dJ0_rangeCheck_60 rfl (lv_at hl 0 rfl) ?_
      refine w_icmp_le (tgt := 73) X rx2 rx0 dJ0_rangeCheck_61 (by decide) (fun hc => ?_) (fun hc => ?_)
      · have h := h.1 hc
        exact wret_V X hr hlk hW hS h dJ0_rangeCheck_73
      · have h := h.2 hc
        exact h.elim
    · have h := h.2 hc
      exact h.elim
  · have h := h.2 hc
    exact h.elim
/-! Arrays.fill([BIIB)V -/
set_option maxHeartbeats 4000000 in
set_option maxRecDepth 100000 in
theorem wk_Arrays_fill_3_L10B {p : Program} {l : Launch} {e : Env} {st : State} {m : MethodId} {args : Array Value} {below : List Frame} {meth : Method} {c : Code} {w : Wp} {x0f : Nat} {x0o : Int} {x1 : Int} {x2 : Int} {x3 : Int} {Q : St → Prop} (X : CallFix p m c cJ0_fill_3 5 st args lw_all RJ0) (hr : meth.sig.returnType = none) (hlk : meth.locks = false) (hT : Tb w st) (vx0 : vl w x0f x0o) (nx0 : ¬ x0f < 64) (tx0 : aty x0f = 1) (rx1 : rI x1) (rx2 : rI x2) (rx3 : rB x3) (K10 : Int → St → Prop) (hK10 : ∀ (y4 : Int) (σ : St) (H : Heap) (locs : List Loc) (ls : Array Slot), rI y4 → lv_has ls 5 [(0, .ref (wad w x0f x0o)), (2, .int (oI x2)), (3, .int (oI x3)), (4, .int (oI y4))] → Wo w σ H → va_S (wA w) st.heap H locs → K10 y4 σ → W p l e (headSpec (ws_ yJ0_fill_3 cJ0_fill_3 5 none) rm_Arrays_fill_3).room st m args below meth c H locs 0 0 (MQ below (QcV w Q) args st 0 0 (wA w)) (F0 m 10 ls [])) : ∀ (y4 : Int) (σ : St) (H : Heap) (locs : List Loc) (ls : Array Slot), rI y4 → lv_has ls 5 [(0, .ref (wad w x0f x0o)), (2, .int (oI x2)), (3, .int (oI x3)), (4, .int (oI y4))] → Wo w σ H → va_S (wA w) st.heap H locs → wp_Arrays_fill_3_L10 (wc w) (wtv w) x0f x0o x1 x2 x3 Q K10 y4 σ → W p l e (headSpec (ws_ yJ0_fill_3 cJ0_fill_3 5 none) rm_Arrays_fill_3).room st m args below meth c H locs 0 0 (MQ below (QcV w Q) args st 0 0 (wA w)) (F0 m 10 ls []) := by

  intro y4 σ H locs ls ry4 hl hW hS h
  unfold wp_Arrays_fill_3_L10 at h
  refine lv_iload X.1 X.2.1 dJ0_fill_3_10 (lv_at hl 3 rfl) ?_
  refine lv_iload_n X.1 X.2.1 dJ0_fill_3_12 rfl (lv_at hl 1 rfl) ?_
  refine w_icmp_ge (tgt := 27) X ry4 rx2 dJ0_fill_3_13 (by decide) (fun hc => ?_) (fun hc => ?_)
  · have h := h.1 hc
    exact wret_V X hr hlk hW hS h dJ0_fill_3_27
  · have h := h.2 hc
    refine lv_aload_n X.1 X.2.1 dJ0_fill_3_16 rfl (lv_at hl 0 rfl) ?_
    refine lv_iload X.1 X.2.1 dJ0_fill_3_17 (lv_at hl 3 rfl) ?_
    refine lv_iload_n X.1 X.2.1 dJ0_fill_3_19 rfl (lv_at hl 2 rfl) ?_
    obtain ⟨bi, h⟩ := h
    refine w_bast (n := (aln (wc w) x0f x0o)) X hT hW hS x0f vx0 nx0 tx0 rfl bi rx3 dJ0_fill_3_20 (fun H locs hN hS => ?_)
    obtain ⟨σ_5, eσ_5⟩ : ∃ x, x = sA σ x0f x0o y4 x3 := ⟨_, rfl⟩
    have hWσ_5 : Wo w σ_5 H := eσ_5 ▸ hN
    have h := h σ_5 eσ_5
    clear hN
    obtain ⟨y4_6, ey4_6⟩ : ∃ y : Int, y = w32 (y4 + 1) := ⟨_, rfl⟩
    have h := h y4_6 ey4_6
    have ry4_6 : rI y4_6 := by rw [ey4_6]; exact w32_r _
    refine lv_iinc (v := oI y4_6) (lv' := [(4, .int (oI y4_6)), (0, .ref (wad w x0f x0o)), (2, .int (oI x2)), (3, .int (oI x3))]) X.1 X.2.1 dJ0_fill_3_21 hl (k := 3) rfl (by rw [ey4_6]; exact oI_add _ _) (by decide) (by first | rfl | simp [catK, catI, catR, catL]) (fun ls hl => ?_)
    refine lv_goto (tgt := 10) X.1 X.2.1 dJ0_fill_3_24 (by decide) ?_
    exact hK10 y4_6 σ_5 _ _ _ ry4_6 (lv_sub hl [1, 2, 3, 0] rfl) hWσ_5 hS h
theorem wk_Arrays_fill_3_L10 {p : Program} {l : Launch} {e : Env} {st : State} {m : MethodId} {args : Array Value} {below : List Frame} {meth : Method} {c : Code} {w : Wp} {x0f : Nat} {x0o : Int} {x1 : Int} {x2 : Int} {x3 : Int} {Q : St → Prop} (X : CallFix p m c cJ0_fill_3 5 st args lw_all RJ0) (hr : meth.sig.returnType = none) (hlk : meth.locks = false) (hT : Tb w st) (vx0 : vl w x0f x0o) (nx0 : ¬ x0f < 64) (tx0 : aty x0f = 1) (rx1 : rI x1) (rx2 : rI x2) (rx3 : rB x3) : ∀ (y4 : Int) (σ : St) (H : Heap) (locs : List Loc) (ls : Array Slot), rI y4 → lv_has ls 5 [(0, .ref (wad w x0f x0o)), (2, .int (oI x2)), (3, .int (oI x3)), (4, .int (oI y4))] → Wo w σ H → va_S (wA w) st.heap H locs → lQ1 (wp_Arrays_fill_3_L10 (wc w) (wtv w) x0f x0o x1 x2 x3 Q) y4 σ → W p l e (headSpec (ws_ yJ0_fill_3 cJ0_fill_3 5 none) rm_Arrays_fill_3).room st m args below meth c H locs 0 0 (MQ below (QcV w Q) args st 0 0 (wA w)) (F0 m 10 ls []) := by
  intro y4 σ H locs ls ry4 hl hW hS h
  obtain ⟨fu, h⟩ := h
  induction fu generalizing y4 σ H locs ls with
  | zero => exact h.elim
  | succ fu ih =>
    exact wk_Arrays_fill_3_L10B X hr hlk hT vx0 nx0 tx0 rx1 rx2 rx3 (lq1 (wp_Arrays_fill_3_L10 (wc w) (wtv w) x0f x0o x1 x2 x3 Q) fu) (fun y4 σ H locs ls ry4 hl hW hS h => ih y4 σ H locs ls ry4 hl hW hS h) y4 σ H locs ls ry4 hl hW hS h
set_option maxHeartbeats 4000000 in
set_option maxRecDepth 100000 in
theorem met_Arrays_fill_3 (l : Launch) {w : Wp} (x0f : Nat) (x0o : Int) (x1 : Int) (x2 : Int) (x3 : Int) (Q : St → Prop) (σ : St) (vx0 : vl w x0f x0o) (nx0 : ¬ x0f < 64) (tx0 : aty x0f = 1) (rx1 : rI x1) (rx2 : rI x2) (rx3 : rB x3) (h : wp_Arrays_fill_3 (wc w) (wtv w) x0f x0o x1 x2 x3 Q σ) : Met l yJ0_fill_3 (ws_ yJ0_fill_3 cJ0_fill_3 5 none) rm_Arrays_fill_3 (PcW w σ [.ref (wad w x0f x0o), .int (oI x1), .int (oI x2), .int (oI x3)]) (QcV w Q) 0 0 (wA w) := by
  refine Met.ofW (cc := cJ0_fill_3) (maxL := 5) (ret := none) (by decide) rfl ?_
  intro p e st m args below meth c s₁ B hml hv
  obtain ⟨hargs, hW, hT⟩ := hv
  have X : CallFix p m c cJ0_fill_3 5 st _ lw_all RJ0 := ⟨B.exec, B.bytes, hml, findClass_of_methodNamed B.named, fun w h => atoms_spec (ws := ws_ yJ0_fill_3 cJ0_fill_3 5 none) B.pre w (List.mem_cons_of_mem _ h)⟩
  have hr := B.returns
  have hlk := B.notSynchronized
  have hS : va_S (wA w) st.heap st.heap [] := va_S.rf
  have hl := lv_entry ([.ref (wad w x0f x0o), .int (oI x1), .int (oI x2), .int (oI x3)]) (n := 5) (Nat.le_of_ble_eq_true rfl)
  have hfr := lg_entry_eq m ([.ref (wad w x0f x0o), .int (oI x1), .int (oI x2), .int (oI x3)]) 5
  rw [← hargs] at hfr
  rw [hfr]
  generalize (lg_sl ([.ref (wad w x0f x0o), .int (oI x1), .int (oI x2), .int (oI x3)]) ++ List.replicate (5 - (lg_sl ([.ref (wad w x0f x0o), .int (oI x1), .int (oI x2), .int (oI x3)])).length) Slot.unset).toArray = ls at hl ⊢
  have hl : lv_has ls 5 [(0, .ref (wad w x0f x0o)), (1, .int (oI x1)), (2, .int (oI x2)), (3, .int (oI x3))] := hl
  unfold wp_Arrays_fill_3 at h
  refine lv_aload_n X.1 X.2.1 dJ0_fill_3_0 rfl (lv_at hl 0 rfl) ?_
  refine w_alen (n := (aln (wc w) x0f x0o)) X hT hW x0f vx0 nx0 (by rw [tx0]; decide) rfl dJ0_fill_3_1 ?_
  refine lv_iload_n X.1 X.2.1 dJ0_fill_3_2 rfl (lv_at hl 1 rfl) ?_
  refine lv_iload_n X.1 X.2.1 dJ0_fill_3_3 rfl (lv_at hl 2 rfl) ?_
  refine wr_V (rS (As := [.int (oI (aln (wc w) x0f x0o)), .int (oI x1), .int (oI x2)]) (rest := []) X hT hW hS (met_Arrays_rangeCheck l (w := w) (aln (wc w) x0f x0o) x1 x2 _ σ (aln_r hT.c x0f x0o) rx1 rx2 h) (va_cwS 3 X.2.2.2.2 (lw_S q670 q671 q135 q672) rfl rfl rfl (by decide +kernel) ⟨Nat.le_of_ble_eq_true rfl, Nat.le_of_ble_eq_true rfl⟩) rfl hl.1 rfl (by first | exact Nat.le_of_ble_eq_true rfl | simp [catK, catI, catR, catL]) dJ0_fill_3_4 ⟨Nat.le_refl _, Nat.le_refl _⟩) hS (fun σ_8 H locs rkσ_8 h hWσ_8 hS => ?_)
  have h := h rkσ_8
  refine lv_iload_n X.1 X.2.1 dJ0_fill_3_7 rfl (lv_at hl 1 rfl) ?_
  refine lv_istore (i := 4) (lv' := [(4, .int (oI x1)), (0, .ref (wad w x0f x0o)), (1, .int (oI x1)), (2, .int (oI x2)), (3, .int (oI x3))]) X.1 X.2.1 dJ0_fill_3_8 hl (by decide) (by first | rfl | simp [catK, catI, catR, catL]) (fun ls hl => ?_)
  exact wk_Arrays_fill_3_L10 X hr hlk hT vx0 nx0 tx0 rx1 rx2 rx3 x1 σ_8 _ _ _ rx1 (lv_sub hl [1, 3, 4, 0] rfl) hWσ_8 hS h
/-! Arrays.fill([IIII)V -/
set_option maxHeartbeats 4000000 in
set_option maxRecDepth 100000 in
theorem wk_Arrays_fill_4_L10B {p : Program} {l : Launch} {e : Env} {st : State} {m : MethodId} {args : Array Value} {below : List Frame} {meth : Method} {c : Code} {w : Wp} {x0f : Nat} {x0o : Int} {x1 : Int} {x2 : Int} {x3 : Int} {Q : St → Prop} (X : CallFix p m c cJ0_fill_4 5 st args lw_all RJ0) (hr : meth.sig.returnType = none) (hlk : meth.locks = false) (hT : Tb w st) (vx0 : vl w x0f x0o) (nx0 : ¬ x0f < 64) (tx0 : aty x0f = 0) (rx1 : rI x1) (rx2 : rI x2) (rx3 : rI x3) (K10 : Int → St → Prop) (hK10 : ∀ (y4 : Int) (σ : St) (H : Heap) (locs : List Loc) (ls : Array Slot), rI y4 → lv_has ls 5 [(0, .ref (wad w x0f x0o)), (2, .int (oI x2)), (3, .int (oI x3)), (4, .int (oI y4))] → Wo w σ H → va_S (wA w) st.heap H locs → K10 y4 σ → W p l e (headSpec (ws_ yJ0_fill_4 cJ0_fill_4 5 none) rm_Arrays_fill_4).room st m args below meth c H locs 0 0 (MQ below (QcV w Q) args st 0 0 (wA w)) (F0 m 10 ls [])) : ∀ (y4 : Int) (σ : St) (H : Heap) (locs : List Loc) (ls : Array Slot), rI y4 → lv_has ls 5 [(0, .ref (wad w x0f x0o)), (2, .int (oI x2)), (3, .int (oI x3)), (4, .int (oI y4))] → Wo w σ H → va_S (wA w) st.heap H locs → wp_Arrays_fill_4_L10 (wc w) (wtv w) x0f x0o x1 x2 x3 Q K10 y4 σ → W p l e (headSpec (ws_ yJ0_fill_4 cJ0_fill_4 5 none) rm_Arrays_fill_4).room st m args below meth c H locs 0 0 (MQ below (QcV w Q) args st 0 0 (wA w)) (F0 m 10 ls []) := by

  intro y4 σ H locs ls ry4 hl hW hS h
  unfold wp_Arrays_fill_4_L10 at h
  refine lv_iload X.1 X.2.1 dJ0_fill_4_10 (lv_at hl 3 rfl) ?_
  refine lv_iload_n X.1 X.2.1 dJ0_fill_4_12 rfl (lv_at hl 1 rfl) ?_
  refine w_icmp_ge (tgt := 27) X ry4 rx2 dJ0_fill_4_13 (by decide) (fun hc => ?_) (fun hc => ?_)
  · have h := h.1 hc
    exact wret_V X hr hlk hW hS h dJ0_fill_4_27
  · have h := h.2 hc
    refine lv_aload_n X.1 X.2.1 dJ0_fill_4_16 rfl (lv_at hl 0 rfl) ?_
    refine lv_iload X.1 X.2.1 dJ0_fill_4_17 (lv_at hl 3 rfl) ?_
    refine lv_iload_n X.1 X.2.1 dJ0_fill_4_19 rfl (lv_at hl 2 rfl) ?_
    obtain ⟨bi, h⟩ := h
    refine w_iast (n := (aln (wc w) x0f x0o)) X hT hW hS x0f vx0 nx0 tx0 rfl bi rx3 dJ0_fill_4_20 (fun H locs hN hS => ?_)
    obtain ⟨σ_5, eσ_5⟩ : ∃ x, x = sA σ x0f x0o y4 x3 := ⟨_, rfl⟩
    have hWσ_5 : Wo w σ_5 H := eσ_5 ▸ hN
    have h := h σ_5 eσ_5
    clear hN
    obtain ⟨y4_6, ey4_6⟩ : ∃ y : Int, y = w32 (y4 + 1) := ⟨_, rfl⟩
    have h := h y4_6 ey4_6
    have ry4_6 : rI y4_6 := by rw [ey4_6]; exact w32_r _
    refine lv_iinc (v := oI y4_6) (lv' := [(4, .int (oI y4_6)), (0, .ref (wad w x0f x0o)), (2, .int (oI x2)), (3, .int (oI x3))]) X.1 X.2.1 dJ0_fill_4_21 hl (k := 3) rfl (by rw [ey4_6]; exact oI_add _ _) (by decide) (by first | rfl | simp [catK, catI, catR, catL]) (fun ls hl => ?_)
    refine lv_goto (tgt := 10) X.1 X.2.1 dJ0_fill_4_24 (by decide) ?_
    exact hK10 y4_6 σ_5 _ _ _ ry4_6 (lv_sub hl [1, 2, 3, 0] rfl) hWσ_5 hS h
theorem wk_Arrays_fill_4_L10 {p : Program} {l : Launch} {e : Env} {st : State} {m : MethodId} {args : Array Value} {below : List Frame} {meth : Method} {c : Code} {w : Wp} {x0f : Nat} {x0o : Int} {x1 : Int} {x2 : Int} {x3 : Int} {Q : St → Prop} (X : CallFix p m c cJ0_fill_4 5 st args lw_all RJ0) (hr : meth.sig.returnType = none) (hlk : meth.locks = false) (hT : Tb w st) (vx0 : vl w x0f x0o) (nx0 : ¬ x0f < 64) (tx0 : aty x0f = 0) (rx1 : rI x1) (rx2 : rI x2) (rx3 : rI x3) : ∀ (y4 : Int) (σ : St) (H : Heap) (locs : List Loc) (ls : Array Slot), rI y4 → lv_has ls 5 [(0, .ref (wad w x0f x0o)), (2, .int (oI x2)), (3, .int (oI x3)), (4, .int (oI y4))] → Wo w σ H → va_S (wA w) st.heap H locs → lQ1 (wp_Arrays_fill_4_L10 (wc w) (wtv w) x0f x0o x1 x2 x3 Q) y4 σ → W p l e (headSpec (ws_ yJ0_fill_4 cJ0_fill_4 5 none) rm_Arrays_fill_4).room st m args below meth c H locs 0 0 (MQ below (QcV w Q) args st 0 0 (wA w)) (F0 m 10 ls []) := by
  intro y4 σ H locs ls ry4 hl hW hS h
  obtain ⟨fu, h⟩ := h
  induction fu generalizing y4 σ H locs ls with
  | zero => exact h.elim
  | succ fu ih =>
    exact wk_Arrays_fill_4_L10B X hr hlk hT vx0 nx0 tx0 rx1 rx2 rx3 (lq1 (wp_Arrays_fill_4_L10 (wc w) (wtv w) x0f x0o x1 x2 x3 Q) fu) (fun y4 σ H locs ls ry4 hl hW hS h => ih y4 σ H locs ls ry4 hl hW hS h) y4 σ H locs ls ry4 hl hW hS h
set_option maxHeartbeats 4000000 in
set_option maxRecDepth 100000 in
theorem met_Arrays_fill_4 (l : Launch) {w : Wp} (x0f : Nat) (x0o : Int) (x1 : Int) (x2 : Int) (x3 : Int) (Q : St → Prop) (σ : St) (vx0 : vl w x0f x0o) (nx0 : ¬ x0f < 64) (tx0 : aty x0f = 0) (rx1 : rI x1) (rx2 : rI x2) (rx3 : rI x3) (h : wp_Arrays_fill_4 (wc w) (wtv w) x0f x0o x1 x2 x3 Q σ) : Met l yJ0_fill_4 (ws_ yJ0_fill_4 cJ0_fill_4 5 none) rm_Arrays_fill_4 (PcW w σ [.ref (wad w x0f x0o), .int (oI x1), .int (oI x2), .int (oI x3)]) (QcV w Q) 0 0 (wA w) := by
  refine Met.ofW (cc := cJ0_fill_4) (maxL := 5) (ret := none) (by decide) rfl ?_
  intro p e st m args below meth c s₁ B hml hv
  obtain ⟨hargs, hW, hT⟩ := hv
  have X : CallFix p m c cJ0_fill_4 5 st _ lw_all RJ0 := ⟨B.exec, B.bytes, hml, findClass_of_methodNamed B.named, fun w h => atoms_spec (ws := ws_ yJ0_fill_4 cJ0_fill_4 5 none) B.pre w (List.mem_cons_of_mem _ h)⟩
  have hr := B.returns
  have hlk := B.notSynchronized
  have hS : va_S (wA w) st.heap st.heap [] := va_S.rf
  have hl := lv_entry ([.ref (wad w x0f x0o), .int (oI x1), .int (oI x2), .int (oI x3)]) (n := 5) (Nat.le_of_ble_eq_true rfl)
  have hfr := lg_entry_eq m ([.ref (wad w x0f x0o), .int (oI x1), .int (oI x2), .int (oI x3)]) 5
  rw [← hargs] at hfr
  rw [hfr]
  generalize (lg_sl ([.ref (wad w x0f x0o), .int (oI x1), .int (oI x2), .int (oI x3)]) ++ List.replicate (5 - (lg_sl ([.ref (wad w x0f x0o), .int (oI x1), .int (oI x2), .int (oI x3)])).length) Slot.unset).toArray = ls at hl ⊢
  have hl : lv_has ls 5 [(0, .ref (wad w x0f x0o)), (1, .int (oI x1)), (2, .int (oI x2)), (3, .int (oI x3))] := hl
  unfold wp_Arrays_fill_4 at h
  refine lv_aload_n X.1 X.2.1 dJ0_fill_4_0 rfl (lv_at hl 0 rfl) ?_
  refine w_alen (n := (aln (wc w) x0f x0o)) X hT hW x0f vx0 nx0 (by rw [tx0]; decide) rfl dJ0_fill_4_1 ?_
  refine lv_iload_n X.1 X.2.1 dJ0_fill_4_2 rfl (lv_at hl 1 rfl) ?_
  refine lv_iload_n X.1 X.2.1 dJ0_fill_4_3 rfl (lv_at hl 2 rfl) ?_
  refine wr_V (rS (As := [.int (oI (aln (wc w) x0f x0o)), .int (oI x1), .int (oI x2)]) (rest := []) X hT hW hS (met_Arrays_rangeCheck l (w := w) (aln (wc w) x0f x0o) x1 x2 _ σ (aln_r hT.c x0f x0o) rx1 rx2 h) (va_cwS 3 X.2.2.2.2 (lw_S q670 q671 q135 q672) rfl rfl rfl (by decide +kernel) ⟨Nat.le_of_ble_eq_true rfl, Nat.le_of_ble_eq_true rfl⟩) rfl hl.1 rfl (by first | exact Nat.le_of_ble_eq_true rfl | simp [catK, catI, catR, catL]) dJ0_fill_4_4 ⟨Nat.le_refl _, Nat.le_refl _⟩) hS (fun σ_8 H locs rkσ_8 h hWσ_8 hS => ?_)
  have h := h rkσ_8
  refine lv_iload_n X.1 X.2.1 dJ0_fill_4_7 rfl (lv_at hl 1 rfl) ?_
  refine lv_istore (i := 4) (lv' := [(4, .int (oI x1)), (0, .ref (wad w x0f x0o)), (1, .int (oI x1)), (2, .int (oI x2)), (3, .int (oI x3))]) X.1 X.2.1 dJ0_fill_4_8 hl (by decide) (by first | rfl | simp [catK, catI, catR, catL]) (fun ls hl => ?_)
  exact wk_Arrays_fill_4_L10 X hr hlk hT vx0 nx0 tx0 rx1 rx2 rx3 x1 σ_8 _ _ _ rx1 (lv_sub hl [1, 3, 4, 0] rfl) hWσ_8 hS h
/-! Arrays.fill([ZIIZ)V -/
set_option maxHeartbeats 4000000 in
set_option maxRecDepth 100000 in
theorem wk_Arrays_fill_5_L10B {p : Program} {l : Launch} {e : Env} {st : State} {m : MethodId} {args : Array Value} {below : List Frame} {meth : Method} {c : Code} {w : Wp} {x0f : Nat} {x0o : Int} {x1 : Int} {x2 : Int} {x3 : Int} {Q : St → Prop} (X : CallFix p m c cJ0_fill_5 5 st args lw_all RJ0) (hr : meth.sig.returnType = none) (hlk : meth.locks = false) (hT : Tb w st) (vx0 : vl w x0f x0o) (nx0 : ¬ x0f < 64) (tx0 : aty x0f = 2) (rx1 : rI x1) (rx2 : rI x2) (rx3 : rZ x3) (K10 : Int → St → Prop) (hK10 : ∀ (y4 : Int) (σ : St) (H : Heap) (locs : List Loc) (ls : Array Slot), rI y4 → lv_has ls 5 [(0, .ref (wad w x0f x0o)), (2, .int (oI x2)), (3, .int (oI x3)), (4, .int (oI y4))] → Wo w σ H → va_S (wA w) st.heap H locs → K10 y4 σ → W p l e (headSpec (ws_ yJ0_fill_5 cJ0_fill_5 5 none) rm_Arrays_fill_5).room st m args below meth c H locs 0 0 (MQ below (QcV w Q) args st 0 0 (wA w)) (F0 m 10 ls [])) : ∀ (y4 : Int) (σ : St) (H : Heap) (locs : List Loc) (ls : Array Slot), rI y4 → lv_has ls 5 [(0, .ref (wad w x0f x0o)), (2, .int (oI x2)), (3, .int (oI x3)), (4, .int (oI y4))] → Wo w σ H → va_S (wA w) st.heap H locs → wp_Arrays_fill_5_L10 (wc w) (wtv w) x0f x0o x1 x2 x3 Q K10 y4 σ → W p l e (headSpec (ws_ yJ0_fill_5 cJ0_fill_5 5 none) rm_Arrays_fill_5).room st m args below meth c H locs 0 0 (MQ below (QcV w Q) args st 0 0 (wA w)) (F0 m 10 ls []) := by

  intro y4 σ H locs ls ry4 hl hW hS h
  unfold wp_Arrays_fill_5_L10 at h
  refine lv_iload X.1 X.2.1 dJ0_fill_5_10 (lv_at hl 3 rfl) ?_
  refine lv_iload_n X.1 X.2.1 dJ0_fill_5_12 rfl (lv_at hl 1 rfl) ?_
  refine w_icmp_ge (tgt := 27) X ry4 rx2 dJ0_fill_5_13 (by decide) (fun hc => ?_) (fun hc => ?_)
  · have h := h.1 hc
    exact wret_V X hr hlk hW hS h dJ0_fill_5_27
  · have h := h.2 hc
    refine lv_aload_n X.1 X.2.1 dJ0_fill_5_16 rfl (lv_at hl 0 rfl) ?_
    refine lv_iload X.1 X.2.1 dJ0_fill_5_17 (lv_at hl 3 rfl) ?_
    refine lv_iload_n X.1 X.2.1 dJ0_fill_5_19 rfl (lv_at hl 2 rfl) ?_
    obtain ⟨bi, h⟩ := h
    refine w_zast (n := (aln (wc w) x0f x0o)) X hT hW hS x0f vx0 nx0 tx0 rfl bi rx3 dJ0_fill_5_20 (fun H locs hN hS => ?_)
    obtain ⟨σ_5, eσ_5⟩ : ∃ x, x = sA σ x0f x0o y4 x3 := ⟨_, rfl⟩
    have hWσ_5 : Wo w σ_5 H := eσ_5 ▸ hN
    have h := h σ_5 eσ_5
    clear hN
    obtain ⟨y4_6, ey4_6⟩ : ∃ y : Int, y = w32 (y4 + 1) := ⟨_, rfl⟩
    have h := h y4_6 ey4_6
    have ry4_6 : rI y4_6 := by rw [ey4_6]; exact w32_r _
    refine lv_iinc (v := oI y4_6) (lv' := [(4, .int (oI y4_6)), (0, .ref (wad w x0f x0o)), (2, .int (oI x2)), (3, .int (oI x3))]) X.1 X.2.1 dJ0_fill_5_21 hl (k := 3) rfl (by rw [ey4_6]; exact oI_add _ _) (by decide) (by first | rfl | simp [catK, catI, catR, catL]) (fun ls hl => ?_)
    refine lv_goto (tgt := 10) X.1 X.2.1 dJ0_fill_5_24 (by decide) ?_
    exact hK10 y4_6 σ_5 _ _ _ ry4_6 (lv_sub hl [1, 2, 3, 0] rfl) hWσ_5 hS h
theorem wk_Arrays_fill_5_L10 {p : Program} {l : Launch} {e : Env} {st : State} {m : MethodId} {args : Array Value} {below : List Frame} {meth : Method} {c : Code} {w : Wp} {x0f : Nat} {x0o : Int} {x1 : Int} {x2 : Int} {x3 : Int} {Q : St → Prop} (X : CallFix p m c cJ0_fill_5 5 st args lw_all RJ0) (hr : meth.sig.returnType = none) (hlk : meth.locks = false) (hT : Tb w st) (vx0 : vl w x0f x0o) (nx0 : ¬ x0f < 64) (tx0 : aty x0f = 2) (rx1 : rI x1) (rx2 : rI x2) (rx3 : rZ x3) : ∀ (y4 : Int) (σ : St) (H : Heap) (locs : List Loc) (ls : Array Slot), rI y4 → lv_has ls 5 [(0, .ref (wad w x0f x0o)), (2, .int (oI x2)), (3, .int (oI x3)), (4, .int (oI y4))] → Wo w σ H → va_S (wA w) st.heap H locs → lQ1 (wp_Arrays_fill_5_L10 (wc w) (wtv w) x0f x0o x1 x2 x3 Q) y4 σ → W p l e (headSpec (ws_ yJ0_fill_5 cJ0_fill_5 5 none) rm_Arrays_fill_5).room st m args below meth c H locs 0 0 (MQ below (QcV w Q) args st 0 0 (wA w)) (F0 m 10 ls []) := by
  intro y4 σ H locs ls ry4 hl hW hS h
  obtain ⟨fu, h⟩ := h
  induction fu generalizing y4 σ H locs ls with
  | zero => exact h.elim
  | succ fu ih =>
    exact wk_Arrays_fill_5_L10B X hr hlk hT vx0 nx0 tx0 rx1 rx2 rx3 (lq1 (wp_Arrays_fill_5_L10 (wc w) (wtv w) x0f x0o x1 x2 x3 Q) fu) (fun y4 σ H locs ls ry4 hl hW hS h => ih y4 σ H locs ls ry4 hl hW hS h) y4 σ H locs ls ry4 hl hW hS h
set_option maxHeartbeats 4000000 in
set_option maxRecDepth 100000 in
theorem met_Arrays_fill_5 (l : Launch) {w : Wp} (x0f : Nat) (x0o : Int) (x1 : Int) (x2 : Int) (x3 : Int) (Q : St → Prop) (σ : St) (vx0 : vl w x0f x0o) (nx0 : ¬ x0f < 64) (tx0 : aty x0f = 2) (rx1 : rI x1) (rx2 : rI x2) (rx3 : rZ x3) (h : wp_Arrays_fill_5 (wc w) (wtv w) x0f x0o x1 x2 x3 Q σ) : Met l yJ0_fill_5 (ws_ yJ0_fill_5 cJ0_fill_5 5 none) rm_Arrays_fill_5 (PcW w σ [.ref (wad w x0f x0o), .int (oI x1), .int (oI x2), .int (oI x3)]) (QcV w Q) 0 0 (wA w) := by
  refine Met.ofW (cc := cJ0_fill_5) (maxL := 5) (ret := none) (by decide) rfl ?_
  intro p e st m args below meth c s₁ B hml hv
  obtain ⟨hargs, hW, hT⟩ := hv
  have X : CallFix p m c cJ0_fill_5 5 st _ lw_all RJ0 := ⟨B.exec, B.bytes, hml, findClass_of_methodNamed B.named, fun w h => atoms_spec (ws := ws_ yJ0_fill_5 cJ0_fill_5 5 none) B.pre w (List.mem_cons_of_mem _ h)⟩
  have hr := B.returns
  have hlk := B.notSynchronized
  have hS : va_S (wA w) st.heap st.heap [] := va_S.rf
  have hl := lv_entry ([.ref (wad w x0f x0o), .int (oI x1), .int (oI x2), .int (oI x3)]) (n := 5) (Nat.le_of_ble_eq_true rfl)
  have hfr := lg_entry_eq m ([.ref (wad w x0f x0o), .int (oI x1), .int (oI x2), .int (oI x3)]) 5
  rw [← hargs] at hfr
  rw [hfr]
  generalize (lg_sl ([.ref (wad w x0f x0o), .int (oI x1), .int (oI x2), .int (oI x3)]) ++ List.replicate (5 - (lg_sl ([.ref (wad w x0f x0o), .int (oI x1), .int (oI x2), .int (oI x3)])).length) Slot.unset).toArray = ls at hl ⊢
  have hl : lv_has ls 5 [(0, .ref (wad w x0f x0o)), (1, .int (oI x1)), (2, .int (oI x2)), (3, .int (oI x3))] := hl
  unfold wp_Arrays_fill_5 at h
  refine lv_aload_n X.1 X.2.1 dJ0_fill_5_0 rfl (lv_at hl 0 rfl) ?_
  refine w_alen (n := (aln (wc w) x0f x0o)) X hT hW x0f vx0 nx0 (by rw [tx0]; decide) rfl dJ0_fill_5_1 ?_
  refine lv_iload_n X.1 X.2.1 dJ0_fill_5_2 rfl (lv_at hl 1 rfl) ?_
  refine lv_iload_n X.1 X.2.1 dJ0_fill_5_3 rfl (lv_at hl 2 rfl) ?_
  refine wr_V (rS (As := [.int (oI (aln (wc w) x0f x0o)), .int (oI x1), .int (oI x2)]) (rest := []) X hT hW hS (met_Arrays_rangeCheck l (w := w) (aln (wc w) x0f x0o) x1 x2 _ σ (aln_r hT.c x0f x0o) rx1 rx2 h) (va_cwS 3 X.2.2.2.2 (lw_S q670 q671 q135 q672) rfl rfl rfl (by decide +kernel) ⟨Nat.le_of_ble_eq_true rfl, Nat.le_of_ble_eq_true rfl⟩) rfl hl.1 rfl (by first | exact Nat.le_of_ble_eq_true rfl | simp [catK, catI, catR, catL]) dJ0_fill_5_4 ⟨Nat.le_refl _, Nat.le_refl _⟩) hS (fun σ_8 H locs rkσ_8 h hWσ_8 hS => ?_)
  have h := h rkσ_8
  refine lv_iload_n X.1 X.2.1 dJ0_fill_5_7 rfl (lv_at hl 1 rfl) ?_
  refine lv_istore (i := 4) (lv' := [(4, .int (oI x1)), (0, .ref (wad w x0f x0o)), (1, .int (oI x1)), (2, .int (oI x2)), (3, .int (oI x3))]) X.1 X.2.1 dJ0_fill_5_8 hl (by decide) (by first | rfl | simp [catK, catI, catR, catL]) (fun ls hl => ?_)
  exact wk_Arrays_fill_5_L10 X hr hlk hT vx0 nx0 tx0 rx1 rx2 rx3 x1 σ_8 _ _ _ rx1 (lv_sub hl [1, 3, 4, 0] rfl) hWσ_8 hS h
/-! Flash.erase(I)Z -/
set_option maxHeartbeats 4000000 in
set_option maxRecDepth 100000 in
theorem met_Flash_erase (l : Launch) {w : Wp} (hV : Hvl w) (x1 : Int) (Q : Int → St → Prop) (σ : St) (rx1 : rI x1) (h : wp_Flash_erase (wc w) (wtv w) x1 Q σ) : Met l yX4_erase (ws_ yX4_erase cX4_erase 3 (some .boolean)) rm_Flash_erase (PcW w σ [.ref (wad w 2 0), .int (oI x1)]) (QcZ w Q) 0 0 (wA w) := by
  refine Met.ofW (cc := cX4_erase) (maxL := 3) (ret := (some .boolean)) (by decide) rfl ?_
  intro p e st m args below meth c s₁ B hml hv
  obtain ⟨hargs, hW, hT⟩ := hv
  have X : CallFix p m c cX4_erase 3 st _ lw_all RX4 := ⟨B.exec, B.bytes, hml, findClass_of_methodNamed B.named, fun w h => atoms_spec (ws := ws_ yX4_erase cX4_erase 3 (some .boolean)) B.pre w (List.mem_cons_of_mem _ h)⟩
  have hr := B.returns
  have hlk := B.notSynchronized
  have hS : va_S (wA w) st.heap st.heap [] := va_S.rf
  have vl130_0 : vl w 130 0 := hV.hv 130 rfl ⟨by omega, by show _ < (1 : Int); omega⟩
  have vl131_0 : vl w 131 0 := hV.hv 131 rfl ⟨by omega, by show _ < (1 : Int); omega⟩
  have vl132_0 : vl w 132 0 := hV.hv 132 rfl ⟨by omega, by show _ < (1 : Int); omega⟩
  have vl133_0 : vl w 133 0 := hV.hv 133 rfl ⟨by omega, by show _ < (1 : Int); omega⟩
  have vl135_0 : vl w 135 0 := hV.hv 135 rfl ⟨by omega, by show _ < (1 : Int); omega⟩
  have vl2_0 : vl w 2 0 := hV.hv 2 rfl ⟨by omega, by show _ < (1 : Int); omega⟩
  have hl := lv_entry ([.ref (wad w 2 0), .int (oI x1)]) (n := 3) (Nat.le_of_ble_eq_true rfl)
  have hfr := lg_entry_eq m ([.ref (wad w 2 0), .int (oI x1)]) 3
  rw [← hargs] at hfr
  rw [hfr]
  generalize (lg_sl ([.ref (wad w 2 0), .int (oI x1)]) ++ List.replicate (3 - (lg_sl ([.ref (wad w 2 0), .int (oI x1)])).length) Slot.unset).toArray = ls at hl ⊢
  have hl : lv_has ls 3 [(0, .ref (wad w 2 0)), (1, .int (oI x1))] := hl
  unfold wp_Flash_erase at h
  refine lv_aload_n X.1 X.2.1 dX4_erase_0 rfl (lv_at hl 0 rfl) ?_
  refine wr_Z (rV (As := []) (rest := []) X hT hW hS (met_Flash_fails l (w := w) hV _ σ h) (cwV 0 X.2.2.2.2 (lw_V q663 q665 qs2 q134 q666) rfl rfl rfl (by decide +kernel) ⟨Nat.le_of_ble_eq_true rfl, Nat.le_of_ble_eq_true rfl⟩) vl2_0 (by decide) rfl rfl hl.1 rfl (by first | exact Nat.le_of_ble_eq_true rfl | simp [catK, catI, catR, catL]) dX4_erase_1 ⟨Nat.le_refl _, Nat.le_refl _⟩) hS (fun r_12 σ_13 H locs rr_12 rkσ_13 h hWσ_13 hS => ?_)
  have h := h rr_12 rkσ_13
  refine w_if_eq (tgt := 9) X rr_12.i dX4_erase_4 (by decide) (fun hc => ?_) (fun hc => ?_)
  · have h := h.1 hc
    refine lv_iload_n X.1 X.2.1 dX4_erase_9 rfl (lv_at hl 1 rfl) ?_
    refine lv_aload_n X.1 X.2.1 dX4_erase_10 rfl (lv_at hl 0 rfl) ?_
    refine wg (v := .int (oI (wc w).2.1)) X hT hWσ_13 2 1 129 vl2_0 rfl rfl (by decide) rfl (by decide) in_X4 q223 rfl dX4_erase_11 ?_
    refine w_imul X dX4_erase_14 ?_
    refine w_top (fun y2_14 ey2_14 => ?_)
    have h := h y2_14 ey2_14
    have ry2_14 : rI y2_14 := by rw [ey2_14]; exact (w32_r _)
    refine lv_istore_n (i := 2) (lv' := [(2, .int (oI y2_14)), (0, .ref (wad w 2 0)), (1, .int (oI x1))]) X.1 X.2.1 dX4_erase_15 rfl hl (by decide) (by first | rfl | simp [catK, catI, catR, catL]) (fun ls hl => ?_)
    refine lv_aload_n X.1 X.2.1 dX4_erase_16 rfl (lv_at hl 1 rfl) ?_
    refine wg (v := .ref (wad w 130 0)) X hT hWσ_13 2 2 130 vl2_0 rfl rfl (by decide) rfl (by decide) in_X4 q225 rfl dX4_erase_17 ?_
    refine lv_iload_n X.1 X.2.1 dX4_erase_20 rfl (lv_at hl 0 rfl) ?_
    refine lv_sipush (v := oI 128) X.1 X.2.1 dX4_erase_21 (by decide) ?_
    refine w_imul X dX4_erase_24 ?_
    refine lv_iload_n X.1 X.2.1 dX4_erase_25 rfl (lv_at hl 0 rfl) ?_
    refine lv_aload_n X.1 X.2.1 dX4_erase_26 rfl (lv_at hl 1 rfl) ?_
    refine wg (v := .int (oI (wc w).2.1)) X hT hWσ_13 2 1 129 vl2_0 rfl rfl (by decide) rfl (by decide) in_X4 q223 rfl dX4_erase_27 ?_
    refine w_iadd X dX4_erase_30 ?_
    refine lv_sipush (v := oI 128) X.1 X.2.1 dX4_erase_31 (by decide) ?_
    refine w_imul X dX4_erase_34 ?_
    refine lv_iconst (v := oI (-1)) X.1 X.2.1 dX4_erase_35 rfl ?_
    refine wr_V (rS (As := [.ref (wad w 130 0), .int (oI (w32 (y2_14 * 128))), .int (oI (w32 ((w32 (y2_14 + (wc w).2.1)) * 128))), .int (oI (-1))]) (rest := []) X hT hWσ_13 hS (met_Arrays_fill_3 l (w := w) 130 0 (w32 (y2_14 * 128)) (w32 ((w32 (y2_14 + (wc w).2.1)) * 128)) (-1) _ σ_13 vl130_0 (by decide) rfl (w32_r _) (w32_r _) (rB_lit (-1) (by decide)) h) (va_cwS 4 X.2.2.2.2 (lw_S q667 q668 q135 q669) rfl rfl rfl (by decide +kernel) ⟨Nat.le_of_ble_eq_true rfl, Nat.le_of_ble_eq_true rfl⟩) rfl hl.1 rfl (by first | exact Nat.le_of_ble_eq_true rfl | simp [catK, catI, catR, catL]) dX4_erase_36 ⟨Nat.le_refl _, Nat.le_refl _⟩) hS (fun σ_16 H locs rkσ_16 h hWσ_16 hS => ?_)
    have h := h rkσ_16
    refine lv_aload_n X.1 X.2.1 dX4_erase_39 rfl (lv_at hl 1 rfl) ?_
    refine wg (v := .ref (wad w 131 0)) X hT hWσ_16 2 3 131 vl2_0 rfl rfl (by decide) rfl (by decide) in_X4 q226 rfl dX4_erase_40 ?_
    refine lv_iload_n X.1 X.2.1 dX4_erase_43 rfl (lv_at hl 0 rfl) ?_
    refine lv_iload_n X.1 X.2.1 dX4_erase_44 rfl (lv_at hl 0 rfl) ?_
    refine lv_aload_n X.1 X.2.1 dX4_erase_45 rfl (lv_at hl 1 rfl) ?_
    refine wg (v := .int (oI (wc w).2.1)) X hT hWσ_16 2 1 129 vl2_0 rfl rfl (by decide) rfl (by decide) in_X4 q223 rfl dX4_erase_46 ?_
    refine w_iadd X dX4_erase_49 ?_
    refine lv_iconst (v := oI 0) X.1 X.2.1 dX4_erase_50 rfl ?_
    refine wr_V (rS (As := [.ref (wad w 131 0), .int (oI y2_14), .int (oI (w32 (y2_14 + (wc w).2.1))), .int (oI 0)]) (rest := []) X hT hWσ_16 hS (met_Arrays_fill_4 l (w := w) 131 0 y2_14 (w32 (y2_14 + (wc w).2.1)) 0 _ σ_16 vl131_0 (by decide) rfl ry2_14 (w32_r _) rZ_0.i h) (va_cwS 4 X.2.2.2.2 (lw_S q673 q674 q135 q675) rfl rfl rfl (by decide +kernel) ⟨Nat.le_of_ble_eq_true rfl, Nat.le_of_ble_eq_true rfl⟩) rfl hl.1 rfl (by first | exact Nat.le_of_ble_eq_true rfl | simp [catK, catI, catR, catL]) dX4_erase_51 ⟨Nat.le_refl _, Nat.le_refl _⟩) hS (fun σ_18 H locs rkσ_18 h hWσ_18 hS => ?_)
    have h := h rkσ_18
    refine lv_aload_n X.1 X.2.1 dX4_erase_54 rfl (lv_at hl 1 rfl) ?_
    refine wg (v := .ref (wad w 132 0)) X hT hWσ_18 2 4 132 vl2_0 rfl rfl (by decide) rfl (by decide) in_X4 q227 rfl dX4_erase_55 ?_
    refine lv_iload_n X.1 X.2.1 dX4_erase_58 rfl (lv_at hl 0 rfl) ?_
    refine lv_iload_n X.1 X.2.1 dX4_erase_59 rfl (lv_at hl 0 rfl) ?_
    refine lv_aload_n X.1 X.2.1 dX4_erase_60 rfl (lv_at hl 1 rfl) ?_
    refine wg (v := .int (oI (wc w).2.1)) X hT hWσ_18 2 1 129 vl2_0 rfl rfl (by decide) rfl (by decide) in_X4 q223 rfl dX4_erase_61 ?_
    refine w_iadd X dX4_erase_64 ?_
    refine lv_iconst (v := oI 0) X.1 X.2.1 dX4_erase_65 rfl ?_
    refine wr_V (rS (As := [.ref (wad w 132 0), .int (oI y2_14), .int (oI (w32 (y2_14 + (wc w).2.1))), .int (oI 0)]) (rest := []) X hT hWσ_18 hS (met_Arrays_fill_5 l (w := w) 132 0 y2_14 (w32 (y2_14 + (wc w).2.1)) 0 _ σ_18 vl132_0 (by decide) rfl ry2_14 (w32_r _) rZ_0 h) (va_cwS 4 X.2.2.2.2 (lw_S q676 q677 q135 q678) rfl rfl rfl (by decide +kernel) ⟨Nat.le_of_ble_eq_true rfl, Nat.le_of_ble_eq_true rfl⟩) rfl hl.1 rfl (by first | exact Nat.le_of_ble_eq_true rfl | simp [catK, catI, catR, catL]) dX4_erase_66 ⟨Nat.le_refl _, Nat.le_refl _⟩) hS (fun σ_20 H locs rkσ_20 h hWσ_20 hS => ?_)
    have h := h rkσ_20
    refine lv_aload_n X.1 X.2.1 dX4_erase_69 rfl (lv_at hl 1 rfl) ?_
    refine wg (v := .ref (wad w 133 0)) X hT hWσ_20 2 5 133 vl2_0 rfl rfl (by decide) rfl (by decide) in_X4 q228 rfl dX4_erase_70 ?_
    refine lv_iload_n X.1 X.2.1 dX4_erase_73 rfl (lv_at hl 2 rfl) ?_
    refine lv_iconst (v := oI 0) X.1 X.2.1 dX4_erase_74 rfl ?_
    obtain ⟨bi, h⟩ := h
    refine w_iast (n := (wc w).1) X hT hWσ_20 hS 133 vl133_0 (by decide) rfl rfl bi rZ_0.i dX4_erase_75 (fun H locs hN hS => ?_)
    obtain ⟨σ_21, eσ_21⟩ : ∃ x, x = sA σ_20 133 0 x1 0 := ⟨_, rfl⟩
    have hWσ_21 : Wo w σ_21 H := eσ_21 ▸ hN
    have h := h σ_21 eσ_21
    clear hN
    refine lv_aload_n X.1 X.2.1 dX4_erase_76 rfl (lv_at hl 1 rfl) ?_
    refine wg (v := .ref (wad w 135 0)) X hT hWσ_21 2 7 135 vl2_0 rfl rfl (by decide) rfl (by decide) in_X4 q230 rfl dX4_erase_77 ?_
    refine lv_iload_n X.1 X.2.1 dX4_erase_80 rfl (lv_at hl 2 rfl) ?_
    refine lv_iconst (v := oI 0) X.1 X.2.1 dX4_erase_81 rfl ?_
    obtain ⟨bi, h⟩ := h
    refine w_zast (n := (wc w).1) X hT hWσ_21 hS 135 vl135_0 (by decide) rfl rfl bi rZ_0 dX4_erase_82 (fun H locs hN hS => ?_)
    obtain ⟨σ_22, eσ_22⟩ : ∃ x, x = sA σ_21 135 0 x1 0 := ⟨_, rfl⟩
    have hWσ_22 : Wo w σ_22 H := eσ_22 ▸ hN
    have h := h σ_22 eσ_22
    clear hN
    refine lv_iconst (v := oI 1) X.1 X.2.1 dX4_erase_83 rfl ?_
    exact wret_Z X hr hlk hWσ_22 hS rZ_1 h dX4_erase_84
  · have h := h.2 hc
    refine lv_iconst (v := oI 0) X.1 X.2.1 dX4_erase_7 rfl ?_
    exact wret_Z X hr hlk hWσ_13 hS rZ_0 h dX4_erase_8
/-! Arrays.fill([BB)V -/
set_option maxHeartbeats 4000000 in
set_option maxRecDepth 100000 in
theorem wk_Arrays_fill_L5B {p : Program} {l : Launch} {e : Env} {st : State} {m : MethodId} {args : Array Value} {below : List Frame} {meth : Method} {c : Code} {w : Wp} {x0f : Nat} {x0o : Int} {x1 : Int} {Q : St → Prop} (X : CallFix p m c cJ0_fill 4 st args lw_all RJ0) (hr : meth.sig.returnType = none) (hlk : meth.locks = false) (hT : Tb w st) (vx0 : vl w x0f x0o) (nx0 : ¬ x0f < 64) (tx0 : aty x0f = 1) (rx1 : rB x1) (K5 : Int → Int → St → Prop) (hK5 : ∀ (y2 y3 : Int) (σ : St) (H : Heap) (locs : List Loc) (ls : Array Slot), rI y2 → rI y3 → lv_has ls 4 [(0, .ref (wad w x0f x0o)), (1, .int (oI x1)), (2, .int (oI y2)), (3, .int (oI y3))] → Wo w σ H → va_S (wA w) st.heap H locs → K5 y2 y3 σ → W p l e (headSpec (ws_ yJ0_fill cJ0_fill 4 none) rm_Arrays_fill).room st m args below meth c H locs 0 0 (MQ below (QcV w Q) args st 0 0 (wA w)) (F0 m 5 ls [])) : ∀ (y2 y3 : Int) (σ : St) (H : Heap) (locs : List Loc) (ls : Array Slot), rI y2 → rI y3 → lv_has ls 4 [(0, .ref (wad w x0f x0o)), (1, .int (oI x1)), (2, .int (oI y2)), (3, .int (oI y3))] → Wo w σ H → va_S (wA w) st.heap H locs → wp_Arrays_fill_L5 (wc w) (wtv w) x0f x0o x1 Q K5 y2 y3 σ → W p l e (headSpec (ws_ yJ0_fill cJ0_fill 4 none) rm_Arrays_fill).room st m args below meth c H locs 0 0 (MQ below (QcV w Q) args st 0 0 (wA w)) (F0 m 5 ls []) := by

  intro y2 y3 σ H locs ls ry2 ry3 hl hW hS h
  unfold wp_Arrays_fill_L5 at h
  refine lv_iload_n X.1 X.2.1 dJ0_fill_5 rfl (lv_at hl 2 rfl) ?_
  refine lv_iload_n X.1 X.2.1 dJ0_fill_6 rfl (lv_at hl 3 rfl) ?_
  refine w_icmp_ge (tgt := 20) X ry2 ry3 dJ0_fill_7 (by decide) (fun hc => ?_) (fun hc => ?_)
  · have h := h.1 hc
    exact wret_V X hr hlk hW hS h dJ0_fill_20
  · have h := h.2 hc
    refine lv_aload_n X.1 X.2.1 dJ0_fill_10 rfl (lv_at hl 0 rfl) ?_
    refine lv_iload_n X.1 X.2.1 dJ0_fill_11 rfl (lv_at hl 2 rfl) ?_
    refine lv_iload_n X.1 X.2.1 dJ0_fill_12 rfl (lv_at hl 1 rfl) ?_
    obtain ⟨bi, h⟩ := h
    refine w_bast (n := (aln (wc w) x0f x0o)) X hT hW hS x0f vx0 nx0 tx0 rfl bi rx1 dJ0_fill_13 (fun H locs hN hS => ?_)
    obtain ⟨σ_7, eσ_7⟩ : ∃ x, x = sA σ x0f x0o y2 x1 := ⟨_, rfl⟩
    have hWσ_7 : Wo w σ_7 H := eσ_7 ▸ hN
    have h := h σ_7 eσ_7
    clear hN
    obtain ⟨y2_8, ey2_8⟩ : ∃ y : Int, y = w32 (y2 + 1) := ⟨_, rfl⟩
    have h := h y2_8 ey2_8
    have ry2_8 : rI y2_8 := by rw [ey2_8]; exact w32_r _
    refine lv_iinc (v := oI y2_8) (lv' := [(2, .int (oI y2_8)), (0, .ref (wad w x0f x0o)), (1, .int (oI x1)), (3, .int (oI y3))]) X.1 X.2.1 dJ0_fill_14 hl (k := 2) rfl (by rw [ey2_8]; exact oI_add _ _) (by decide) (by first | rfl | simp [catK, catI, catR, catL]) (fun ls hl => ?_)
    refine lv_goto (tgt := 5) X.1 X.2.1 dJ0_fill_17 (by decide) ?_
    exact hK5 y2_8 y3 σ_7 _ _ _ ry2_8 ry3 (lv_sub hl [1, 2, 0, 3] rfl) hWσ_7 hS h
theorem wk_Arrays_fill_L5 {p : Program} {l : Launch} {e : Env} {st : State} {m : MethodId} {args : Array Value} {below : List Frame} {meth : Method} {c : Code} {w : Wp} {x0f : Nat} {x0o : Int} {x1 : Int} {Q : St → Prop} (X : CallFix p m c cJ0_fill 4 st args lw_all RJ0) (hr : meth.sig.returnType = none) (hlk : meth.locks = false) (hT : Tb w st) (vx0 : vl w x0f x0o) (nx0 : ¬ x0f < 64) (tx0 : aty x0f = 1) (rx1 : rB x1) : ∀ (y2 y3 : Int) (σ : St) (H : Heap) (locs : List Loc) (ls : Array Slot), rI y2 → rI y3 → lv_has ls 4 [(0, .ref (wad w x0f x0o)), (1, .int (oI x1)), (2, .int (oI y2)), (3, .int (oI y3))] → Wo w σ H → va_S (wA w) st.heap H locs → lQ2 (wp_Arrays_fill_L5 (wc w) (wtv w) x0f x0o x1 Q) y2 y3 σ → W p l e (headSpec (ws_ yJ0_fill cJ0_fill 4 none) rm_Arrays_fill).room st m args below meth c H locs 0 0 (MQ below (QcV w Q) args st 0 0 (wA w)) (F0 m 5 ls []) := by
  intro y2 y3 σ H locs ls ry2 ry3 hl hW hS h
  obtain ⟨fu, h⟩ := h
  induction fu generalizing y2 y3 σ H locs ls with
  | zero => exact h.elim
  | succ fu ih =>
    exact wk_Arrays_fill_L5B X hr hlk hT vx0 nx0 tx0 rx1 (lq2 (wp_Arrays_fill_L5 (wc w) (wtv w) x0f x0o x1 Q) fu) (fun y2 y3 σ H locs ls ry2 ry3 hl hW hS h => ih y2 y3 σ H locs ls ry2 ry3 hl hW hS h) y2 y3 σ H locs ls ry2 ry3 hl hW hS h
set_option maxHeartbeats 4000000 in
set_option maxRecDepth 100000 in
theorem met_Arrays_fill (l : Launch) {w : Wp} (x0f : Nat) (x0o : Int) (x1 : Int) (Q : St → Prop) (σ : St) (vx0 : vl w x0f x0o) (nx0 : ¬ x0f < 64) (tx0 : aty x0f = 1) (rx1 : rB x1) (h : wp_Arrays_fill (wc w) (wtv w) x0f x0o x1 Q σ) : Met l yJ0_fill (ws_ yJ0_fill cJ0_fill 4 none) rm_Arrays_fill (PcW w σ [.ref (wad w x0f x0o), .int (oI x1)]) (QcV w Q) 0 0 (wA w) := by
  refine Met.ofW (cc := cJ0_fill) (maxL := 4) (ret := none) (by decide) rfl ?_
  intro p e st m args below meth c s₁ B hml hv
  obtain ⟨hargs, hW, hT⟩ := hv
  have X : CallFix p m c cJ0_fill 4 st _ lw_all RJ0 := ⟨B.exec, B.bytes, hml, findClass_of_methodNamed B.named, fun w h => atoms_spec (ws := ws_ yJ0_fill cJ0_fill 4 none) B.pre w (List.mem_cons_of_mem _ h)⟩
  have hr := B.returns
  have hlk := B.notSynchronized
  have hS : va_S (wA w) st.heap st.heap [] := va_S.rf
  have hl := lv_entry ([.ref (wad w x0f x0o), .int (oI x1)]) (n := 4) (Nat.le_of_ble_eq_true rfl)
  have hfr := lg_entry_eq m ([.ref (wad w x0f x0o), .int (oI x1)]) 4
  rw [← hargs] at hfr
  rw [hfr]
  generalize (lg_sl ([.ref (wad w x0f x0o), .int (oI x1)]) ++ List.replicate (4 - (lg_sl ([.ref (wad w x0f x0o), .int (oI x1)])).length) Slot.unset).toArray = ls at hl ⊢
  have hl : lv_has ls 4 [(0, .ref (wad w x0f x0o)), (1, .int (oI x1))] := hl
  unfold wp_Arrays_fill at h
  refine lv_iconst (v := oI 0) X.1 X.2.1 dJ0_fill_0 rfl ?_
  refine lv_istore_n (i := 2) (lv' := [(2, .int (oI 0)), (0, .ref (wad w x0f x0o)), (1, .int (oI x1))]) X.1 X.2.1 dJ0_fill_1 rfl hl (by decide) (by first | rfl | simp [catK, catI, catR, catL]) (fun ls hl => ?_)
  refine lv_aload_n X.1 X.2.1 dJ0_fill_2 rfl (lv_at hl 1 rfl) ?_
  refine w_alen (n := (aln (wc w) x0f x0o)) X hT hW x0f vx0 nx0 (by rw [tx0]; decide) rfl dJ0_fill_3 ?_
  refine w_top (fun y3_9 ey3_9 => ?_)
  have h := h y3_9 ey3_9
  have ry3_9 : rI y3_9 := by rw [ey3_9]; exact (aln_r hT.c x0f x0o)
  refine lv_istore_n (i := 3) (lv' := [(3, .int (oI y3_9)), (2, .int (oI 0)), (0, .ref (wad w x0f x0o)), (1, .int (oI x1))]) X.1 X.2.1 dJ0_fill_4 rfl hl (by decide) (by first | rfl | simp [catK, catI, catR, catL]) (fun ls hl => ?_)
  exact wk_Arrays_fill_L5 X hr hlk hT vx0 nx0 tx0 rx1 0 y3_9 σ _ _ _ rZ_0.i ry3_9 (lv_sub hl [2, 3, 1, 0] rfl) hW hS h
/-! House.putInt([BII)V -/
set_option maxHeartbeats 4000000 in
set_option maxRecDepth 100000 in
theorem wk_House_putInt_L2B {p : Program} {l : Launch} {e : Env} {st : State} {m : MethodId} {args : Array Value} {below : List Frame} {meth : Method} {c : Code} {w : Wp} {x0f : Nat} {x0o : Int} {x1 : Int} {x2 : Int} {Q : St → Prop} (X : CallFix p m c cX1_putInt 4 st args lw_all RX1) (hr : meth.sig.returnType = none) (hlk : meth.locks = false) (hT : Tb w st) (vx0 : vl w x0f x0o) (nx0 : ¬ x0f < 64) (tx0 : aty x0f = 1) (rx1 : rI x1) (rx2 : rI x2) (K2 : Int → St → Prop) (hK2 : ∀ (y3 : Int) (σ : St) (H : Heap) (locs : List Loc) (ls : Array Slot), rI y3 → lv_has ls 4 [(0, .ref (wad w x0f x0o)), (1, .int (oI x1)), (2, .int (oI x2)), (3, .int (oI y3))] → Wo w σ H → va_S (wA w) st.heap H locs → K2 y3 σ → W p l e (headSpec (ws_ yX1_putInt cX1_putInt 4 none) rm_House_putInt).room st m args below meth c H locs 0 0 (MQ below (QcV w Q) args st 0 0 (wA w)) (F0 m 2 ls [])) : ∀ (y3 : Int) (σ : St) (H : Heap) (locs : List Loc) (ls : Array Slot), rI y3 → lv_has ls 4 [(0, .ref (wad w x0f x0o)), (1, .int (oI x1)), (2, .int (oI x2)), (3, .int (oI y3))] → Wo w σ H → va_S (wA w) st.heap H locs → wp_House_putInt_L2 (wc w) (wtv w) x0f x0o x1 x2 Q K2 y3 σ → W p l e (headSpec (ws_ yX1_putInt cX1_putInt 4 none) rm_House_putInt).room st m args below meth c H locs 0 0 (MQ below (QcV w Q) args st 0 0 (wA w)) (F0 m 2 ls []) := by

  intro y3 σ H locs ls ry3 hl hW hS h
  unfold wp_House_putInt_L2 at h
  refine lv_iload_n X.1 X.2.1 dX1_putInt_2 rfl (lv_at hl 3 rfl) ?_
  refine lv_iconst (v := oI 4) X.1 X.2.1 dX1_putInt_3 rfl ?_
  refine w_icmp_ge (tgt := 25) X ry3 ((rB_lit 4 (by decide)).i) dX1_putInt_4 (by decide) (fun hc => ?_) (fun hc => ?_)
  · have h := h.1 hc
    exact wret_V X hr hlk hW hS h dX1_putInt_25
  · have h := h.2 hc
    refine lv_aload_n X.1 X.2.1 dX1_putInt_7 rfl (lv_at hl 0 rfl) ?_
    refine lv_iload_n X.1 X.2.1 dX1_putInt_8 rfl (lv_at hl 1 rfl) ?_
    refine lv_iload_n X.1 X.2.1 dX1_putInt_9 rfl (lv_at hl 3 rfl) ?_
    refine w_iadd X dX1_putInt_10 ?_
    refine lv_iload_n X.1 X.2.1 dX1_putInt_11 rfl (lv_at hl 2 rfl) ?_
    refine lv_bipush (v := oI 8) X.1 X.2.1 dX1_putInt_12 (by decide) ?_
    refine lv_iload_n X.1 X.2.1 dX1_putInt_14 rfl (lv_at hl 3 rfl) ?_
    refine w_imul X dX1_putInt_15 ?_
    refine w_iushr X dX1_putInt_16 ?_
    refine w_i2b X dX1_putInt_17 ?_
    obtain ⟨bi, h⟩ := h
    refine w_bast (n := (aln (wc w) x0f x0o)) X hT hW hS x0f vx0 nx0 tx0 rfl bi (b8_r _) dX1_putInt_18 (fun H locs hN hS => ?_)
    obtain ⟨σ_5, eσ_5⟩ : ∃ x, x = sA σ x0f x0o (w32 (x1 + y3)) (b8 (iushr x2 (w32 (8 * y3)))) := ⟨_, rfl⟩
    have hWσ_5 : Wo w σ_5 H := eσ_5 ▸ hN
    have h := h σ_5 eσ_5
    clear hN
    obtain ⟨y3_6, ey3_6⟩ : ∃ y : Int, y = w32 (y3 + 1) := ⟨_, rfl⟩
    have h := h y3_6 ey3_6
    have ry3_6 : rI y3_6 := by rw [ey3_6]; exact w32_r _
    refine lv_iinc (v := oI y3_6) (lv' := [(3, .int (oI y3_6)), (0, .ref (wad w x0f x0o)), (1, .int (oI x1)), (2, .int (oI x2))]) X.1 X.2.1 dX1_putInt_19 hl (k := 3) rfl (by rw [ey3_6]; exact oI_add _ _) (by decide) (by first | rfl | simp [catK, catI, catR, catL]) (fun ls hl => ?_)
    refine lv_goto (tgt := 2) X.1 X.2.1 dX1_putInt_22 (by decide) ?_
    exact hK2 y3_6 σ_5 _ _ _ ry3_6 (lv_sub hl [1, 2, 3, 0] rfl) hWσ_5 hS h
theorem wk_House_putInt_L2 {p : Program} {l : Launch} {e : Env} {st : State} {m : MethodId} {args : Array Value} {below : List Frame} {meth : Method} {c : Code} {w : Wp} {x0f : Nat} {x0o : Int} {x1 : Int} {x2 : Int} {Q : St → Prop} (X : CallFix p m c cX1_putInt 4 st args lw_all RX1) (hr : meth.sig.returnType = none) (hlk : meth.locks = false) (hT : Tb w st) (vx0 : vl w x0f x0o) (nx0 : ¬ x0f < 64) (tx0 : aty x0f = 1) (rx1 : rI x1) (rx2 : rI x2) : ∀ (y3 : Int) (σ : St) (H : Heap) (locs : List Loc) (ls : Array Slot), rI y3 → lv_has ls 4 [(0, .ref (wad w x0f x0o)), (1, .int (oI x1)), (2, .int (oI x2)), (3, .int (oI y3))] → Wo w σ H → va_S (wA w) st.heap H locs → lQ1 (wp_House_putInt_L2 (wc w) (wtv w) x0f x0o x1 x2 Q) y3 σ → W p l e (headSpec (ws_ yX1_putInt cX1_putInt 4 none) rm_House_putInt).room st m args below meth c H locs 0 0 (MQ below (QcV w Q) args st 0 0 (wA w)) (F0 m 2 ls []) := by
  intro y3 σ H locs ls ry3 hl hW hS h
  obtain ⟨fu, h⟩ := h
  induction fu generalizing y3 σ H locs ls with
  | zero => exact h.elim
  | succ fu ih =>
    exact wk_House_putInt_L2B X hr hlk hT vx0 nx0 tx0 rx1 rx2 (lq1 (wp_House_putInt_L2 (wc w) (wtv w) x0f x0o x1 x2 Q) fu) (fun y3 σ H locs ls ry3 hl hW hS h => ih y3 σ H locs ls ry3 hl hW hS h) y3 σ H locs ls ry3 hl hW hS h
set_option maxHeartbeats 4000000 in
set_option maxRecDepth 100000 in
theorem met_House_putInt (l : Launch) {w : Wp} (x0f : Nat) (x0o : Int) (x1 : Int) (x2 : Int) (Q : St → Prop) (σ : St) (vx0 : vl w x0f x0o) (nx0 : ¬ x0f < 64) (tx0 : aty x0f = 1) (rx1 : rI x1) (rx2 : rI x2) (h : wp_House_putInt (wc w) (wtv w) x0f x0o x1 x2 Q σ) : Met l yX1_putInt (ws_ yX1_putInt cX1_putInt 4 none) rm_House_putInt (PcW w σ [.ref (wad w x0f x0o), .int (oI x1), .int (oI x2)]) (QcV w Q) 0 0 (wA w) := by
  refine Met.ofW (cc := cX1_putInt) (maxL := 4) (ret := none) (by decide) rfl ?_
  intro p e st m args below meth c s₁ B hml hv
  obtain ⟨hargs, hW, hT⟩ := hv
  have X : CallFix p m c cX1_putInt 4 st _ lw_all RX1 := ⟨B.exec, B.bytes, hml, findClass_of_methodNamed B.named, fun w h => atoms_spec (ws := ws_ yX1_putInt cX1_putInt 4 none) B.pre w (List.mem_cons_of_mem _ h)⟩
  have hr := B.returns
  have hlk := B.notSynchronized
  have hS : va_S (wA w) st.heap st.heap [] := va_S.rf
  have hl := lv_entry ([.ref (wad w x0f x0o), .int (oI x1), .int (oI x2)]) (n := 4) (Nat.le_of_ble_eq_true rfl)
  have hfr := lg_entry_eq m ([.ref (wad w x0f x0o), .int (oI x1), .int (oI x2)]) 4
  rw [← hargs] at hfr
  rw [hfr]
  generalize (lg_sl ([.ref (wad w x0f x0o), .int (oI x1), .int (oI x2)]) ++ List.replicate (4 - (lg_sl ([.ref (wad w x0f x0o), .int (oI x1), .int (oI x2)])).length) Slot.unset).toArray = ls at hl ⊢
  have hl : lv_has ls 4 [(0, .ref (wad w x0f x0o)), (1, .int (oI x1)), (2, .int (oI x2))] := hl
  unfold wp_House_putInt at h
  refine lv_iconst (v := oI 0) X.1 X.2.1 dX1_putInt_0 rfl ?_
  refine lv_istore_n (i := 3) (lv' := [(3, .int (oI 0)), (0, .ref (wad w x0f x0o)), (1, .int (oI x1)), (2, .int (oI x2))]) X.1 X.2.1 dX1_putInt_1 rfl hl (by decide) (by first | rfl | simp [catK, catI, catR, catL]) (fun ls hl => ?_)
  exact wk_House_putInt_L2 X hr hlk hT vx0 nx0 tx0 rx1 rx2 0 σ _ _ _ rZ_0.i (lv_sub hl [1, 2, 3, 0] rfl) hW hS h
/-! House.check(I[BII)I -/
set_option maxHeartbeats 4000000 in
set_option maxRecDepth 100000 in
theorem wk_House_check_L6B {p : Program} {l : Launch} {e : Env} {st : State} {m : MethodId} {args : Array Value} {below : List Frame} {meth : Method} {c : Code} {w : Wp} {x0 : Int} {x1f : Nat} {x1o : Int} {x2 : Int} {x3 : Int} {Q : Int → St → Prop} (X : CallFix p m c cX1_check 6 st args lw_all RX1) (hr : meth.sig.returnType = (some .int)) (hlk : meth.locks = false) (hT : Tb w st) (rx0 : rI x0) (vx1 : vl w x1f x1o) (nx1 : ¬ x1f < 64) (tx1 : aty x1f = 1) (rx2 : rI x2) (rx3 : rI x3) (K6 : Int → Int → St → Prop) (hK6 : ∀ (y4 y5 : Int) (σ : St) (H : Heap) (locs : List Loc) (ls : Array Slot), rI y4 → rI y5 → lv_has ls 6 [(1, .ref (wad w x1f x1o)), (2, .int (oI x2)), (3, .int (oI x3)), (4, .int (oI y4)), (5, .int (oI y5))] → Wo w σ H → va_S (wA w) st.heap H locs → K6 y4 y5 σ → W p l e (headSpec (ws_ yX1_check cX1_check 6 (some .int)) rm_House_check).room st m args below meth c H locs 0 0 (MQ below (QcI w Q) args st 0 0 (wA w)) (F0 m 6 ls [])) : ∀ (y4 y5 : Int) (σ : St) (H : Heap) (locs : List Loc) (ls : Array Slot), rI y4 → rI y5 → lv_has ls 6 [(1, .ref (wad w x1f x1o)), (2, .int (oI x2)), (3, .int (oI x3)), (4, .int (oI y4)), (5, .int (oI y5))] → Wo w σ H → va_S (wA w) st.heap H locs → wp_House_check_L6 (wc w) (wtv w) x0 x1f x1o x2 x3 Q K6 y4 y5 σ → W p l e (headSpec (ws_ yX1_check cX1_check 6 (some .int)) rm_House_check).room st m args below meth c H locs 0 0 (MQ below (QcI w Q) args st 0 0 (wA w)) (F0 m 6 ls []) := by

  intro y4 y5 σ H locs ls ry4 ry5 hl hW hS h
  unfold wp_House_check_L6 at h
  refine lv_iload X.1 X.2.1 dX1_check_6 (lv_at hl 4 rfl) ?_
  refine lv_iload_n X.1 X.2.1 dX1_check_8 rfl (lv_at hl 1 rfl) ?_
  refine lv_iload_n X.1 X.2.1 dX1_check_9 rfl (lv_at hl 2 rfl) ?_
  refine w_iadd X dX1_check_10 ?_
  refine w_icmp_ge (tgt := 43) X ry5 (w32_r _) dX1_check_11 (by decide) (fun hc => ?_) (fun hc => ?_)
  · have h := h.1 hc
    refine lv_iload X.1 X.2.1 dX1_check_43 (lv_at hl 3 rfl) ?_
    exact wret_I X hr hlk hW hS ry4 h dX1_check_45
  · have h := h.2 hc
    refine lv_iload X.1 X.2.1 dX1_check_14 (lv_at hl 3 rfl) ?_
    refine lv_bipush (v := oI 8) X.1 X.2.1 dX1_check_16 (by decide) ?_
    refine w_iushr X dX1_check_18 ?_
    refine w_turns X hT hS q691 dX1_check_19 ?_
    refine lv_iload X.1 X.2.1 dX1_check_22 (lv_at hl 3 rfl) ?_
    refine lv_aload_n X.1 X.2.1 dX1_check_24 rfl (lv_at hl 0 rfl) ?_
    refine lv_iload X.1 X.2.1 dX1_check_25 (lv_at hl 4 rfl) ?_
    obtain ⟨bi, h⟩ := h
    refine w_bald (n := (aln (wc w) x1f x1o)) X hT hW x1f vx1 nx1 tx1 rfl bi dX1_check_27 ?_
    refine w_ixor X dX1_check_28 ?_
    refine lv_sipush (v := oI 255) X.1 X.2.1 dX1_check_29 (by decide) ?_
    refine w_iand X dX1_check_32 ?_
    obtain ⟨bi, h⟩ := h
    refine w_tald X hT hS bi dX1_check_33 ?_
    refine w_ixor X dX1_check_34 ?_
    refine w_top (fun y4_3 ey4_3 => ?_)
    have h := h y4_3 ey4_3
    have ry4_3 : rI y4_3 := by rw [ey4_3]; exact (ixor_r _ _)
    refine lv_istore (i := 4) (lv' := [(4, .int (oI y4_3)), (1, .ref (wad w x1f x1o)), (2, .int (oI x2)), (3, .int (oI x3)), (5, .int (oI y5))]) X.1 X.2.1 dX1_check_35 hl (by decide) (by first | rfl | simp [catK, catI, catR, catL]) (fun ls hl => ?_)
    obtain ⟨y5_4, ey5_4⟩ : ∃ y : Int, y = w32 (y5 + 1) := ⟨_, rfl⟩
    have h := h y5_4 ey5_4
    have ry5_4 : rI y5_4 := by rw [ey5_4]; exact w32_r _
    refine lv_iinc (v := oI y5_4) (lv' := [(5, .int (oI y5_4)), (4, .int (oI y4_3)), (1, .ref (wad w x1f x1o)), (2, .int (oI x2)), (3, .int (oI x3))]) X.1 X.2.1 dX1_check_37 hl (k := 4) rfl (by rw [ey5_4]; exact oI_add _ _) (by decide) (by first | rfl | simp [catK, catI, catR, catL]) (fun ls hl => ?_)
    refine lv_goto (tgt := 6) X.1 X.2.1 dX1_check_40 (by decide) ?_
    exact hK6 y4_3 y5_4 σ _ _ _ ry4_3 ry5_4 (lv_sub hl [2, 3, 4, 1, 0] rfl) hW hS h
theorem wk_House_check_L6 {p : Program} {l : Launch} {e : Env} {st : State} {m : MethodId} {args : Array Value} {below : List Frame} {meth : Method} {c : Code} {w : Wp} {x0 : Int} {x1f : Nat} {x1o : Int} {x2 : Int} {x3 : Int} {Q : Int → St → Prop} (X : CallFix p m c cX1_check 6 st args lw_all RX1) (hr : meth.sig.returnType = (some .int)) (hlk : meth.locks = false) (hT : Tb w st) (rx0 : rI x0) (vx1 : vl w x1f x1o) (nx1 : ¬ x1f < 64) (tx1 : aty x1f = 1) (rx2 : rI x2) (rx3 : rI x3) : ∀ (y4 y5 : Int) (σ : St) (H : Heap) (locs : List Loc) (ls : Array Slot), rI y4 → rI y5 → lv_has ls 6 [(1, .ref (wad w x1f x1o)), (2, .int (oI x2)), (3, .int (oI x3)), (4, .int (oI y4)), (5, .int (oI y5))] → Wo w σ H → va_S (wA w) st.heap H locs → lQ2 (wp_House_check_L6 (wc w) (wtv w) x0 x1f x1o x2 x3 Q) y4 y5 σ → W p l e (headSpec (ws_ yX1_check cX1_check 6 (some .int)) rm_House_check).room st m args below meth c H locs 0 0 (MQ below (QcI w Q) args st 0 0 (wA w)) (F0 m 6 ls []) := by
  intro y4 y5 σ H locs ls ry4 ry5 hl hW hS h
  obtain ⟨fu, h⟩ := h
  induction fu generalizing y4 y5 σ H locs ls with
  | zero => exact h.elim
  | succ fu ih =>
    exact wk_House_check_L6B X hr hlk hT rx0 vx1 nx1 tx1 rx2 rx3 (lq2 (wp_House_check_L6 (wc w) (wtv w) x0 x1f x1o x2 x3 Q) fu) (fun y4 y5 σ H locs ls ry4 ry5 hl hW hS h => ih y4 y5 σ H locs ls ry4 ry5 hl hW hS h) y4 y5 σ H locs ls ry4 ry5 hl hW hS h
set_option maxHeartbeats 4000000 in
set_option maxRecDepth 100000 in
theorem met_House_check (l : Launch) {w : Wp} (x0 : Int) (x1f : Nat) (x1o : Int) (x2 : Int) (x3 : Int) (Q : Int → St → Prop) (σ : St) (rx0 : rI x0) (vx1 : vl w x1f x1o) (nx1 : ¬ x1f < 64) (tx1 : aty x1f = 1) (rx2 : rI x2) (rx3 : rI x3) (h : wp_House_check (wc w) (wtv w) x0 x1f x1o x2 x3 Q σ) : Met l yX1_check (ws_ yX1_check cX1_check 6 (some .int)) rm_House_check (PcW w σ [.int (oI x0), .ref (wad w x1f x1o), .int (oI x2), .int (oI x3)]) (QcI w Q) 0 0 (wA w) := by
  refine Met.ofW (cc := cX1_check) (maxL := 6) (ret := (some .int)) (by decide) rfl ?_
  intro p e st m args below meth c s₁ B hml hv
  obtain ⟨hargs, hW, hT⟩ := hv
  have X : CallFix p m c cX1_check 6 st _ lw_all RX1 := ⟨B.exec, B.bytes, hml, findClass_of_methodNamed B.named, fun w h => atoms_spec (ws := ws_ yX1_check cX1_check 6 (some .int)) B.pre w (List.mem_cons_of_mem _ h)⟩
  have hr := B.returns
  have hlk := B.notSynchronized
  have hS : va_S (wA w) st.heap st.heap [] := va_S.rf
  have hl := lv_entry ([.int (oI x0), .ref (wad w x1f x1o), .int (oI x2), .int (oI x3)]) (n := 6) (Nat.le_of_ble_eq_true rfl)
  have hfr := lg_entry_eq m ([.int (oI x0), .ref (wad w x1f x1o), .int (oI x2), .int (oI x3)]) 6
  rw [← hargs] at hfr
  rw [hfr]
  generalize (lg_sl ([.int (oI x0), .ref (wad w x1f x1o), .int (oI x2), .int (oI x3)]) ++ List.replicate (6 - (lg_sl ([.int (oI x0), .ref (wad w x1f x1o), .int (oI x2), .int (oI x3)])).length) Slot.unset).toArray = ls at hl ⊢
  have hl : lv_has ls 6 [(0, .int (oI x0)), (1, .ref (wad w x1f x1o)), (2, .int (oI x2)), (3, .int (oI x3))] := hl
  unfold wp_House_check at h
  refine lv_iload_n X.1 X.2.1 dX1_check_0 rfl (lv_at hl 0 rfl) ?_
  refine lv_istore (i := 4) (lv' := [(4, .int (oI x0)), (0, .int (oI x0)), (1, .ref (wad w x1f x1o)), (2, .int (oI x2)), (3, .int (oI x3))]) X.1 X.2.1 dX1_check_1 hl (by decide) (by first | rfl | simp [catK, catI, catR, catL]) (fun ls hl => ?_)
  refine lv_iload_n X.1 X.2.1 dX1_check_3 rfl (lv_at hl 3 rfl) ?_
  refine lv_istore (i := 5) (lv' := [(5, .int (oI x2)), (4, .int (oI x0)), (0, .int (oI x0)), (1, .ref (wad w x1f x1o)), (2, .int (oI x2)), (3, .int (oI x3))]) X.1 X.2.1 dX1_check_4 hl (by decide) (by first | rfl | simp [catK, catI, catR, catL]) (fun ls hl => ?_)
  exact wk_House_check_L6 X hr hlk hT rx0 vx1 nx1 tx1 rx2 rx3 x0 x2 σ _ _ _ rx0 rx2 (lv_sub hl [3, 4, 5, 1, 0] rfl) hW hS h
/-! Flash.guard([BI)I -/
set_option maxHeartbeats 4000000 in
set_option maxRecDepth 100000 in
theorem wk_Flash_guard_b63 {p : Program} {l : Launch} {e : Env} {st : State} {m : MethodId} {args : Array Value} {below : List Frame} {meth : Method} {c : Code} {w : Wp} {x1f : Nat} {x1o : Int} {x2 : Int} {Q : Int → St → Prop} (X : CallFix p m c cX4_guard 8 st args lw_all RX4) (hr : meth.sig.returnType = (some .int)) (hlk : meth.locks = false) (hT : Tb w st) (hV : Hvl w) (vx1 : vl w x1f x1o) (nx1 : ¬ x1f < 64) (tx1 : aty x1f = 1) (rx2 : rI x2) (K31 : Int → Int → Int → Int → Int → St → Prop) (hK31 : ∀ (y3 y4 y5 y6 y7 : Int) (σ : St) (H : Heap) (locs : List Loc) (ls : Array Slot), rI y3 → rZ y4 → rI y5 → rI y6 → rI y7 → lv_has ls 8 [(1, .ref (wad w x1f x1o)), (2, .int (oI x2)), (3, .int (oI y3)), (4, .int (oI y4)), (5, .int (oI y5)), (6, .int (oI y6)), (7, .int (oI y7))] → Wo w σ H → va_S (wA w) st.heap H locs → K31 y3 y4 y5 y6 y7 σ → W p l e (headSpec (ws_ yX4_guard cX4_guard 8 (some .int)) rm_Flash_guard).room st m args below meth c H locs 0 0 (MQ below (QcI w Q) args st 0 0 (wA w)) (F0 m 31 ls [])) : ∀ (y3 y4 y5 y6 y7 : Int) (σ : St) (H : Heap) (locs : List Loc) (ls : Array Slot), rI y3 → rZ y4 → rI y5 → rI y6 → rI y7 → lv_has ls 8 [(1, .ref (wad w x1f x1o)), (2, .int (oI x2)), (3, .int (oI y3)), (4, .int (oI y4)), (5, .int (oI y5)), (6, .int (oI y6)), (7, .int (oI y7))] → Wo w σ H → va_S (wA w) st.heap H locs → wp_Flash_guard_b63 (wc w) (wtv w) x1f x1o x2 Q K31 y3 y4 y5 y6 y7 σ → W p l e (headSpec (ws_ yX4_guard cX4_guard 8 (some .int)) rm_Flash_guard).room st m args below meth c H locs 0 0 (MQ below (QcI w Q) args st 0 0 (wA w)) (F0 m 63 ls []) := by

  intro y3 y4 y5 y6 y7 σ H locs ls ry3 ry4 ry5 ry6 ry7 hl hW hS h
  unfold wp_Flash_guard_b63 at h
  obtain ⟨y7_19, ey7_19⟩ : ∃ y : Int, y = w32 (y7 + 1) := ⟨_, rfl⟩
  have h := h y7_19 ey7_19
  have ry7_19 : rI y7_19 := by rw [ey7_19]; exact w32_r _
  refine lv_iinc (v := oI y7_19) (lv' := [(7, .int (oI y7_19)), (1, .ref (wad w x1f x1o)), (2, .int (oI x2)), (3, .int (oI y3)), (4, .int (oI y4)), (5, .int (oI y5)), (6, .int (oI y6))]) X.1 X.2.1 dX4_guard_63 hl (k := 6) rfl (by rw [ey7_19]; exact oI_add _ _) (by decide) (by first | rfl | simp [catK, catI, catR, catL]) (fun ls hl => ?_)
  refine lv_iload X.1 X.2.1 dX4_guard_66 (lv_at hl 6 rfl) ?_
  refine lv_iconst (v := oI 1) X.1 X.2.1 dX4_guard_68 rfl ?_
  refine w_ishr X dX4_guard_69 ?_
  refine w_top (fun y6_20 ey6_20 => ?_)
  have h := h y6_20 ey6_20
  have ry6_20 : rI y6_20 := by rw [ey6_20]; exact (ishr_r _ _)
  refine lv_istore (i := 6) (lv' := [(6, .int (oI y6_20)), (7, .int (oI y7_19)), (1, .ref (wad w x1f x1o)), (2, .int (oI x2)), (3, .int (oI y3)), (4, .int (oI y4)), (5, .int (oI y5))]) X.1 X.2.1 dX4_guard_70 hl (by decide) (by first | rfl | simp [catK, catI, catR, catL]) (fun ls hl => ?_)
  refine lv_goto (tgt := 31) X.1 X.2.1 dX4_guard_72 (by decide) ?_
  exact hK31 y3 y4 y5 y6_20 y7_19 σ _ _ _ ry3 ry4 ry5 ry6_20 ry7_19 (lv_sub hl [2, 3, 4, 5, 6, 0, 1] rfl) hW hS h
set_option maxHeartbeats 4000000 in
set_option maxRecDepth 100000 in
theorem wk_Flash_guard_L31B {p : Program} {l : Launch} {e : Env} {st : State} {m : MethodId} {args : Array Value} {below : List Frame} {meth : Method} {c : Code} {w : Wp} {x1f : Nat} {x1o : Int} {x2 : Int} {Q : Int → St → Prop} (X : CallFix p m c cX4_guard 8 st args lw_all RX4) (hr : meth.sig.returnType = (some .int)) (hlk : meth.locks = false) (hT : Tb w st) (hV : Hvl w) (vx1 : vl w x1f x1o) (nx1 : ¬ x1f < 64) (tx1 : aty x1f = 1) (rx2 : rI x2) (K8 : Int → Int → Int → St → Prop) (K31 : Int → Int → Int → Int → Int → St → Prop) (hK8 : ∀ (y3 y4 y5 : Int) (σ : St) (H : Heap) (locs : List Loc) (ls : Array Slot), rI y3 → rZ y4 → rI y5 → lv_has ls 8 [(1, .ref (wad w x1f x1o)), (2, .int (oI x2)), (3, .int (oI y3)), (4, .int (oI y4)), (5, .int (oI y5))] → Wo w σ H → va_S (wA w) st.heap H locs → K8 y3 y4 y5 σ → W p l e (headSpec (ws_ yX4_guard cX4_guard 8 (some .int)) rm_Flash_guard).room st m args below meth c H locs 0 0 (MQ below (QcI w Q) args st 0 0 (wA w)) (F0 m 8 ls [])) (hK31 : ∀ (y3 y4 y5 y6 y7 : Int) (σ : St) (H : Heap) (locs : List Loc) (ls : Array Slot), rI y3 → rZ y4 → rI y5 → rI y6 → rI y7 → lv_has ls 8 [(1, .ref (wad w x1f x1o)), (2, .int (oI x2)), (3, .int (oI y3)), (4, .int (oI y4)), (5, .int (oI y5)), (6, .int (oI y6)), (7, .int (oI y7))] → Wo w σ H → va_S (wA w) st.heap H locs → K31 y3 y4 y5 y6 y7 σ → W p l e (headSpec (ws_ yX4_guard cX4_guard 8 (some .int)) rm_Flash_guard).room st m args below meth c H locs 0 0 (MQ below (QcI w Q) args st 0 0 (wA w)) (F0 m 31 ls [])) : ∀ (y3 y4 y5 y6 y7 : Int) (σ : St) (H : Heap) (locs : List Loc) (ls : Array Slot), rI y3 → rZ y4 → rI y5 → rI y6 → rI y7 → lv_has ls 8 [(1, .ref (wad w x1f x1o)), (2, .int (oI x2)), (3, .int (oI y3)), (4, .int (oI y4)), (5, .int (oI y5)), (6, .int (oI y6)), (7, .int (oI y7))] → Wo w σ H → va_S (wA w) st.heap H locs → wp_Flash_guard_L31 (wc w) (wtv w) x1f x1o x2 Q K8 K31 y3 y4 y5 y6 y7 σ → W p l e (headSpec (ws_ yX4_guard cX4_guard 8 (some .int)) rm_Flash_guard).room st m args below meth c H locs 0 0 (MQ below (QcI w Q) args st 0 0 (wA w)) (F0 m 31 ls []) := by

  intro y3 y4 y5 y6 y7 σ H locs ls ry3 ry4 ry5 ry6 ry7 hl hW hS h
  unfold wp_Flash_guard_L31 at h
  refine lv_iload X.1 X.2.1 dX4_guard_31 (lv_at hl 5 rfl) ?_
  refine w_if_eq (tgt := 75) X ry6 dX4_guard_33 (by decide) (fun hc => ?_) (fun hc => ?_)
  · have h := h.1 hc
    obtain ⟨y5_21, ey5_21⟩ : ∃ y : Int, y = w32 (y5 + 1) := ⟨_, rfl⟩
    have h := h y5_21 ey5_21
    have ry5_21 : rI y5_21 := by rw [ey5_21]; exact w32_r _
    refine lv_iinc (v := oI y5_21) (lv' := [(5, .int (oI y5_21)), (1, .ref (wad w x1f x1o)), (2, .int (oI x2)), (3, .int (oI y3)), (4, .int (oI y4)), (6, .int (oI y6)), (7, .int (oI y7))]) X.1 X.2.1 dX4_guard_75 hl (k := 4) rfl (by rw [ey5_21]; exact oI_add _ _) (by decide) (by first | rfl | simp [catK, catI, catR, catL]) (fun ls hl => ?_)
    refine lv_goto (tgt := 8) X.1 X.2.1 dX4_guard_78 (by decide) ?_
    exact hK8 y3 y4 y5_21 σ _ _ _ ry3 ry4 ry5_21 (lv_sub hl [1, 2, 3, 4, 0] rfl) hW hS h
  · have h := h.2 hc
    refine lv_iload X.1 X.2.1 dX4_guard_36 (lv_at hl 5 rfl) ?_
    refine lv_iconst (v := oI 1) X.1 X.2.1 dX4_guard_38 rfl ?_
    refine w_iand X dX4_guard_39 ?_
    refine lv_iconst (v := oI 1) X.1 X.2.1 dX4_guard_40 rfl ?_
    refine w_icmp_ne (tgt := 63) X (iand_r _ _) rZ_1.i dX4_guard_41 (by decide) (fun hc => ?_) (fun hc => ?_)
    · have h := h.1 hc
      exact wk_Flash_guard_b63 X hr hlk hT hV vx1 nx1 tx1 rx2 K31 hK31 y3 y4 y5 y6 y7 σ _ _ _ ry3 ry4 ry5 ry6 ry7 (lv_sub hl [0, 1, 2, 3, 4, 5, 6] rfl) hW hS h
    · have h := h.2 hc
      refine lv_iload_n X.1 X.2.1 dX4_guard_44 rfl (lv_at hl 2 rfl) ?_
      refine lv_bipush (v := oI 8) X.1 X.2.1 dX4_guard_45 (by decide) ?_
      refine lv_iload X.1 X.2.1 dX4_guard_47 (lv_at hl 4 rfl) ?_
      refine w_imul X dX4_guard_49 ?_
      refine lv_iload X.1 X.2.1 dX4_guard_50 (lv_at hl 6 rfl) ?_
      refine w_iadd X dX4_guard_52 ?_
      refine lv_iconst (v := oI 1) X.1 X.2.1 dX4_guard_53 rfl ?_
      refine w_iadd X dX4_guard_54 ?_
      refine w_ixor X dX4_guard_55 ?_
      refine w_top (fun y3_22 ey3_22 => ?_)
      have h := h y3_22 ey3_22
      have ry3_22 : rI y3_22 := by rw [ey3_22]; exact (ixor_r _ _)
      refine lv_istore_n (i := 3) (lv' := [(3, .int (oI y3_22)), (1, .ref (wad w x1f x1o)), (2, .int (oI x2)), (4, .int (oI y4)), (5, .int (oI y5)), (6, .int (oI y6)), (7, .int (oI y7))]) X.1 X.2.1 dX4_guard_56 rfl hl (by decide) (by first | rfl | simp [catK, catI, catR, catL]) (fun ls hl => ?_)
      refine lv_iload X.1 X.2.1 dX4_guard_57 (lv_at hl 3 rfl) ?_
      refine lv_iconst (v := oI 1) X.1 X.2.1 dX4_guard_59 rfl ?_
      refine w_ixor X dX4_guard_60 ?_
      refine w_top (fun y4_23 ey4_23 => ?_)
      have h := h y4_23 ey4_23
      have ry4_23 : rZ y4_23 := by rw [ey4_23]; exact (ixor_Z ry4 rZ_1)
      refine lv_istore (i := 4) (lv' := [(4, .int (oI y4_23)), (3, .int (oI y3_22)), (1, .ref (wad w x1f x1o)), (2, .int (oI x2)), (5, .int (oI y5)), (6, .int (oI y6)), (7, .int (oI y7))]) X.1 X.2.1 dX4_guard_61 hl (by decide) (by first | rfl | simp [catK, catI, catR, catL]) (fun ls hl => ?_)
      exact wk_Flash_guard_b63 X hr hlk hT hV vx1 nx1 tx1 rx2 K31 hK31 y3_22 y4_23 y5 y6 y7 σ _ _ _ ry3_22 ry4_23 ry5 ry6 ry7 (lv_sub hl [2, 3, 1, 0, 4, 5, 6] rfl) hW hS h
theorem wk_Flash_guard_L31 {p : Program} {l : Launch} {e : Env} {st : State} {m : MethodId} {args : Array Value} {below : List Frame} {meth : Method} {c : Code} {w : Wp} {x1f : Nat} {x1o : Int} {x2 : Int} {Q : Int → St → Prop} (X : CallFix p m c cX4_guard 8 st args lw_all RX4) (hr : meth.sig.returnType = (some .int)) (hlk : meth.locks = false) (hT : Tb w st) (hV : Hvl w) (vx1 : vl w x1f x1o) (nx1 : ¬ x1f < 64) (tx1 : aty x1f = 1) (rx2 : rI x2) (K8 : Int → Int → Int → St → Prop) (hK8 : ∀ (y3 y4 y5 : Int) (σ : St) (H : Heap) (locs : List Loc) (ls : Array Slot), rI y3 → rZ y4 → rI y5 → lv_has ls 8 [(1, .ref (wad w x1f x1o)), (2, .int (oI x2)), (3, .int (oI y3)), (4, .int (oI y4)), (5, .int (oI y5))] → Wo w σ H → va_S (wA w) st.heap H locs → K8 y3 y4 y5 σ → W p l e (headSpec (ws_ yX4_guard cX4_guard 8 (some .int)) rm_Flash_guard).room st m args below meth c H locs 0 0 (MQ below (QcI w Q) args st 0 0 (wA w)) (F0 m 8 ls [])) : ∀ (y3 y4 y5 y6 y7 : Int) (σ : St) (H : Heap) (locs : List Loc) (ls : Array Slot), rI y3 → rZ y4 → rI y5 → rI y6 → rI y7 → lv_has ls 8 [(1, .ref (wad w x1f x1o)), (2, .int (oI x2)), (3, .int (oI y3)), (4, .int (oI y4)), (5, .int (oI y5)), (6, .int (oI y6)), (7, .int (oI y7))] → Wo w σ H → va_S (wA w) st.heap H locs → lQ5 (wp_Flash_guard_L31 (wc w) (wtv w) x1f x1o x2 Q K8) y3 y4 y5 y6 y7 σ → W p l e (headSpec (ws_ yX4_guard cX4_guard 8 (some .int)) rm_Flash_guard).room st m args below meth c H locs 0 0 (MQ below (QcI w Q) args st 0 0 (wA w)) (F0 m 31 ls []) := by
  intro y3 y4 y5 y6 y7 σ H locs ls ry3 ry4 ry5 ry6 ry7 hl hW hS h
  obtain ⟨fu, h⟩ := h
  induction fu generalizing y3 y4 y5 y6 y7 σ H locs ls with
  | zero => exact h.elim
  | succ fu ih =>
    exact wk_Flash_guard_L31B X hr hlk hT hV vx1 nx1 tx1 rx2 K8 (lq5 (wp_Flash_guard_L31 (wc w) (wtv w) x1f x1o x2 Q K8) fu) hK8 (fun y3 y4 y5 y6 y7 σ H locs ls ry3 ry4 ry5 ry6 ry7 hl hW hS h => ih y3 y4 y5 y6 y7 σ H locs ls ry3 ry4 ry5 ry6 ry7 hl hW hS h) y3 y4 y5 y6 y7 σ H locs ls ry3 ry4 ry5 ry6 ry7 hl hW hS h
set_option maxHeartbeats 4000000 in
set_option maxRecDepth 100000 in
theorem wk_Flash_guard_L8B {p : Program} {l : Launch} {e : Env} {st : State} {m : MethodId} {args : Array Value} {below : List Frame} {meth : Method} {c : Code} {w : Wp} {x1f : Nat} {x1o : Int} {x2 : Int} {Q : Int → St → Prop} (X : CallFix p m c cX4_guard 8 st args lw_all RX4) (hr : meth.sig.returnType = (some .int)) (hlk : meth.locks = false) (hT : Tb w st) (hV : Hvl w) (vx1 : vl w x1f x1o) (nx1 : ¬ x1f < 64) (tx1 : aty x1f = 1) (rx2 : rI x2) (K8 : Int → Int → Int → St → Prop) (hK8 : ∀ (y3 y4 y5 : Int) (σ : St) (H : Heap) (locs : List Loc) (ls : Array Slot), rI y3 → rZ y4 → rI y5 → lv_has ls 8 [(1, .ref (wad w x1f x1o)), (2, .int (oI x2)), (3, .int (oI y3)), (4, .int (oI y4)), (5, .int (oI y5))] → Wo w σ H → va_S (wA w) st.heap H locs → K8 y3 y4 y5 σ → W p l e (headSpec (ws_ yX4_guard cX4_guard 8 (some .int)) rm_Flash_guard).room st m args below meth c H locs 0 0 (MQ below (QcI w Q) args st 0 0 (wA w)) (F0 m 8 ls [])) : ∀ (y3 y4 y5 : Int) (σ : St) (H : Heap) (locs : List Loc) (ls : Array Slot), rI y3 → rZ y4 → rI y5 → lv_has ls 8 [(1, .ref (wad w x1f x1o)), (2, .int (oI x2)), (3, .int (oI y3)), (4, .int (oI y4)), (5, .int (oI y5))] → Wo w σ H → va_S (wA w) st.heap H locs → wp_Flash_guard_L8 (wc w) (wtv w) x1f x1o x2 Q K8 y3 y4 y5 σ → W p l e (headSpec (ws_ yX4_guard cX4_guard 8 (some .int)) rm_Flash_guard).room st m args below meth c H locs 0 0 (MQ below (QcI w Q) args st 0 0 (wA w)) (F0 m 8 ls []) := by

  intro y3 y4 y5 σ H locs ls ry3 ry4 ry5 hl hW hS h
  unfold wp_Flash_guard_L8 at h
  refine lv_iload X.1 X.2.1 dX4_guard_8 (lv_at hl 4 rfl) ?_
  refine lv_sipush (v := oI 128) X.1 X.2.1 dX4_guard_10 (by decide) ?_
  refine w_icmp_ge (tgt := 81) X ry5 (rI_lit 128 (by decide)) dX4_guard_13 (by decide) (fun hc => ?_) (fun hc => ?_)
  · have h := h.1 hc
    refine lv_iload X.1 X.2.1 dX4_guard_81 (lv_at hl 3 rfl) ?_
    refine lv_bipush (v := oI 11) X.1 X.2.1 dX4_guard_83 (by decide) ?_
    refine w_ishl X dX4_guard_85 ?_
    refine lv_iload_n X.1 X.2.1 dX4_guard_86 rfl (lv_at hl 2 rfl) ?_
    refine w_ior X dX4_guard_87 ?_
    exact wret_I X hr hlk hW hS (ior_r _ _) h dX4_guard_88
  · have h := h.2 hc
    refine lv_aload_n X.1 X.2.1 dX4_guard_16 rfl (lv_at hl 0 rfl) ?_
    refine lv_iload_n X.1 X.2.1 dX4_guard_17 rfl (lv_at hl 1 rfl) ?_
    refine lv_iload X.1 X.2.1 dX4_guard_18 (lv_at hl 4 rfl) ?_
    refine w_iadd X dX4_guard_20 ?_
    obtain ⟨bi, h⟩ := h
    refine w_bald (n := (aln (wc w) x1f x1o)) X hT hW x1f vx1 nx1 tx1 rfl bi dX4_guard_21 ?_
    refine lv_sipush (v := oI 255) X.1 X.2.1 dX4_guard_22 (by decide) ?_
    refine w_iand X dX4_guard_25 ?_
    refine w_top (fun y6_24 ey6_24 => ?_)
    have h := h y6_24 ey6_24
    have ry6_24 : rI y6_24 := by rw [ey6_24]; exact (iand_r _ _)
    refine lv_istore (i := 6) (lv' := [(6, .int (oI y6_24)), (1, .ref (wad w x1f x1o)), (2, .int (oI x2)), (3, .int (oI y3)), (4, .int (oI y4)), (5, .int (oI y5))]) X.1 X.2.1 dX4_guard_26 hl (by decide) (by first | rfl | simp [catK, catI, catR, catL]) (fun ls hl => ?_)
    refine lv_iconst (v := oI 0) X.1 X.2.1 dX4_guard_28 rfl ?_
    refine lv_istore (i := 7) (lv' := [(7, .int (oI 0)), (6, .int (oI y6_24)), (1, .ref (wad w x1f x1o)), (2, .int (oI x2)), (3, .int (oI y3)), (4, .int (oI y4)), (5, .int (oI y5))]) X.1 X.2.1 dX4_guard_29 hl (by decide) (by first | rfl | simp [catK, catI, catR, catL]) (fun ls hl => ?_)
    exact wk_Flash_guard_L31 X hr hlk hT hV vx1 nx1 tx1 rx2 K8 hK8 y3 y4 y5 y6_24 0 σ _ _ _ ry3 ry4 ry5 ry6_24 rZ_0.i (lv_sub hl [2, 3, 4, 5, 6, 1, 0] rfl) hW hS h
theorem wk_Flash_guard_L8 {p : Program} {l : Launch} {e : Env} {st : State} {m : MethodId} {args : Array Value} {below : List Frame} {meth : Method} {c : Code} {w : Wp} {x1f : Nat} {x1o : Int} {x2 : Int} {Q : Int → St → Prop} (X : CallFix p m c cX4_guard 8 st args lw_all RX4) (hr : meth.sig.returnType = (some .int)) (hlk : meth.locks = false) (hT : Tb w st) (hV : Hvl w) (vx1 : vl w x1f x1o) (nx1 : ¬ x1f < 64) (tx1 : aty x1f = 1) (rx2 : rI x2) : ∀ (y3 y4 y5 : Int) (σ : St) (H : Heap) (locs : List Loc) (ls : Array Slot), rI y3 → rZ y4 → rI y5 → lv_has ls 8 [(1, .ref (wad w x1f x1o)), (2, .int (oI x2)), (3, .int (oI y3)), (4, .int (oI y4)), (5, .int (oI y5))] → Wo w σ H → va_S (wA w) st.heap H locs → lQ3 (wp_Flash_guard_L8 (wc w) (wtv w) x1f x1o x2 Q) y3 y4 y5 σ → W p l e (headSpec (ws_ yX4_guard cX4_guard 8 (some .int)) rm_Flash_guard).room st m args below meth c H locs 0 0 (MQ below (QcI w Q) args st 0 0 (wA w)) (F0 m 8 ls []) := by
  intro y3 y4 y5 σ H locs ls ry3 ry4 ry5 hl hW hS h
  obtain ⟨fu, h⟩ := h
  induction fu generalizing y3 y4 y5 σ H locs ls with
  | zero => exact h.elim
  | succ fu ih =>
    exact wk_Flash_guard_L8B X hr hlk hT hV vx1 nx1 tx1 rx2 (lq3 (wp_Flash_guard_L8 (wc w) (wtv w) x1f x1o x2 Q) fu) (fun y3 y4 y5 σ H locs ls ry3 ry4 ry5 hl hW hS h => ih y3 y4 y5 σ H locs ls ry3 ry4 ry5 hl hW hS h) y3 y4 y5 σ H locs ls ry3 ry4 ry5 hl hW hS h
set_option maxHeartbeats 4000000 in
set_option maxRecDepth 100000 in
theorem met_Flash_guard (l : Launch) {w : Wp} (hV : Hvl w) (x1f : Nat) (x1o : Int) (x2 : Int) (Q : Int → St → Prop) (σ : St) (vx1 : vl w x1f x1o) (nx1 : ¬ x1f < 64) (tx1 : aty x1f = 1) (rx2 : rI x2) (h : wp_Flash_guard (wc w) (wtv w) x1f x1o x2 Q σ) : Met l yX4_guard (ws_ yX4_guard cX4_guard 8 (some .int)) rm_Flash_guard (PcW w σ [.ref (wad w 2 0), .ref (wad w x1f x1o), .int (oI x2)]) (QcI w Q) 0 0 (wA w) := by
  refine Met.ofW (cc := cX4_guard) (maxL := 8) (ret := (some .int)) (by decide) rfl ?_
  intro p e st m args below meth c s₁ B hml hv
  obtain ⟨hargs, hW, hT⟩ := hv
  have X : CallFix p m c cX4_guard 8 st _ lw_all RX4 := ⟨B.exec, B.bytes, hml, findClass_of_methodNamed B.named, fun w h => atoms_spec (ws := ws_ yX4_guard cX4_guard 8 (some .int)) B.pre w (List.mem_cons_of_mem _ h)⟩
  have hr := B.returns
  have hlk := B.notSynchronized
  have hS : va_S (wA w) st.heap st.heap [] := va_S.rf
  have vl2_0 : vl w 2 0 := hV.hv 2 rfl ⟨by omega, by show _ < (1 : Int); omega⟩
  have hl := lv_entry ([.ref (wad w 2 0), .ref (wad w x1f x1o), .int (oI x2)]) (n := 8) (Nat.le_of_ble_eq_true rfl)
  have hfr := lg_entry_eq m ([.ref (wad w 2 0), .ref (wad w x1f x1o), .int (oI x2)]) 8
  rw [← hargs] at hfr
  rw [hfr]
  generalize (lg_sl ([.ref (wad w 2 0), .ref (wad w x1f x1o), .int (oI x2)]) ++ List.replicate (8 - (lg_sl ([.ref (wad w 2 0), .ref (wad w x1f x1o), .int (oI x2)])).length) Slot.unset).toArray = ls at hl ⊢
  have hl : lv_has ls 8 [(0, .ref (wad w 2 0)), (1, .ref (wad w x1f x1o)), (2, .int (oI x2))] := hl
  unfold wp_Flash_guard at h
  refine lv_iconst (v := oI 0) X.1 X.2.1 dX4_guard_0 rfl ?_
  refine lv_istore_n (i := 3) (lv' := [(3, .int (oI 0)), (0, .ref (wad w 2 0)), (1, .ref (wad w x1f x1o)), (2, .int (oI x2))]) X.1 X.2.1 dX4_guard_1 rfl hl (by decide) (by first | rfl | simp [catK, catI, catR, catL]) (fun ls hl => ?_)
  refine lv_iconst (v := oI 0) X.1 X.2.1 dX4_guard_2 rfl ?_
  refine lv_istore (i := 4) (lv' := [(4, .int (oI 0)), (3, .int (oI 0)), (0, .ref (wad w 2 0)), (1, .ref (wad w x1f x1o)), (2, .int (oI x2))]) X.1 X.2.1 dX4_guard_3 hl (by decide) (by first | rfl | simp [catK, catI, catR, catL]) (fun ls hl => ?_)
  refine lv_iconst (v := oI 0) X.1 X.2.1 dX4_guard_5 rfl ?_
  refine lv_istore (i := 5) (lv' := [(5, .int (oI 0)), (4, .int (oI 0)), (3, .int (oI 0)), (0, .ref (wad w 2 0)), (1, .ref (wad w x1f x1o)), (2, .int (oI x2))]) X.1 X.2.1 dX4_guard_6 hl (by decide) (by first | rfl | simp [catK, catI, catR, catL]) (fun ls hl => ?_)
  exact wk_Flash_guard_L8 X hr hlk hT hV vx1 nx1 tx1 rx2 0 0 0 σ _ _ _ rZ_0.i rZ_0 rZ_0.i (lv_sub hl [4, 5, 2, 1, 0] rfl) hW hS h
/-! Flash.write(II[BI)Z -/
set_option maxHeartbeats 4000000 in
set_option maxRecDepth 100000 in
theorem met_Flash_write (l : Launch) {w : Wp} (hV : Hvl w) (x1 : Int) (x2 : Int) (x3f : Nat) (x3o : Int) (x4 : Int) (Q : Int → St → Prop) (σ : St) (rx1 : rI x1) (rx2 : rI x2) (vx3 : vl w x3f x3o) (nx3 : ¬ x3f < 64) (tx3 : aty x3f = 1) (rx4 : rI x4) (h : wp_Flash_write (wc w) (wtv w) x1 x2 x3f x3o x4 Q σ) : Met l yX4_write (ws_ yX4_write cX4_write 7 (some .boolean)) rm_Flash_write (PcW w σ [.ref (wad w 2 0), .int (oI x1), .int (oI x2), .ref (wad w x3f x3o), .int (oI x4)]) (QcZ w Q) 0 0 (wA w) := by
  refine Met.ofW (cc := cX4_write) (maxL := 7) (ret := (some .boolean)) (by decide) rfl ?_
  intro p e st m args below meth c s₁ B hml hv
  obtain ⟨hargs, hW, hT⟩ := hv
  have X : CallFix p m c cX4_write 7 st _ lw_all RX4 := ⟨B.exec, B.bytes, hml, findClass_of_methodNamed B.named, fun w h => atoms_spec (ws := ws_ yX4_write cX4_write 7 (some .boolean)) B.pre w (List.mem_cons_of_mem _ h)⟩
  have hr := B.returns
  have hlk := B.notSynchronized
  have hS : va_S (wA w) st.heap st.heap [] := va_S.rf
  have vl130_0 : vl w 130 0 := hV.hv 130 rfl ⟨by omega, by show _ < (1 : Int); omega⟩
  have vl131_0 : vl w 131 0 := hV.hv 131 rfl ⟨by omega, by show _ < (1 : Int); omega⟩
  have vl132_0 : vl w 132 0 := hV.hv 132 rfl ⟨by omega, by show _ < (1 : Int); omega⟩
  have vl133_0 : vl w 133 0 := hV.hv 133 rfl ⟨by omega, by show _ < (1 : Int); omega⟩
  have vl2_0 : vl w 2 0 := hV.hv 2 rfl ⟨by omega, by show _ < (1 : Int); omega⟩
  have hl := lv_entry ([.ref (wad w 2 0), .int (oI x1), .int (oI x2), .ref (wad w x3f x3o), .int (oI x4)]) (n := 7) (Nat.le_of_ble_eq_true rfl)
  have hfr := lg_entry_eq m ([.ref (wad w 2 0), .int (oI x1), .int (oI x2), .ref (wad w x3f x3o), .int (oI x4)]) 7
  rw [← hargs] at hfr
  rw [hfr]
  generalize (lg_sl ([.ref (wad w 2 0), .int (oI x1), .int (oI x2), .ref (wad w x3f x3o), .int (oI x4)]) ++ List.replicate (7 - (lg_sl ([.ref (wad w 2 0), .int (oI x1), .int (oI x2), .ref (wad w x3f x3o), .int (oI x4)])).length) Slot.unset).toArray = ls at hl ⊢
  have hl : lv_has ls 7 [(0, .ref (wad w 2 0)), (1, .int (oI x1)), (2, .int (oI x2)), (3, .ref (wad w x3f x3o)), (4, .int (oI x4))] := hl
  unfold wp_Flash_write at h
  refine lv_iload_n X.1 X.2.1 dX4_write_0 rfl (lv_at hl 1 rfl) ?_
  refine lv_aload_n X.1 X.2.1 dX4_write_1 rfl (lv_at hl 0 rfl) ?_
  refine wg (v := .int (oI (wc w).2.1)) X hT hW 2 1 129 vl2_0 rfl rfl (by decide) rfl (by decide) in_X4 q223 rfl dX4_write_2 ?_
  refine w_imul X dX4_write_5 ?_
  refine lv_iload_n X.1 X.2.1 dX4_write_6 rfl (lv_at hl 2 rfl) ?_
  refine w_iadd X dX4_write_7 ?_
  refine w_top (fun y5_10 ey5_10 => ?_)
  have h := h y5_10 ey5_10
  have ry5_10 : rI y5_10 := by rw [ey5_10]; exact (w32_r _)
  refine lv_istore (i := 5) (lv' := [(5, .int (oI y5_10)), (0, .ref (wad w 2 0)), (1, .int (oI x1)), (2, .int (oI x2)), (3, .ref (wad w x3f x3o)), (4, .int (oI x4))]) X.1 X.2.1 dX4_write_8 hl (by decide) (by first | rfl | simp [catK, catI, catR, catL]) (fun ls hl => ?_)
  refine lv_aload_n X.1 X.2.1 dX4_write_10 rfl (lv_at hl 1 rfl) ?_
  refine wr_Z (rV (As := []) (rest := []) X hT hW hS (met_Flash_fails l (w := w) hV _ σ h) (cwV 0 X.2.2.2.2 (lw_V q663 q665 qs2 q134 q666) rfl rfl rfl (by decide +kernel) ⟨Nat.le_of_ble_eq_true rfl, Nat.le_of_ble_eq_true rfl⟩) vl2_0 (by decide) rfl rfl hl.1 rfl (by first | exact Nat.le_of_ble_eq_true rfl | simp [catK, catI, catR, catL]) dX4_write_11 ⟨Nat.le_refl _, Nat.le_refl _⟩) hS (fun r_11 σ_12 H locs rr_11 rkσ_12 h hWσ_12 hS => ?_)
  have h := h rr_11 rkσ_12
  refine lv_istore (i := 6) (lv' := [(6, .int (oI r_11)), (5, .int (oI y5_10)), (0, .ref (wad w 2 0)), (1, .int (oI x1)), (2, .int (oI x2)), (3, .ref (wad w x3f x3o)), (4, .int (oI x4))]) X.1 X.2.1 dX4_write_14 hl (by decide) (by first | rfl | simp [catK, catI, catR, catL]) (fun ls hl => ?_)
  refine lv_aload_n X.1 X.2.1 dX4_write_16 rfl (lv_at hl 5 rfl) ?_
  refine lv_iload X.1 X.2.1 dX4_write_17 (lv_at hl 6 rfl) ?_
  refine lv_aload_n X.1 X.2.1 dX4_write_19 rfl (lv_at hl 2 rfl) ?_
  refine wg (v := .ref (wad w 130 0)) X hT hWσ_12 2 2 130 vl2_0 rfl rfl (by decide) rfl (by decide) in_X4 q225 rfl dX4_write_20 ?_
  refine lv_iload X.1 X.2.1 dX4_write_23 (lv_at hl 1 rfl) ?_
  refine lv_sipush (v := oI 128) X.1 X.2.1 dX4_write_25 (by decide) ?_
  refine w_imul X dX4_write_28 ?_
  refine lv_iload X.1 X.2.1 dX4_write_29 (lv_at hl 0 rfl) ?_
  refine w_cut (pc2 := 42) (st2 := [.int (oI (if r_11 = 0 then (128 : Int) else (64 : Int))), .int (oI (w32 (y5_10 * 128))), .ref (wad w 130 0), .int (oI x4), .ref (wad w x3f x3o)]) (fun hj => ?_) ?_
  · refine w_if_eq (tgt := 39) X rr_11.i dX4_write_31 (by decide) (fun hc => ?_) (fun hc => ?_)
    · refine lv_sipush (v := oI 128) X.1 X.2.1 dX4_write_39 (by decide) ?_
      rw [if_pos hc] at hj; exact hj
    · refine lv_bipush (v := oI 64) X.1 X.2.1 dX4_write_34 (by decide) ?_
      refine lv_goto (tgt := 42) X.1 X.2.1 dX4_write_36 (by decide) ?_
      rw [if_neg hc] at hj; exact hj
  obtain ⟨bi, h⟩ := h
  refine w_copy (nf := (aln (wc w) x3f x3o)) (ng := (128 * ((wc w).1 * (wc w).2.1))) (sp := x4) (dp := w32 (y5_10 * 128)) (n := (if r_11 = 0 then (128 : Int) else (64 : Int))) X hT hWσ_12 hS hl.1 x3f 130 vx3 vl130_0 nx3 (by decide) tx3 rfl rfl rfl bi q697 q699 q698 q142 (Nat.le_of_ble_eq_true rfl) (Nat.le_of_ble_eq_true rfl) dX4_write_42 (fun H locs hN hS => ?_)
  obtain ⟨σ_13, eσ_13⟩ : ∃ x, x = sAr σ_12 130 0 (cpy (gA σ_12 x3f x3o) (gA σ_12 130 0) x4 (w32 (y5_10 * 128)) (if r_11 = 0 then (128 : Int) else (64 : Int))) := ⟨_, rfl⟩
  have hWσ_13 : Wo w σ_13 H := eσ_13 ▸ hN
  have h := h σ_13 eσ_13
  clear hN
  refine lv_aload_n X.1 X.2.1 dX4_write_45 rfl (lv_at hl 2 rfl) ?_
  refine wg (v := .ref (wad w 131 0)) X hT hWσ_13 2 3 131 vl2_0 rfl rfl (by decide) rfl (by decide) in_X4 q226 rfl dX4_write_46 ?_
  refine lv_iload X.1 X.2.1 dX4_write_49 (lv_at hl 1 rfl) ?_
  refine lv_aload_n X.1 X.2.1 dX4_write_51 rfl (lv_at hl 2 rfl) ?_
  refine lv_aload_n X.1 X.2.1 dX4_write_52 rfl (lv_at hl 2 rfl) ?_
  refine wg (v := .ref (wad w 130 0)) X hT hWσ_13 2 2 130 vl2_0 rfl rfl (by decide) rfl (by decide) in_X4 q225 rfl dX4_write_53 ?_
  refine lv_iload X.1 X.2.1 dX4_write_56 (lv_at hl 1 rfl) ?_
  refine lv_sipush (v := oI 128) X.1 X.2.1 dX4_write_58 (by decide) ?_
  refine w_imul X dX4_write_61 ?_
  refine wr_I (rV (As := [.ref (wad w 130 0), .int (oI (w32 (y5_10 * 128)))]) (rest := [.int (oI y5_10), .ref (wad w 131 0)]) X hT hWσ_13 hS (met_Flash_guard l (w := w) hV 130 0 (w32 (y5_10 * 128)) _ σ_13 vl130_0 (by decide) rfl (w32_r _) h) (cwV 2 X.2.2.2.2 (lw_V q700 q702 qs4 q134 q703) rfl rfl rfl (by decide +kernel) ⟨Nat.le_of_ble_eq_true rfl, Nat.le_of_ble_eq_true rfl⟩) vl2_0 (by decide) rfl rfl hl.1 rfl (by first | exact Nat.le_of_ble_eq_true rfl | simp [catK, catI, catR, catL]) dX4_write_62 ⟨Nat.le_refl _, Nat.le_refl _⟩) hS (fun r_14 σ_15 H locs rr_14 rkσ_15 h hWσ_15 hS => ?_)
  have h := h rr_14 rkσ_15
  obtain ⟨bi, h⟩ := h
  refine w_iast (n := ((wc w).1 * (wc w).2.1)) X hT hWσ_15 hS 131 vl131_0 (by decide) rfl rfl bi rr_14 dX4_write_65 (fun H locs hN hS => ?_)
  obtain ⟨σ_16, eσ_16⟩ : ∃ x, x = sA σ_15 131 0 y5_10 r_14 := ⟨_, rfl⟩
  have hWσ_16 : Wo w σ_16 H := eσ_16 ▸ hN
  have h := h σ_16 eσ_16
  clear hN
  refine lv_aload_n X.1 X.2.1 dX4_write_66 rfl (lv_at hl 2 rfl) ?_
  refine wg (v := .ref (wad w 132 0)) X hT hWσ_16 2 4 132 vl2_0 rfl rfl (by decide) rfl (by decide) in_X4 q227 rfl dX4_write_67 ?_
  refine lv_iload X.1 X.2.1 dX4_write_70 (lv_at hl 1 rfl) ?_
  refine lv_iconst (v := oI 0) X.1 X.2.1 dX4_write_72 rfl ?_
  obtain ⟨bi, h⟩ := h
  refine w_zast (n := ((wc w).1 * (wc w).2.1)) X hT hWσ_16 hS 132 vl132_0 (by decide) rfl rfl bi rZ_0 dX4_write_73 (fun H locs hN hS => ?_)
  obtain ⟨σ_17, eσ_17⟩ : ∃ x, x = sA σ_16 132 0 y5_10 0 := ⟨_, rfl⟩
  have hWσ_17 : Wo w σ_17 H := eσ_17 ▸ hN
  have h := h σ_17 eσ_17
  clear hN
  refine lv_aload_n X.1 X.2.1 dX4_write_74 rfl (lv_at hl 2 rfl) ?_
  refine wg (v := .ref (wad w 133 0)) X hT hWσ_17 2 5 133 vl2_0 rfl rfl (by decide) rfl (by decide) in_X4 q228 rfl dX4_write_75 ?_
  refine lv_iload_n X.1 X.2.1 dX4_write_78 rfl (lv_at hl 3 rfl) ?_
  refine lv_iload_n X.1 X.2.1 dX4_write_79 rfl (lv_at hl 4 rfl) ?_
  refine lv_iconst (v := oI 1) X.1 X.2.1 dX4_write_80 rfl ?_
  refine w_iadd X dX4_write_81 ?_
  obtain ⟨bi, h⟩ := h
  refine w_iast (n := (wc w).1) X hT hWσ_17 hS 133 vl133_0 (by decide) rfl rfl bi (w32_r _) dX4_write_82 (fun H locs hN hS => ?_)
  obtain ⟨σ_18, eσ_18⟩ : ∃ x, x = sA σ_17 133 0 x1 (w32 (x2 + 1)) := ⟨_, rfl⟩
  have hWσ_18 : Wo w σ_18 H := eσ_18 ▸ hN
  have h := h σ_18 eσ_18
  clear hN
  refine lv_iload X.1 X.2.1 dX4_write_83 (lv_at hl 0 rfl) ?_
  refine w_cut (pc2 := 93) (st2 := [.int (oI (if r_11 = 0 then (1 : Int) else (0 : Int)))]) (fun hj => ?_) ?_
  · refine w_if_ne (tgt := 92) X rr_11.i dX4_write_85 (by decide) (fun hc => ?_) (fun hc => ?_)
    · refine lv_iconst (v := oI 0) X.1 X.2.1 dX4_write_92 rfl ?_
      rw [if_neg hc] at hj; exact hj
    · refine lv_iconst (v := oI 1) X.1 X.2.1 dX4_write_88 rfl ?_
      refine lv_goto (tgt := 93) X.1 X.2.1 dX4_write_89 (by decide) ?_
      rw [if_pos hc] at hj; exact hj
  exact wret_Z X hr hlk hWσ_18 hS (ite_rZ rZ_1 rZ_0) h dX4_write_93
/-! Flash.giveUp(I)V -/
set_option maxHeartbeats 4000000 in
set_option maxRecDepth 100000 in
theorem met_Flash_giveUp (l : Launch) {w : Wp} (hV : Hvl w) (x1 : Int) (Q : St → Prop) (σ : St) (rx1 : rI x1) (h : wp_Flash_giveUp (wc w) (wtv w) x1 Q σ) : Met l yX4_giveUp (ws_ yX4_giveUp cX4_giveUp 2 none) rm_Flash_giveUp (PcW w σ [.ref (wad w 2 0), .int (oI x1)]) (QcV w Q) 0 0 (wA w) := by
  refine Met.ofW (cc := cX4_giveUp) (maxL := 2) (ret := none) (by decide) rfl ?_
  intro p e st m args below meth c s₁ B hml hv
  obtain ⟨hargs, hW, hT⟩ := hv
  have X : CallFix p m c cX4_giveUp 2 st _ lw_all RX4 := ⟨B.exec, B.bytes, hml, findClass_of_methodNamed B.named, fun w h => atoms_spec (ws := ws_ yX4_giveUp cX4_giveUp 2 none) B.pre w (List.mem_cons_of_mem _ h)⟩
  have hr := B.returns
  have hlk := B.notSynchronized
  have hS : va_S (wA w) st.heap st.heap [] := va_S.rf
  have vl134_0 : vl w 134 0 := hV.hv 134 rfl ⟨by omega, by show _ < (1 : Int); omega⟩
  have vl2_0 : vl w 2 0 := hV.hv 2 rfl ⟨by omega, by show _ < (1 : Int); omega⟩
  have hl := lv_entry ([.ref (wad w 2 0), .int (oI x1)]) (n := 2) (Nat.le_of_ble_eq_true rfl)
  have hfr := lg_entry_eq m ([.ref (wad w 2 0), .int (oI x1)]) 2
  rw [← hargs] at hfr
  rw [hfr]
  generalize (lg_sl ([.ref (wad w 2 0), .int (oI x1)]) ++ List.replicate (2 - (lg_sl ([.ref (wad w 2 0), .int (oI x1)])).length) Slot.unset).toArray = ls at hl ⊢
  have hl : lv_has ls 2 [(0, .ref (wad w 2 0)), (1, .int (oI x1))] := hl
  unfold wp_Flash_giveUp at h
  refine lv_aload_n X.1 X.2.1 dX4_giveUp_0 rfl (lv_at hl 0 rfl) ?_
  refine wg (v := .ref (wad w 134 0)) X hT hW 2 6 134 vl2_0 rfl rfl (by decide) rfl (by decide) in_X4 q229 rfl dX4_giveUp_1 ?_
  refine lv_iload_n X.1 X.2.1 dX4_giveUp_4 rfl (lv_at hl 1 rfl) ?_
  refine lv_iconst (v := oI 1) X.1 X.2.1 dX4_giveUp_5 rfl ?_
  obtain ⟨bi, h⟩ := h
  refine w_zast (n := (wc w).1) X hT hW hS 134 vl134_0 (by decide) rfl rfl bi rZ_1 dX4_giveUp_6 (fun H locs hN hS => ?_)
  obtain ⟨σ_2, eσ_2⟩ : ∃ x, x = sA σ 134 0 x1 1 := ⟨_, rfl⟩
  have hWσ_2 : Wo w σ_2 H := eσ_2 ▸ hN
  have h := h σ_2 eσ_2
  clear hN
  exact wret_V X hr hlk hWσ_2 hS h dX4_giveUp_7
/-! House.putLong([BIJ)V -/
set_option maxHeartbeats 4000000 in
set_option maxRecDepth 100000 in
theorem met_House_putLong (l : Launch) {w : Wp} (x0f : Nat) (x0o : Int) (x1 : Int) (x2 : Int) (Q : St → Prop) (σ : St) (vx0 : vl w x0f x0o) (nx0 : ¬ x0f < 64) (tx0 : aty x0f = 1) (rx1 : rI x1) (rx2 : rJ x2) (h : wp_House_putLong (wc w) (wtv w) x0f x0o x1 x2 Q σ) : Met l yX1_putLong (ws_ yX1_putLong cX1_putLong 4 none) rm_House_putLong (PcW w σ [.ref (wad w x0f x0o), .int (oI x1), .long (oL x2)]) (QcV w Q) 0 0 (wA w) := by
  refine Met.ofW (cc := cX1_putLong) (maxL := 4) (ret := none) (by decide) rfl ?_
  intro p e st m args below meth c s₁ B hml hv
  obtain ⟨hargs, hW, hT⟩ := hv
  have X : CallFix p m c cX1_putLong 4 st _ lw_all RX1 := ⟨B.exec, B.bytes, hml, findClass_of_methodNamed B.named, fun w h => atoms_spec (ws := ws_ yX1_putLong cX1_putLong 4 none) B.pre w (List.mem_cons_of_mem _ h)⟩
  have hr := B.returns
  have hlk := B.notSynchronized
  have hS : va_S (wA w) st.heap st.heap [] := va_S.rf
  have hl := lv_entry ([.ref (wad w x0f x0o), .int (oI x1), .long (oL x2)]) (n := 4) (Nat.le_of_ble_eq_true rfl)
  have hfr := lg_entry_eq m ([.ref (wad w x0f x0o), .int (oI x1), .long (oL x2)]) 4
  rw [← hargs] at hfr
  rw [hfr]
  generalize (lg_sl ([.ref (wad w x0f x0o), .int (oI x1), .long (oL x2)]) ++ List.replicate (4 - (lg_sl ([.ref (wad w x0f x0o), .int (oI x1), .long (oL x2)])).length) Slot.unset).toArray = ls at hl ⊢
  have hl : lv_has ls 4 [(0, .ref (wad w x0f x0o)), (1, .int (oI x1)), (2, .long (oL x2))] := hl
  unfold wp_House_putLong at h
  refine lv_aload_n X.1 X.2.1 dX1_putLong_0 rfl (lv_at hl 0 rfl) ?_
  refine lv_iload_n X.1 X.2.1 dX1_putLong_1 rfl (lv_at hl 1 rfl) ?_
  refine lv_lload_n X.1 X.2.1 dX1_putLong_2 rfl (lv_at hl 2 rfl) ?_
  refine w_l2i X dX1_putLong_3 ?_
  refine wr_V (rS (As := [.ref (wad w x0f x0o), .int (oI x1), .int (oI (w32 x2))]) (rest := []) X hT hW hS (met_House_putInt l (w := w) x0f x0o x1 (w32 x2) _ σ vx0 nx0 tx0 rx1 (w32_r _) h) (va_cwS 3 X.2.2.2.2 (lw_S q762 q686 q131 q687) rfl rfl rfl (by decide +kernel) ⟨Nat.le_of_ble_eq_true rfl, Nat.le_of_ble_eq_true rfl⟩) rfl hl.1 rfl (by first | exact Nat.le_of_ble_eq_true rfl | simp [catK, catI, catR, catL]) dX1_putLong_4 ⟨Nat.le_refl _, Nat.le_refl _⟩) hS (fun σ_6 H locs rkσ_6 h hWσ_6 hS => ?_)
  have h := h rkσ_6
  refine lv_aload_n X.1 X.2.1 dX1_putLong_7 rfl (lv_at hl 0 rfl) ?_
  refine lv_iload_n X.1 X.2.1 dX1_putLong_8 rfl (lv_at hl 1 rfl) ?_
  refine lv_iconst (v := oI 4) X.1 X.2.1 dX1_putLong_9 rfl ?_
  refine w_iadd X dX1_putLong_10 ?_
  refine lv_lload_n X.1 X.2.1 dX1_putLong_11 rfl (lv_at hl 2 rfl) ?_
  refine lv_bipush (v := oI 32) X.1 X.2.1 dX1_putLong_12 (by decide) ?_
  refine w_lushr X dX1_putLong_14 ?_
  refine w_l2i X dX1_putLong_15 ?_
  refine wr_V (rS (As := [.ref (wad w x0f x0o), .int (oI (w32 (x1 + 4))), .int (oI (w32 (lushr x2 32)))]) (rest := []) X hT hWσ_6 hS (met_House_putInt l (w := w) x0f x0o (w32 (x1 + 4)) (w32 (lushr x2 32)) _ σ_6 vx0 nx0 tx0 (w32_r _) (w32_r _) h) (va_cwS 3 X.2.2.2.2 (lw_S q762 q686 q131 q687) rfl rfl rfl (by decide +kernel) ⟨Nat.le_of_ble_eq_true rfl, Nat.le_of_ble_eq_true rfl⟩) rfl hl.1 rfl (by first | exact Nat.le_of_ble_eq_true rfl | simp [catK, catI, catR, catL]) dX1_putLong_16 ⟨Nat.le_refl _, Nat.le_refl _⟩) hS (fun σ_8 H locs rkσ_8 h hWσ_8 hS => ?_)
  have h := h rkσ_8
  exact wret_V X hr hlk hWσ_8 hS h dX1_putLong_19
/-! Flash.read(II[BI)V -/
set_option maxHeartbeats 4000000 in
set_option maxRecDepth 100000 in
theorem met_Flash_read (l : Launch) {w : Wp} (hV : Hvl w) (x1 : Int) (x2 : Int) (x3f : Nat) (x3o : Int) (x4 : Int) (Q : St → Prop) (σ : St) (rx1 : rI x1) (rx2 : rI x2) (vx3 : vl w x3f x3o) (nx3 : ¬ x3f < 64) (tx3 : aty x3f = 1) (rx4 : rI x4) (h : wp_Flash_read (wc w) (wtv w) x1 x2 x3f x3o x4 Q σ) : Met l yX4_read (ws_ yX4_read cX4_read 8 none) rm_Flash_read (PcW w σ [.ref (wad w 2 0), .int (oI x1), .int (oI x2), .ref (wad w x3f x3o), .int (oI x4)]) (QcV w Q) 0 0 (wA w) := by
  refine Met.ofW (cc := cX4_read) (maxL := 8) (ret := none) (by decide) rfl ?_
  intro p e st m args below meth c s₁ B hml hv
  obtain ⟨hargs, hW, hT⟩ := hv
  have X : CallFix p m c cX4_read 8 st _ lw_all RX4 := ⟨B.exec, B.bytes, hml, findClass_of_methodNamed B.named, fun w h => atoms_spec (ws := ws_ yX4_read cX4_read 8 none) B.pre w (List.mem_cons_of_mem _ h)⟩
  have hr := B.returns
  have hlk := B.notSynchronized
  have hS : va_S (wA w) st.heap st.heap [] := va_S.rf
  have vl130_0 : vl w 130 0 := hV.hv 130 rfl ⟨by omega, by show _ < (1 : Int); omega⟩
  have vl131_0 : vl w 131 0 := hV.hv 131 rfl ⟨by omega, by show _ < (1 : Int); omega⟩
  have vl133_0 : vl w 133 0 := hV.hv 133 rfl ⟨by omega, by show _ < (1 : Int); omega⟩
  have vl135_0 : vl w 135 0 := hV.hv 135 rfl ⟨by omega, by show _ < (1 : Int); omega⟩
  have vl2_0 : vl w 2 0 := hV.hv 2 rfl ⟨by omega, by show _ < (1 : Int); omega⟩
  have hl := lv_entry ([.ref (wad w 2 0), .int (oI x1), .int (oI x2), .ref (wad w x3f x3o), .int (oI x4)]) (n := 8) (Nat.le_of_ble_eq_true rfl)
  have hfr := lg_entry_eq m ([.ref (wad w 2 0), .int (oI x1), .int (oI x2), .ref (wad w x3f x3o), .int (oI x4)]) 8
  rw [← hargs] at hfr
  rw [hfr]
  generalize (lg_sl ([.ref (wad w 2 0), .int (oI x1), .int (oI x2), .ref (wad w x3f x3o), .int (oI x4)]) ++ List.replicate (8 - (lg_sl ([.ref (wad w 2 0), .int (oI x1), .int (oI x2), .ref (wad w x3f x3o), .int (oI x4)])).length) Slot.unset).toArray = ls at hl ⊢
  have hl : lv_has ls 8 [(0, .ref (wad w 2 0)), (1, .int (oI x1)), (2, .int (oI x2)), (3, .ref (wad w x3f x3o)), (4, .int (oI x4))] := hl
  unfold wp_Flash_read at h
  refine lv_iload_n X.1 X.2.1 dX4_read_0 rfl (lv_at hl 1 rfl) ?_
  refine lv_aload_n X.1 X.2.1 dX4_read_1 rfl (lv_at hl 0 rfl) ?_
  refine wg (v := .int (oI (wc w).2.1)) X hT hW 2 1 129 vl2_0 rfl rfl (by decide) rfl (by decide) in_X4 q223 rfl dX4_read_2 ?_
  refine w_imul X dX4_read_5 ?_
  refine lv_iload_n X.1 X.2.1 dX4_read_6 rfl (lv_at hl 2 rfl) ?_
  refine w_iadd X dX4_read_7 ?_
  refine w_top (fun y5_9 ey5_9 => ?_)
  have h := h y5_9 ey5_9
  have ry5_9 : rI y5_9 := by rw [ey5_9]; exact (w32_r _)
  refine lv_istore (i := 5) (lv' := [(5, .int (oI y5_9)), (0, .ref (wad w 2 0)), (1, .int (oI x1)), (2, .int (oI x2)), (3, .ref (wad w x3f x3o)), (4, .int (oI x4))]) X.1 X.2.1 dX4_read_8 hl (by decide) (by first | rfl | simp [catK, catI, catR, catL]) (fun ls hl => ?_)
  refine lv_aload_n X.1 X.2.1 dX4_read_10 rfl (lv_at hl 1 rfl) ?_
  refine wg (v := .ref (wad w 130 0)) X hT hW 2 2 130 vl2_0 rfl rfl (by decide) rfl (by decide) in_X4 q225 rfl dX4_read_11 ?_
  refine lv_iload X.1 X.2.1 dX4_read_14 (lv_at hl 0 rfl) ?_
  refine lv_sipush (v := oI 128) X.1 X.2.1 dX4_read_16 (by decide) ?_
  refine w_imul X dX4_read_19 ?_
  refine lv_aload_n X.1 X.2.1 dX4_read_20 rfl (lv_at hl 4 rfl) ?_
  refine lv_iload X.1 X.2.1 dX4_read_21 (lv_at hl 5 rfl) ?_
  refine lv_sipush (v := oI 128) X.1 X.2.1 dX4_read_23 (by decide) ?_
  obtain ⟨bi, h⟩ := h
  refine w_copy (nf := (128 * ((wc w).1 * (wc w).2.1))) (ng := (aln (wc w) x3f x3o)) (sp := w32 (y5_9 * 128)) (dp := x4) (n := 128) X hT hW hS hl.1 130 x3f vl130_0 vx3 (by decide) nx3 rfl tx3 rfl rfl bi q697 q699 q698 q142 (Nat.le_of_ble_eq_true rfl) (Nat.le_of_ble_eq_true rfl) dX4_read_26 (fun H locs hN hS => ?_)
  obtain ⟨σ_10, eσ_10⟩ : ∃ x, x = sAr σ x3f x3o (cpy (gA σ 130 0) (gA σ x3f x3o) (w32 (y5_9 * 128)) x4 128) := ⟨_, rfl⟩
  have hWσ_10 : Wo w σ_10 H := eσ_10 ▸ hN
  have h := h σ_10 eσ_10
  clear hN
  refine lv_iload_n X.1 X.2.1 dX4_read_29 rfl (lv_at hl 3 rfl) ?_
  refine lv_aload_n X.1 X.2.1 dX4_read_30 rfl (lv_at hl 1 rfl) ?_
  refine wg (v := .ref (wad w 133 0)) X hT hWσ_10 2 5 133 vl2_0 rfl rfl (by decide) rfl (by decide) in_X4 q228 rfl dX4_read_31 ?_
  refine lv_iload_n X.1 X.2.1 dX4_read_34 rfl (lv_at hl 2 rfl) ?_
  obtain ⟨bi, h⟩ := h
  refine w_iald (n := (wc w).1) X hT hWσ_10 133 vl133_0 (by decide) rfl rfl bi dX4_read_35 ?_
  refine w_icmp_lt (tgt := 40) X rx2 (hWσ_10.r.ai 133 0 x1 rfl) dX4_read_36 (by decide) (fun hc => ?_) (fun hc => ?_)
  · have h := h.1 hc
    refine lv_aload_n X.1 X.2.1 dX4_read_40 rfl (lv_at hl 1 rfl) ?_
    refine wg (v := .ref (wad w 131 0)) X hT hWσ_10 2 3 131 vl2_0 rfl rfl (by decide) rfl (by decide) in_X4 q226 rfl dX4_read_41 ?_
    refine lv_iload X.1 X.2.1 dX4_read_44 (lv_at hl 0 rfl) ?_
    obtain ⟨bi, h⟩ := h
    refine w_iald (n := ((wc w).1 * (wc w).2.1)) X hT hWσ_10 131 vl131_0 (by decide) rfl rfl bi dX4_read_46 ?_
    refine lv_aload_n X.1 X.2.1 dX4_read_47 rfl (lv_at hl 1 rfl) ?_
    refine lv_aload_n X.1 X.2.1 dX4_read_48 rfl (lv_at hl 4 rfl) ?_
    refine lv_iload X.1 X.2.1 dX4_read_49 (lv_at hl 5 rfl) ?_
    refine wr_I (rV (As := [.ref (wad w x3f x3o), .int (oI x4)]) (rest := [.int (oI (gA σ_10 131 0 y5_9))]) X hT hWσ_10 hS (met_Flash_guard l (w := w) hV x3f x3o x4 _ σ_10 vx3 nx3 tx3 rx4 h) (cwV 2 X.2.2.2.2 (lw_V q700 q702 qs4 q134 q703) rfl rfl rfl (by decide +kernel) ⟨Nat.le_of_ble_eq_true rfl, Nat.le_of_ble_eq_true rfl⟩) vl2_0 (by decide) rfl rfl hl.1 rfl (by first | exact Nat.le_of_ble_eq_true rfl | simp [catK, catI, catR, catL]) dX4_read_51 ⟨Nat.le_refl _, Nat.le_refl _⟩) hS (fun r_11 σ_12 H locs rr_11 rkσ_12 h hWσ_12 hS => ?_)
    have h := h rr_11 rkσ_12
    refine w_ixor X dX4_read_54 ?_
    refine w_top (fun y6_13 ey6_13 => ?_)
    have h := h y6_13 ey6_13
    have ry6_13 : rI y6_13 := by rw [ey6_13]; exact (ixor_r _ _)
    refine lv_istore (i := 6) (lv' := [(6, .int (oI y6_13)), (5, .int (oI y5_9)), (0, .ref (wad w 2 0)), (1, .int (oI x1)), (2, .int (oI x2)), (3, .ref (wad w x3f x3o)), (4, .int (oI x4))]) X.1 X.2.1 dX4_read_55 hl (by decide) (by first | rfl | simp [catK, catI, catR, catL]) (fun ls hl => ?_)
    refine lv_iload X.1 X.2.1 dX4_read_57 (lv_at hl 0 rfl) ?_
    refine w_if_ne (tgt := 63) X ry6_13 dX4_read_59 (by decide) (fun hc => ?_) (fun hc => ?_)
    · have h := h.1 hc
      refine lv_aload_n X.1 X.2.1 dX4_read_63 rfl (lv_at hl 2 rfl) ?_
      refine wg (v := .ref (wad w 135 0)) X hT hWσ_12 2 7 135 vl2_0 rfl rfl (by decide) rfl (by decide) in_X4 q230 rfl dX4_read_64 ?_
      refine lv_iload_n X.1 X.2.1 dX4_read_67 rfl (lv_at hl 3 rfl) ?_
      refine lv_iconst (v := oI 1) X.1 X.2.1 dX4_read_68 rfl ?_
      obtain ⟨bi, h⟩ := h
      refine w_zast (n := (wc w).1) X hT hWσ_12 hS 135 vl135_0 (by decide) rfl rfl bi rZ_1 dX4_read_69 (fun H locs hN hS => ?_)
      obtain ⟨σ_14, eσ_14⟩ : ∃ x, x = sA σ_12 135 0 x1 1 := ⟨_, rfl⟩
      have hWσ_14 : Wo w σ_14 H := eσ_14 ▸ hN
      have h := h σ_14 eσ_14
      clear hN
      refine lv_iload X.1 X.2.1 dX4_read_70 (lv_at hl 0 rfl) ?_
      refine lv_sipush (v := oI 2047) X.1 X.2.1 dX4_read_72 (by decide) ?_
      refine w_iand X dX4_read_75 ?_
      refine lv_iconst (v := oI 1) X.1 X.2.1 dX4_read_76 rfl ?_
      refine w_isub X dX4_read_77 ?_
      refine w_top (fun y7_15 ey7_15 => ?_)
      have h := h y7_15 ey7_15
      have ry7_15 : rI y7_15 := by rw [ey7_15]; exact (w32_r _)
      refine lv_istore (i := 7) (lv' := [(7, .int (oI y7_15)), (6, .int (oI y6_13)), (5, .int (oI y5_9)), (0, .ref (wad w 2 0)), (1, .int (oI x1)), (2, .int (oI x2)), (3, .ref (wad w x3f x3o)), (4, .int (oI x4))]) X.1 X.2.1 dX4_read_78 hl (by decide) (by first | rfl | simp [catK, catI, catR, catL]) (fun ls hl => ?_)
      refine lv_aload_n X.1 X.2.1 dX4_read_80 rfl (lv_at hl 6 rfl) ?_
      refine lv_iload X.1 X.2.1 dX4_read_81 (lv_at hl 7 rfl) ?_
      refine lv_iload X.1 X.2.1 dX4_read_83 (lv_at hl 0 rfl) ?_
      refine lv_bipush (v := oI 8) X.1 X.2.1 dX4_read_85 (by decide) ?_
      refine w_idiv X ry7_15 ((rB_lit 8 (by decide)).i) (by decide) dX4_read_87 ?_
      refine w_iadd X dX4_read_88 ?_
      refine lv_dup2_11 X.1 X.2.1 dX4_read_89 rfl rfl ?_
      obtain ⟨bi, h⟩ := h
      refine w_bald (n := (aln (wc w) x3f x3o)) X hT hWσ_14 x3f vx3 nx3 tx3 rfl bi dX4_read_90 ?_
      refine lv_iconst (v := oI 1) X.1 X.2.1 dX4_read_91 rfl ?_
      refine lv_iload X.1 X.2.1 dX4_read_92 (lv_at hl 0 rfl) ?_
      refine lv_bipush (v := oI 8) X.1 X.2.1 dX4_read_94 (by decide) ?_
      refine w_irem X ry7_15 ((rB_lit 8 (by decide)).i) (by decide) dX4_read_96 ?_
      refine w_ishl X dX4_read_97 ?_
      refine w_i2b X dX4_read_98 ?_
      refine w_ixor X dX4_read_99 ?_
      refine w_i2b X dX4_read_100 ?_
      obtain ⟨bi, h⟩ := h
      refine w_bast (n := (aln (wc w) x3f x3o)) X hT hWσ_14 hS x3f vx3 nx3 tx3 rfl bi (b8_r _) dX4_read_101 (fun H locs hN hS => ?_)
      obtain ⟨σ_16, eσ_16⟩ : ∃ x, x = sA σ_14 x3f x3o (w32 (x4 + (jdv y7_15 8))) (b8 (ixor (gA σ_14 x3f x3o (w32 (x4 + (jdv y7_15 8)))) (b8 (ishl 1 (jrm y7_15 8))))) := ⟨_, rfl⟩
      have hWσ_16 : Wo w σ_16 H := eσ_16 ▸ hN
      have h := h σ_16 eσ_16
      clear hN
      exact wret_V X hr hlk hWσ_16 hS h dX4_read_102
    · have h := h.2 hc
      exact wret_V X hr hlk hWσ_12 hS h dX4_read_62
  · have h := h.2 hc
    exact wret_V X hr hlk hWσ_10 hS h dX4_read_39
/-! Knot.begin(I)V -/
set_option maxHeartbeats 4000000 in
set_option maxRecDepth 100000 in
theorem met_Knot_begin (l : Launch) {w : Wp} (hV : Hvl w) (o : Int) (x1 : Int) (Q : St → Prop) (σ : St) (ho : 0 ≤ o ∧ o < 640) (rx1 : rI x1) (h : wp_Knot_begin (wc w) (wtv w) o x1 Q σ) : Met l yX9_begin (ws_ yX9_begin cX9_begin 2 none) rm_Knot_begin (PcW w σ [.ref (wad w 9 o), .int (oI x1)]) (QcV w Q) 0 0 (wA w) := by
  refine Met.ofW (cc := cX9_begin) (maxL := 2) (ret := none) (by decide) rfl ?_
  intro p e st m args below meth c s₁ B hml hv
  obtain ⟨hargs, hW, hT⟩ := hv
  have X : CallFix p m c cX9_begin 2 st _ lw_all RX9 := ⟨B.exec, B.bytes, hml, findClass_of_methodNamed B.named, fun w h => atoms_spec (ws := ws_ yX9_begin cX9_begin 2 none) B.pre w (List.mem_cons_of_mem _ h)⟩
  have hr := B.returns
  have hlk := B.notSynchronized
  have hS : va_S (wA w) st.heap st.heap [] := va_S.rf
  have vl9_o : vl w 9 o := hV.hv 9 rfl ⟨by omega, by show _ < (640 : Int); omega⟩
  have hl := lv_entry ([.ref (wad w 9 o), .int (oI x1)]) (n := 2) (Nat.le_of_ble_eq_true rfl)
  have hfr := lg_entry_eq m ([.ref (wad w 9 o), .int (oI x1)]) 2
  rw [← hargs] at hfr
  rw [hfr]
  generalize (lg_sl ([.ref (wad w 9 o), .int (oI x1)]) ++ List.replicate (2 - (lg_sl ([.ref (wad w 9 o), .int (oI x1)])).length) Slot.unset).toArray = ls at hl ⊢
  have hl : lv_has ls 2 [(0, .ref (wad w 9 o)), (1, .int (oI x1))] := hl
  unfold wp_Knot_begin at h
  refine lv_aload_n X.1 X.2.1 dX9_begin_0 rfl (lv_at hl 0 rfl) ?_
  refine lv_iload_n X.1 X.2.1 dX9_begin_1 rfl (lv_at hl 1 rfl) ?_
  refine wput (z := x1) X hT hW hS 9 0 576 vl9_o rfl rfl (by decide) rfl (by decide) in_X9 tyX9 tyX9_ok nmX9 q383 rfl rfl rx1 (fv0 w rfl) rfl rfl dX9_begin_2 (fun H locs hN hS => ?_)
  obtain ⟨σ_5, eσ_5⟩ : ∃ x, x = sI σ 576 o x1 := ⟨_, rfl⟩
  have hWσ_5 : Wo w σ_5 H := eσ_5 ▸ hN
  have h := h σ_5 eσ_5
  clear hN
  refine lv_aload_n X.1 X.2.1 dX9_begin_5 rfl (lv_at hl 0 rfl) ?_
  refine lv_iconst (v := oI 0) X.1 X.2.1 dX9_begin_6 rfl ?_
  refine wput (z := 0) X hT hWσ_5 hS 9 1 577 vl9_o rfl rfl (by decide) rfl (by decide) in_X9 tyX9 tyX9_ok nmX9 q386 rfl rfl rZ_0.i (fv0 w rfl) rfl rfl dX9_begin_7 (fun H locs hN hS => ?_)
  obtain ⟨σ_6, eσ_6⟩ : ∃ x, x = sI σ_5 577 o 0 := ⟨_, rfl⟩
  have hWσ_6 : Wo w σ_6 H := eσ_6 ▸ hN
  have h := h σ_6 eσ_6
  clear hN
  refine lv_aload_n X.1 X.2.1 dX9_begin_10 rfl (lv_at hl 0 rfl) ?_
  refine lv_iconst (v := oI 1) X.1 X.2.1 dX9_begin_11 rfl ?_
  refine wput (z := 1) X hT hWσ_6 hS 9 8 584 vl9_o rfl rfl (by decide) rfl (by decide) in_X9 tyX9 tyX9_ok nmX9 q407 rfl rfl rZ_1 (fv3 w rfl) (nrZ rZ_1) (ftZ rZ_1) dX9_begin_12 (fun H locs hN hS => ?_)
  obtain ⟨σ_7, eσ_7⟩ : ∃ x, x = sI σ_6 584 o 1 := ⟨_, rfl⟩
  have hWσ_7 : Wo w σ_7 H := eσ_7 ▸ hN
  have h := h σ_7 eσ_7
  clear hN
  refine lv_aload_n X.1 X.2.1 dX9_begin_15 rfl (lv_at hl 0 rfl) ?_
  refine lv_iconst (v := oI (-1)) X.1 X.2.1 dX9_begin_16 rfl ?_
  refine wput (z := (-1)) X hT hWσ_7 hS 9 9 585 vl9_o rfl rfl (by decide) rfl (by decide) in_X9 tyX9 tyX9_ok nmX9 q410 rfl rfl ((rB_lit (-1) (by decide)).i) (fv0 w rfl) rfl rfl dX9_begin_17 (fun H locs hN hS => ?_)
  obtain ⟨σ_8, eσ_8⟩ : ∃ x, x = sI σ_7 585 o (-1) := ⟨_, rfl⟩
  have hWσ_8 : Wo w σ_8 H := eσ_8 ▸ hN
  have h := h σ_8 eσ_8
  clear hN
  exact wret_V X hr hlk hWσ_8 hS h dX9_begin_20
/-! Long.compare(JJ)I -/
set_option maxHeartbeats 4000000 in
set_option maxRecDepth 100000 in
theorem met_Long_compare (l : Launch) {w : Wp} (x0 : Int) (x2 : Int) (Q : Int → St → Prop) (σ : St) (rx0 : rJ x0) (rx2 : rJ x2) (h : wp_Long_compare (wc w) (wtv w) x0 x2 Q σ) : Met l yJ5_compare (ws_ yJ5_compare cJ5_compare 4 (some .int)) rm_Long_compare (PcW w σ [.long (oL x0), .long (oL x2)]) (QcI w Q) 0 0 (wA w) := by
  refine Met.ofW (cc := cJ5_compare) (maxL := 4) (ret := (some .int)) (by decide) rfl ?_
  intro p e st m args below meth c s₁ B hml hv
  obtain ⟨hargs, hW, hT⟩ := hv
  have X : CallFix p m c cJ5_compare 4 st _ lw_all RJ5 := ⟨B.exec, B.bytes, hml, findClass_of_methodNamed B.named, fun w h => atoms_spec (ws := ws_ yJ5_compare cJ5_compare 4 (some .int)) B.pre w (List.mem_cons_of_mem _ h)⟩
  have hr := B.returns
  have hlk := B.notSynchronized
  have hS : va_S (wA w) st.heap st.heap [] := va_S.rf
  have hl := lv_entry ([.long (oL x0), .long (oL x2)]) (n := 4) (Nat.le_of_ble_eq_true rfl)
  have hfr := lg_entry_eq m ([.long (oL x0), .long (oL x2)]) 4
  rw [← hargs] at hfr
  rw [hfr]
  generalize (lg_sl ([.long (oL x0), .long (oL x2)]) ++ List.replicate (4 - (lg_sl ([.long (oL x0), .long (oL x2)])).length) Slot.unset).toArray = ls at hl ⊢
  have hl : lv_has ls 4 [(0, .long (oL x0)), (2, .long (oL x2))] := hl
  unfold wp_Long_compare at h
  refine lv_lload_n X.1 X.2.1 dJ5_compare_0 rfl (lv_at hl 0 rfl) ?_
  refine lv_lload_n X.1 X.2.1 dJ5_compare_1 rfl (lv_at hl 1 rfl) ?_
  refine w_lcmp_ge (tgt := 10) X rx0 rx2 dJ5_compare_2 dJ5_compare_3 (by decide) (fun hc => ?_) (fun hc => ?_)
  · have h := h.1 hc
    refine lv_lload_n X.1 X.2.1 dJ5_compare_10 rfl (lv_at hl 0 rfl) ?_
    refine lv_lload_n X.1 X.2.1 dJ5_compare_11 rfl (lv_at hl 1 rfl) ?_
    refine w_lcmp_ne (tgt := 20) X rx0 rx2 dJ5_compare_12 dJ5_compare_13 (by decide) (fun hc => ?_) (fun hc => ?_)
    · have h := h.1 hc
      refine lv_iconst (v := oI 1) X.1 X.2.1 dJ5_compare_20 rfl ?_
      exact wret_I X hr hlk hW hS rZ_1.i h dJ5_compare_21
    · have h := h.2 hc
      refine lv_iconst (v := oI 0) X.1 X.2.1 dJ5_compare_16 rfl ?_
      refine lv_goto (tgt := 21) X.1 X.2.1 dJ5_compare_17 (by decide) ?_
      exact wret_I X hr hlk hW hS rZ_0.i h dJ5_compare_21
  · have h := h.2 hc
    refine lv_iconst (v := oI (-1)) X.1 X.2.1 dJ5_compare_6 rfl ?_
    refine lv_goto (tgt := 21) X.1 X.2.1 dJ5_compare_7 (by decide) ?_
    exact wret_I X hr hlk hW hS ((rB_lit (-1) (by decide)).i) h dJ5_compare_21
/-! Long.compareUnsigned(JJ)I -/
set_option maxHeartbeats 4000000 in
set_option maxRecDepth 100000 in
theorem met_Long_compareUnsigned (l : Launch) {w : Wp} (x0 : Int) (x2 : Int) (Q : Int → St → Prop) (σ : St) (rx0 : rJ x0) (rx2 : rJ x2) (h : wp_Long_compareUnsigned (wc w) (wtv w) x0 x2 Q σ) : Met l yJ5_compareUnsigned (ws_ yJ5_compareUnsigned cJ5_compareUnsigned 4 (some .int)) rm_Long_compareUnsigned (PcW w σ [.long (oL x0), .long (oL x2)]) (QcI w Q) 0 0 (wA w) := by
  refine Met.ofW (cc := cJ5_compareUnsigned) (maxL := 4) (ret := (some .int)) (by decide) rfl ?_
  intro p e st m args below meth c s₁ B hml hv
  obtain ⟨hargs, hW, hT⟩ := hv
  have X : CallFix p m c cJ5_compareUnsigned 4 st _ lw_all RJ5 := ⟨B.exec, B.bytes, hml, findClass_of_methodNamed B.named, fun w h => atoms_spec (ws := ws_ yJ5_compareUnsigned cJ5_compareUnsigned 4 (some .int)) B.pre w (List.mem_cons_of_mem _ h)⟩
  have hr := B.returns
  have hlk := B.notSynchronized
  have hS : va_S (wA w) st.heap st.heap [] := va_S.rf
  have hl := lv_entry ([.long (oL x0), .long (oL x2)]) (n := 4) (Nat.le_of_ble_eq_true rfl)
  have hfr := lg_entry_eq m ([.long (oL x0), .long (oL x2)]) 4
  rw [← hargs] at hfr
  rw [hfr]
  generalize (lg_sl ([.long (oL x0), .long (oL x2)]) ++ List.replicate (4 - (lg_sl ([.long (oL x0), .long (oL x2)])).length) Slot.unset).toArray = ls at hl ⊢
  have hl : lv_has ls 4 [(0, .long (oL x0)), (2, .long (oL x2))] := hl
  unfold wp_Long_compareUnsigned at h
  refine lv_lload_n X.1 X.2.1 dJ5_compareUnsigned_0 rfl (lv_at hl 0 rfl) ?_
  refine w_ldc2 X (z := (-9223372036854775808)) q919 (by decide) dJ5_compareUnsigned_1 ?_
  refine w_ladd X dJ5_compareUnsigned_4 ?_
  refine lv_lload_n X.1 X.2.1 dJ5_compareUnsigned_5 rfl (lv_at hl 1 rfl) ?_
  refine w_ldc2 X (z := (-9223372036854775808)) q919 (by decide) dJ5_compareUnsigned_6 ?_
  refine w_ladd X dJ5_compareUnsigned_9 ?_
  refine wr_I (rS (As := [.long (oL (w64 (x0 + (-9223372036854775808)))), .long (oL (w64 (x2 + (-9223372036854775808))))]) (rest := []) X hT hW hS (met_Long_compare l (w := w) (w64 (x0 + (-9223372036854775808))) (w64 (x2 + (-9223372036854775808))) _ σ (w64_r _) (w64_r _) h) (va_cwS 2 X.2.2.2.2 (lw_S q920 q921 q148 q922) rfl rfl rfl (by decide +kernel) ⟨Nat.le_of_ble_eq_true rfl, Nat.le_of_ble_eq_true rfl⟩) rfl hl.1 rfl (by first | exact Nat.le_of_ble_eq_true rfl | simp [catK, catI, catR, catL]) dJ5_compareUnsigned_10 ⟨Nat.le_refl _, Nat.le_refl _⟩) hS (fun r_3 σ_4 H locs rr_3 rkσ_4 h hWσ_4 hS => ?_)
  have h := h rr_3 rkσ_4
  exact wret_I X hr hlk hWσ_4 hS rr_3 h dJ5_compareUnsigned_13
/-! Knot.isBefore(JJJJ)Z -/
set_option maxHeartbeats 4000000 in
set_option maxRecDepth 100000 in
theorem met_Knot_isBefore (l : Launch) {w : Wp} (x0 : Int) (x2 : Int) (x4 : Int) (x6 : Int) (Q : Int → St → Prop) (σ : St) (rx0 : rJ x0) (rx2 : rJ x2) (rx4 : rJ x4) (rx6 : rJ x6) (h : wp_Knot_isBefore (wc w) (wtv w) x0 x2 x4 x6 Q σ) : Met l yX9_isBefore (ws_ yX9_isBefore cX9_isBefore 8 (some .boolean)) rm_Knot_isBefore (PcW w σ [.long (oL x0), .long (oL x2), .long (oL x4), .long (oL x6)]) (QcZ w Q) 0 0 (wA w) := by
  refine Met.ofW (cc := cX9_isBefore) (maxL := 8) (ret := (some .boolean)) (by decide) rfl ?_
  intro p e st m args below meth c s₁ B hml hv
  obtain ⟨hargs, hW, hT⟩ := hv
  have X : CallFix p m c cX9_isBefore 8 st _ lw_all RX9 := ⟨B.exec, B.bytes, hml, findClass_of_methodNamed B.named, fun w h => atoms_spec (ws := ws_ yX9_isBefore cX9_isBefore 8 (some .boolean)) B.pre w (List.mem_cons_of_mem _ h)⟩
  have hr := B.returns
  have hlk := B.notSynchronized
  have hS : va_S (wA w) st.heap st.heap [] := va_S.rf
  have hl := lv_entry ([.long (oL x0), .long (oL x2), .long (oL x4), .long (oL x6)]) (n := 8) (Nat.le_of_ble_eq_true rfl)
  have hfr := lg_entry_eq m ([.long (oL x0), .long (oL x2), .long (oL x4), .long (oL x6)]) 8
  rw [← hargs] at hfr
  rw [hfr]
  generalize (lg_sl ([.long (oL x0), .long (oL x2), .long (oL x4), .long (oL x6)]) ++ List.replicate (8 - (lg_sl ([.long (oL x0), .long (oL x2), .long (oL x4), .long (oL x6)])).length) Slot.unset).toArray = ls at hl ⊢
  have hl : lv_has ls 8 [(0, .long (oL x0)), (2, .long (oL x2)), (4, .long (oL x4)), (6, .long (oL x6))] := hl
  unfold wp_Knot_isBefore at h
  refine lv_lload_n X.1 X.2.1 dX9_isBefore_0 rfl (lv_at hl 0 rfl) ?_
  refine lv_lload X.1 X.2.1 dX9_isBefore_1 (lv_at hl 2 rfl) ?_
  refine w_lcmp_eq (tgt := 22) X rx0 rx4 dX9_isBefore_3 dX9_isBefore_4 (by decide) (fun hc => ?_) (fun hc => ?_)
  · have h := h.1 hc
    refine lv_lload_n X.1 X.2.1 dX9_isBefore_22 rfl (lv_at hl 1 rfl) ?_
    refine lv_lload X.1 X.2.1 dX9_isBefore_23 (lv_at hl 3 rfl) ?_
    refine wr_I (rS (As := [.long (oL x2), .long (oL x6)]) (rest := []) X hT hW hS (met_Long_compareUnsigned l (w := w) x2 x6 _ σ rx2 rx6 h) (va_cwS 2 X.2.2.2.2 (lw_S q916 q917 q148 q918) rfl rfl rfl (by decide +kernel) ⟨Nat.le_of_ble_eq_true rfl, Nat.le_of_ble_eq_true rfl⟩) rfl hl.1 rfl (by first | exact Nat.le_of_ble_eq_true rfl | simp [catK, catI, catR, catL]) dX9_isBefore_25 ⟨Nat.le_refl _, Nat.le_refl _⟩) hS (fun r_3 σ_4 H locs rr_3 rkσ_4 h hWσ_4 hS => ?_)
    have h := h rr_3 rkσ_4
    refine w_if_ge (tgt := 35) X rr_3 dX9_isBefore_28 (by decide) (fun hc => ?_) (fun hc => ?_)
    · have h := h.1 hc
      refine lv_iconst (v := oI 0) X.1 X.2.1 dX9_isBefore_35 rfl ?_
      exact wret_Z X hr hlk hWσ_4 hS rZ_0 h dX9_isBefore_36
    · have h := h.2 hc
      refine lv_iconst (v := oI 1) X.1 X.2.1 dX9_isBefore_31 rfl ?_
      refine lv_goto (tgt := 36) X.1 X.2.1 dX9_isBefore_32 (by decide) ?_
      exact wret_Z X hr hlk hWσ_4 hS rZ_1 h dX9_isBefore_36
  · have h := h.2 hc
    refine lv_lload_n X.1 X.2.1 dX9_isBefore_7 rfl (lv_at hl 0 rfl) ?_
    refine lv_lload X.1 X.2.1 dX9_isBefore_8 (lv_at hl 2 rfl) ?_
    refine w_lcmp_ge (tgt := 18) X rx0 rx4 dX9_isBefore_10 dX9_isBefore_11 (by decide) (fun hc => ?_) (fun hc => ?_)
    · have h := h.1 hc
      refine lv_iconst (v := oI 0) X.1 X.2.1 dX9_isBefore_18 rfl ?_
      refine lv_goto (tgt := 36) X.1 X.2.1 dX9_isBefore_19 (by decide) ?_
      exact wret_Z X hr hlk hW hS rZ_0 h dX9_isBefore_36
    · have h := h.2 hc
      refine lv_iconst (v := oI 1) X.1 X.2.1 dX9_isBefore_14 rfl ?_
      refine lv_goto (tgt := 36) X.1 X.2.1 dX9_isBefore_15 (by decide) ?_
      exact wret_Z X hr hlk hW hS rZ_1 h dX9_isBefore_36
/-! Knot.slot(JJ)I -/
set_option maxHeartbeats 4000000 in
set_option maxRecDepth 100000 in
theorem wk_Knot_slot_L8B {p : Program} {l : Launch} {e : Env} {st : State} {m : MethodId} {args : Array Value} {below : List Frame} {meth : Method} {c : Code} {w : Wp} {o : Int} {x1 : Int} {x3 : Int} {Q : Int → St → Prop} (X : CallFix p m c cX9_slot 6 st args lw_all RX9) (hr : meth.sig.returnType = (some .int)) (hlk : meth.locks = false) (hT : Tb w st) (hV : Hvl w) (ho : 0 ≤ o ∧ o < 640) (rx1 : rJ x1) (rx3 : rJ x3) (K8 : Int → St → Prop) (hK8 : ∀ (y5 : Int) (σ : St) (H : Heap) (locs : List Loc) (ls : Array Slot), rI y5 → lv_has ls 6 [(0, .ref (wad w 9 o)), (1, .long (oL x1)), (3, .long (oL x3)), (5, .int (oI y5))] → Wo w σ H → va_S (wA w) st.heap H locs → K8 y5 σ → W p l e (headSpec (ws_ yX9_slot cX9_slot 6 (some .int)) rm_Knot_slot).room st m args below meth c H locs 0 0 (MQ below (QcI w Q) args st 0 0 (wA w)) (F0 m 8 ls [])) : ∀ (y5 : Int) (σ : St) (H : Heap) (locs : List Loc) (ls : Array Slot), rI y5 → lv_has ls 6 [(0, .ref (wad w 9 o)), (1, .long (oL x1)), (3, .long (oL x3)), (5, .int (oI y5))] → Wo w σ H → va_S (wA w) st.heap H locs → wp_Knot_slot_L8 (wc w) (wtv w) o x1 x3 Q K8 y5 σ → W p l e (headSpec (ws_ yX9_slot cX9_slot 6 (some .int)) rm_Knot_slot).room st m args below meth c H locs 0 0 (MQ below (QcI w Q) args st 0 0 (wA w)) (F0 m 8 ls []) := by
  have vl578_o : vl w 578 o := hV.hv 578 rfl ⟨by omega, by show _ < (640 : Int); omega⟩
  have vl579_o : vl w 579 o := hV.hv 579 rfl ⟨by omega, by show _ < (640 : Int); omega⟩
  have vl9_o : vl w 9 o := hV.hv 9 rfl ⟨by omega, by show _ < (640 : Int); omega⟩
  intro y5 σ H locs ls ry5 hl hW hS h
  unfold wp_Knot_slot_L8 at h
  refine lv_iload X.1 X.2.1 dX9_slot_8 (lv_at hl 3 rfl) ?_
  refine w_if_lt (tgt := 41) X ry5 dX9_slot_10 (by decide) (fun hc => ?_) (fun hc => ?_)
  · have h := h.1 hc
    refine lv_iload X.1 X.2.1 dX9_slot_41 (lv_at hl 3 rfl) ?_
    exact wret_I X hr hlk hW hS ry5 h dX9_slot_43
  · have h := h.2 hc
    refine lv_lload_n X.1 X.2.1 dX9_slot_13 rfl (lv_at hl 1 rfl) ?_
    refine lv_lload_n X.1 X.2.1 dX9_slot_14 rfl (lv_at hl 2 rfl) ?_
    refine lv_aload_n X.1 X.2.1 dX9_slot_15 rfl (lv_at hl 0 rfl) ?_
    refine wg (v := .ref (wad w 578 o)) X hT hW 9 2 578 vl9_o rfl rfl (by decide) rfl (by decide) in_X9 q389 rfl dX9_slot_16 ?_
    refine lv_iload X.1 X.2.1 dX9_slot_19 (lv_at hl 3 rfl) ?_
    obtain ⟨bi, h⟩ := h
    refine w_lald (n := 9) X hT hW 578 vl578_o (by decide) rfl rfl bi dX9_slot_21 ?_
    refine lv_aload_n X.1 X.2.1 dX9_slot_22 rfl (lv_at hl 0 rfl) ?_
    refine wg (v := .ref (wad w 579 o)) X hT hW 9 3 579 vl9_o rfl rfl (by decide) rfl (by decide) in_X9 q392 rfl dX9_slot_23 ?_
    refine lv_iload X.1 X.2.1 dX9_slot_26 (lv_at hl 3 rfl) ?_
    obtain ⟨bi, h⟩ := h
    refine w_lald (n := 9) X hT hW 579 vl579_o (by decide) rfl rfl bi dX9_slot_28 ?_
    refine wr_Z (rS (As := [.long (oL x1), .long (oL x3), .long (oL (gA σ 578 o y5)), .long (oL (gA σ 579 o y5))]) (rest := []) X hT hW hS (met_Knot_isBefore l (w := w) x1 x3 (gA σ 578 o y5) (gA σ 579 o y5) _ σ rx1 rx3 (hW.r.aj 578 o y5 rfl) (hW.r.aj 579 o y5 rfl) h) (va_cwS 4 X.2.2.2.2 (lw_S q913 q914 q140 q915) rfl rfl rfl (by decide +kernel) ⟨Nat.le_of_ble_eq_true rfl, Nat.le_of_ble_eq_true rfl⟩) rfl hl.1 rfl (by first | exact Nat.le_of_ble_eq_true rfl | simp [catK, catI, catR, catL]) dX9_slot_29 ⟨Nat.le_refl _, Nat.le_refl _⟩) hS (fun r_5 σ_6 H locs rr_5 rkσ_6 h hWσ_6 hS => ?_)
    have h := h rr_5 rkσ_6
    refine w_if_eq (tgt := 41) X rr_5.i dX9_slot_32 (by decide) (fun hc => ?_) (fun hc => ?_)
    · have h := h.1 hc
      refine lv_iload X.1 X.2.1 dX9_slot_41 (lv_at hl 3 rfl) ?_
      exact wret_I X hr hlk hWσ_6 hS ry5 h dX9_slot_43
    · have h := h.2 hc
      obtain ⟨y5_7, ey5_7⟩ : ∃ y : Int, y = w32 (y5 + (-1)) := ⟨_, rfl⟩
      have h := h y5_7 ey5_7
      have ry5_7 : rI y5_7 := by rw [ey5_7]; exact w32_r _
      refine lv_iinc (v := oI y5_7) (lv' := [(5, .int (oI y5_7)), (0, .ref (wad w 9 o)), (1, .long (oL x1)), (3, .long (oL x3))]) X.1 X.2.1 dX9_slot_35 hl (k := 3) rfl (by rw [ey5_7]; exact oI_add _ _) (by decide) (by first | rfl | simp [catK, catI, catR, catL]) (fun ls hl => ?_)
      refine lv_goto (tgt := 8) X.1 X.2.1 dX9_slot_38 (by decide) ?_
      exact hK8 y5_7 σ_6 _ _ _ ry5_7 (lv_sub hl [1, 2, 3, 0] rfl) hWσ_6 hS h
theorem wk_Knot_slot_L8 {p : Program} {l : Launch} {e : Env} {st : State} {m : MethodId} {args : Array Value} {below : List Frame} {meth : Method} {c : Code} {w : Wp} {o : Int} {x1 : Int} {x3 : Int} {Q : Int → St → Prop} (X : CallFix p m c cX9_slot 6 st args lw_all RX9) (hr : meth.sig.returnType = (some .int)) (hlk : meth.locks = false) (hT : Tb w st) (hV : Hvl w) (ho : 0 ≤ o ∧ o < 640) (rx1 : rJ x1) (rx3 : rJ x3) : ∀ (y5 : Int) (σ : St) (H : Heap) (locs : List Loc) (ls : Array Slot), rI y5 → lv_has ls 6 [(0, .ref (wad w 9 o)), (1, .long (oL x1)), (3, .long (oL x3)), (5, .int (oI y5))] → Wo w σ H → va_S (wA w) st.heap H locs → lQ1 (wp_Knot_slot_L8 (wc w) (wtv w) o x1 x3 Q) y5 σ → W p l e (headSpec (ws_ yX9_slot cX9_slot 6 (some .int)) rm_Knot_slot).room st m args below meth c H locs 0 0 (MQ below (QcI w Q) args st 0 0 (wA w)) (F0 m 8 ls []) := by
  intro y5 σ H locs ls ry5 hl hW hS h
  obtain ⟨fu, h⟩ := h
  induction fu generalizing y5 σ H locs ls with
  | zero => exact h.elim
  | succ fu ih =>
    exact wk_Knot_slot_L8B X hr hlk hT hV ho rx1 rx3 (lq1 (wp_Knot_slot_L8 (wc w) (wtv w) o x1 x3 Q) fu) (fun y5 σ H locs ls ry5 hl hW hS h => ih y5 σ H locs ls ry5 hl hW hS h) y5 σ H locs ls ry5 hl hW hS h
set_option maxHeartbeats 4000000 in
set_option maxRecDepth 100000 in
theorem met_Knot_slot (l : Launch) {w : Wp} (hV : Hvl w) (o : Int) (x1 : Int) (x3 : Int) (Q : Int → St → Prop) (σ : St) (ho : 0 ≤ o ∧ o < 640) (rx1 : rJ x1) (rx3 : rJ x3) (h : wp_Knot_slot (wc w) (wtv w) o x1 x3 Q σ) : Met l yX9_slot (ws_ yX9_slot cX9_slot 6 (some .int)) rm_Knot_slot (PcW w σ [.ref (wad w 9 o), .long (oL x1), .long (oL x3)]) (QcI w Q) 0 0 (wA w) := by
  refine Met.ofW (cc := cX9_slot) (maxL := 6) (ret := (some .int)) (by decide) rfl ?_
  intro p e st m args below meth c s₁ B hml hv
  obtain ⟨hargs, hW, hT⟩ := hv
  have X : CallFix p m c cX9_slot 6 st _ lw_all RX9 := ⟨B.exec, B.bytes, hml, findClass_of_methodNamed B.named, fun w h => atoms_spec (ws := ws_ yX9_slot cX9_slot 6 (some .int)) B.pre w (List.mem_cons_of_mem _ h)⟩
  have hr := B.returns
  have hlk := B.notSynchronized
  have hS : va_S (wA w) st.heap st.heap [] := va_S.rf
  have vl9_o : vl w 9 o := hV.hv 9 rfl ⟨by omega, by show _ < (640 : Int); omega⟩
  have hl := lv_entry ([.ref (wad w 9 o), .long (oL x1), .long (oL x3)]) (n := 6) (Nat.le_of_ble_eq_true rfl)
  have hfr := lg_entry_eq m ([.ref (wad w 9 o), .long (oL x1), .long (oL x3)]) 6
  rw [← hargs] at hfr
  rw [hfr]
  generalize (lg_sl ([.ref (wad w 9 o), .long (oL x1), .long (oL x3)]) ++ List.replicate (6 - (lg_sl ([.ref (wad w 9 o), .long (oL x1), .long (oL x3)])).length) Slot.unset).toArray = ls at hl ⊢
  have hl : lv_has ls 6 [(0, .ref (wad w 9 o)), (1, .long (oL x1)), (3, .long (oL x3))] := hl
  unfold wp_Knot_slot at h
  refine lv_aload_n X.1 X.2.1 dX9_slot_0 rfl (lv_at hl 0 rfl) ?_
  refine wg (v := .int (oI (gI σ 577 o))) X hT hW 9 1 577 vl9_o rfl rfl (by decide) rfl (by decide) in_X9 q386 rfl dX9_slot_1 ?_
  refine lv_iconst (v := oI 1) X.1 X.2.1 dX9_slot_4 rfl ?_
  refine w_isub X dX9_slot_5 ?_
  refine w_top (fun y5_8 ey5_8 => ?_)
  have h := h y5_8 ey5_8
  have ry5_8 : rI y5_8 := by rw [ey5_8]; exact (w32_r _)
  refine lv_istore (i := 5) (lv' := [(5, .int (oI y5_8)), (0, .ref (wad w 9 o)), (1, .long (oL x1)), (3, .long (oL x3))]) X.1 X.2.1 dX9_slot_6 hl (by decide) (by first | rfl | simp [catK, catI, catR, catL]) (fun ls hl => ?_)
  exact wk_Knot_slot_L8 X hr hlk hT hV ho rx1 rx3 y5_8 σ _ _ _ ry5_8 (lv_sub hl [1, 2, 3, 0] rfl) hW hS h
/-! Knot.take(ILNandHouse$Knot;I)V -/
set_option maxHeartbeats 4000000 in
set_option maxRecDepth 100000 in
theorem met_Knot_take (l : Launch) {w : Wp} (hV : Hvl w) (o : Int) (x1 : Int) (x2 : Int) (x3 : Int) (Q : St → Prop) (σ : St) (ho : 0 ≤ o ∧ o < 640) (rx1 : rI x1) (rx2 : rK x2) (rx3 : rI x3) (h : wp_Knot_take (wc w) (wtv w) o x1 x2 x3 Q σ) : Met l yX9_take (ws_ yX9_take cX9_take 4 none) rm_Knot_take (PcW w σ [.ref (wad w 9 o), .int (oI x1), va_rf (knO w x2), .int (oI x3)]) (QcV w Q) 0 0 (wA w) := by
  refine Met.ofW (cc := cX9_take) (maxL := 4) (ret := none) (by decide) rfl ?_
  intro p e st m args below meth c s₁ B hml hv
  obtain ⟨hargs, hW, hT⟩ := hv
  have X : CallFix p m c cX9_take 4 st _ lw_all RX9 := ⟨B.exec, B.bytes, hml, findClass_of_methodNamed B.named, fun w h => atoms_spec (ws := ws_ yX9_take cX9_take 4 none) B.pre w (List.mem_cons_of_mem _ h)⟩
  have hr := B.returns
  have hlk := B.notSynchronized
  have hS : va_S (wA w) st.heap st.heap [] := va_S.rf
  have vl578_o : vl w 578 o := hV.hv 578 rfl ⟨by omega, by show _ < (640 : Int); omega⟩
  have vl579_o : vl w 579 o := hV.hv 579 rfl ⟨by omega, by show _ < (640 : Int); omega⟩
  have vl580_o : vl w 580 o := hV.hv 580 rfl ⟨by omega, by show _ < (640 : Int); omega⟩
  have vl581_o : vl w 581 o := hV.hv 581 rfl ⟨by omega, by show _ < (640 : Int); omega⟩
  have vl582_o : vl w 582 o := hV.hv 582 rfl ⟨by omega, by show _ < (640 : Int); omega⟩
  have vl583_o : vl w 583 o := hV.hv 583 rfl ⟨by omega, by show _ < (640 : Int); omega⟩
  have vl9_o : vl w 9 o := hV.hv 9 rfl ⟨by omega, by show _ < (640 : Int); omega⟩
  have hl := lv_entry ([.ref (wad w 9 o), .int (oI x1), va_rf (knO w x2), .int (oI x3)]) (n := 4) (by simp [lg_sl, catK, catI, catR, catL])
  have hfr := lg_entry_eq m ([.ref (wad w 9 o), .int (oI x1), va_rf (knO w x2), .int (oI x3)]) 4
  rw [← hargs] at hfr
  rw [hfr]
  generalize (lg_sl ([.ref (wad w 9 o), .int (oI x1), va_rf (knO w x2), .int (oI x3)]) ++ List.replicate (4 - (lg_sl ([.ref (wad w 9 o), .int (oI x1), va_rf (knO w x2), .int (oI x3)])).length) Slot.unset).toArray = ls at hl ⊢
  simp [lv_args, catK, catI, catR, catL] at hl
  have hl : lv_has ls 4 [(0, .ref (wad w 9 o)), (1, .int (oI x1)), (2, va_rf (knO w x2)), (3, .int (oI x3))] := hl
  unfold wp_Knot_take at h
  refine lv_aload_n X.1 X.2.1 dX9_take_0 rfl (lv_at hl 0 rfl) ?_
  refine wg (v := .ref (wad w 578 o)) X hT hW 9 2 578 vl9_o rfl rfl (by decide) rfl (by decide) in_X9 q389 rfl dX9_take_1 ?_
  refine lv_iload_n X.1 X.2.1 dX9_take_4 rfl (lv_at hl 1 rfl) ?_
  refine w_kload_n (w := w) X dX9_take_5 rfl (lv_at hl 2 rfl) ?_
  obtain ⟨hz_8, h⟩ := h
  rw [knR hz_8]
  refine wg (v := .ref (wad w 578 x2)) X hT hW 9 2 578 (hV.hv 9 rfl ⟨hz_8, rx2.2⟩) rfl rfl (by decide) rfl (by decide) in_X9 q389 rfl dX9_take_6 ?_
  refine lv_iload_n X.1 X.2.1 dX9_take_9 rfl (lv_at hl 3 rfl) ?_
  obtain ⟨bi, h⟩ := h
  refine w_lald (n := 9) X hT hW 578 (hV.hv 578 rfl ⟨hz_8, rx2.2⟩) (by decide) rfl rfl bi dX9_take_10 ?_
  obtain ⟨bi, h⟩ := h
  refine w_last (n := 9) X hT hW hS 578 vl578_o (by decide) rfl rfl bi (hW.r.aj 578 x2 x3 rfl) dX9_take_11 (fun H locs hN hS => ?_)
  obtain ⟨σ_9, eσ_9⟩ : ∃ x, x = sA σ 578 o x1 (gA σ 578 x2 x3) := ⟨_, rfl⟩
  have hWσ_9 : Wo w σ_9 H := eσ_9 ▸ hN
  have h := h σ_9 eσ_9
  clear hN
  refine lv_aload_n X.1 X.2.1 dX9_take_12 rfl (lv_at hl 0 rfl) ?_
  refine wg (v := .ref (wad w 579 o)) X hT hWσ_9 9 3 579 vl9_o rfl rfl (by decide) rfl (by decide) in_X9 q392 rfl dX9_take_13 ?_
  refine lv_iload_n X.1 X.2.1 dX9_take_16 rfl (lv_at hl 1 rfl) ?_
  refine w_kload_n (w := w) X dX9_take_17 rfl (lv_at hl 2 rfl) ?_
  rw [knR hz_8]
  refine wg (v := .ref (wad w 579 x2)) X hT hWσ_9 9 3 579 (hV.hv 9 rfl ⟨hz_8, rx2.2⟩) rfl rfl (by decide) rfl (by decide) in_X9 q392 rfl dX9_take_18 ?_
  refine lv_iload_n X.1 X.2.1 dX9_take_21 rfl (lv_at hl 3 rfl) ?_
  obtain ⟨bi, h⟩ := h
  refine w_lald (n := 9) X hT hWσ_9 579 (hV.hv 579 rfl ⟨hz_8, rx2.2⟩) (by decide) rfl rfl bi dX9_take_22 ?_
  obtain ⟨bi, h⟩ := h
  refine w_last (n := 9) X hT hWσ_9 hS 579 vl579_o (by decide) rfl rfl bi (hWσ_9.r.aj 579 x2 x3 rfl) dX9_take_23 (fun H locs hN hS => ?_)
  obtain ⟨σ_10, eσ_10⟩ : ∃ x, x = sA σ_9 579 o x1 (gA σ_9 579 x2 x3) := ⟨_, rfl⟩
  have hWσ_10 : Wo w σ_10 H := eσ_10 ▸ hN
  have h := h σ_10 eσ_10
  clear hN
  refine lv_aload_n X.1 X.2.1 dX9_take_24 rfl (lv_at hl 0 rfl) ?_
  refine wg (v := .ref (wad w 580 o)) X hT hWσ_10 9 4 580 vl9_o rfl rfl (by decide) rfl (by decide) in_X9 q395 rfl dX9_take_25 ?_
  refine lv_iload_n X.1 X.2.1 dX9_take_28 rfl (lv_at hl 1 rfl) ?_
  refine w_kload_n (w := w) X dX9_take_29 rfl (lv_at hl 2 rfl) ?_
  rw [knR hz_8]
  refine wg (v := .ref (wad w 580 x2)) X hT hWσ_10 9 4 580 (hV.hv 9 rfl ⟨hz_8, rx2.2⟩) rfl rfl (by decide) rfl (by decide) in_X9 q395 rfl dX9_take_30 ?_
  refine lv_iload_n X.1 X.2.1 dX9_take_33 rfl (lv_at hl 3 rfl) ?_
  obtain ⟨bi, h⟩ := h
  refine w_iald (n := 9) X hT hWσ_10 580 (hV.hv 580 rfl ⟨hz_8, rx2.2⟩) (by decide) rfl rfl bi dX9_take_34 ?_
  obtain ⟨bi, h⟩ := h
  refine w_iast (n := 9) X hT hWσ_10 hS 580 vl580_o (by decide) rfl rfl bi (hWσ_10.r.ai 580 x2 x3 rfl) dX9_take_35 (fun H locs hN hS => ?_)
  obtain ⟨σ_11, eσ_11⟩ : ∃ x, x = sA σ_10 580 o x1 (gA σ_10 580 x2 x3) := ⟨_, rfl⟩
  have hWσ_11 : Wo w σ_11 H := eσ_11 ▸ hN
  have h := h σ_11 eσ_11
  clear hN
  refine lv_aload_n X.1 X.2.1 dX9_take_36 rfl (lv_at hl 0 rfl) ?_
  refine wg (v := .ref (wad w 581 o)) X hT hWσ_11 9 5 581 vl9_o rfl rfl (by decide) rfl (by decide) in_X9 q398 rfl dX9_take_37 ?_
  refine lv_iload_n X.1 X.2.1 dX9_take_40 rfl (lv_at hl 1 rfl) ?_
  refine w_kload_n (w := w) X dX9_take_41 rfl (lv_at hl 2 rfl) ?_
  rw [knR hz_8]
  refine wg (v := .ref (wad w 581 x2)) X hT hWσ_11 9 5 581 (hV.hv 9 rfl ⟨hz_8, rx2.2⟩) rfl rfl (by decide) rfl (by decide) in_X9 q398 rfl dX9_take_42 ?_
  refine lv_iload_n X.1 X.2.1 dX9_take_45 rfl (lv_at hl 3 rfl) ?_
  obtain ⟨bi, h⟩ := h
  refine w_iald (n := 9) X hT hWσ_11 581 (hV.hv 581 rfl ⟨hz_8, rx2.2⟩) (by decide) rfl rfl bi dX9_take_46 ?_
  obtain ⟨bi, h⟩ := h
  refine w_iast (n := 9) X hT hWσ_11 hS 581 vl581_o (by decide) rfl rfl bi (hWσ_11.r.ai 581 x2 x3 rfl) dX9_take_47 (fun H locs hN hS => ?_)
  obtain ⟨σ_12, eσ_12⟩ : ∃ x, x = sA σ_11 581 o x1 (gA σ_11 581 x2 x3) := ⟨_, rfl⟩
  have hWσ_12 : Wo w σ_12 H := eσ_12 ▸ hN
  have h := h σ_12 eσ_12
  clear hN
  refine lv_aload_n X.1 X.2.1 dX9_take_48 rfl (lv_at hl 0 rfl) ?_
  refine wg (v := .ref (wad w 582 o)) X hT hWσ_12 9 6 582 vl9_o rfl rfl (by decide) rfl (by decide) in_X9 q401 rfl dX9_take_49 ?_
  refine lv_iload_n X.1 X.2.1 dX9_take_52 rfl (lv_at hl 1 rfl) ?_
  refine w_kload_n (w := w) X dX9_take_53 rfl (lv_at hl 2 rfl) ?_
  rw [knR hz_8]
  refine wg (v := .ref (wad w 582 x2)) X hT hWσ_12 9 6 582 (hV.hv 9 rfl ⟨hz_8, rx2.2⟩) rfl rfl (by decide) rfl (by decide) in_X9 q401 rfl dX9_take_54 ?_
  refine lv_iload_n X.1 X.2.1 dX9_take_57 rfl (lv_at hl 3 rfl) ?_
  obtain ⟨bi, h⟩ := h
  refine w_iald (n := 9) X hT hWσ_12 582 (hV.hv 582 rfl ⟨hz_8, rx2.2⟩) (by decide) rfl rfl bi dX9_take_58 ?_
  obtain ⟨bi, h⟩ := h
  refine w_iast (n := 9) X hT hWσ_12 hS 582 vl582_o (by decide) rfl rfl bi (hWσ_12.r.ai 582 x2 x3 rfl) dX9_take_59 (fun H locs hN hS => ?_)
  obtain ⟨σ_13, eσ_13⟩ : ∃ x, x = sA σ_12 582 o x1 (gA σ_12 582 x2 x3) := ⟨_, rfl⟩
  have hWσ_13 : Wo w σ_13 H := eσ_13 ▸ hN
  have h := h σ_13 eσ_13
  clear hN
  refine lv_aload_n X.1 X.2.1 dX9_take_60 rfl (lv_at hl 0 rfl) ?_
  refine wg (v := .ref (wad w 583 o)) X hT hWσ_13 9 7 583 vl9_o rfl rfl (by decide) rfl (by decide) in_X9 q404 rfl dX9_take_61 ?_
  refine lv_iload_n X.1 X.2.1 dX9_take_64 rfl (lv_at hl 1 rfl) ?_
  refine w_kload_n (w := w) X dX9_take_65 rfl (lv_at hl 2 rfl) ?_
  rw [knR hz_8]
  refine wg (v := .ref (wad w 583 x2)) X hT hWσ_13 9 7 583 (hV.hv 9 rfl ⟨hz_8, rx2.2⟩) rfl rfl (by decide) rfl (by decide) in_X9 q404 rfl dX9_take_66 ?_
  refine lv_iload_n X.1 X.2.1 dX9_take_69 rfl (lv_at hl 3 rfl) ?_
  obtain ⟨bi, h⟩ := h
  refine w_aald (n := 9) X hT hWσ_13 583 (hV.hv 583 rfl ⟨hz_8, rx2.2⟩) (by decide) rfl rfl bi dX9_take_70 ?_
  obtain ⟨bi, h⟩ := h
  refine w_aast (n := 9) X hV hT hWσ_13 hS 583 vl583_o (by decide) rfl rfl bi (hWσ_13.r.ak 583 x2 x3 rfl) dX9_take_71 (fun H locs hN hS => ?_)
  obtain ⟨σ_14, eσ_14⟩ : ∃ x, x = sA σ_13 583 o x1 (gA σ_13 583 x2 x3) := ⟨_, rfl⟩
  have hWσ_14 : Wo w σ_14 H := eσ_14 ▸ hN
  have h := h σ_14 eσ_14
  clear hN
  exact wret_V X hr hlk hWσ_14 hS h dX9_take_72
/-! Knot.part(I)V -/
set_option maxHeartbeats 4000000 in
set_option maxRecDepth 100000 in
theorem wk_Knot_part_L5B {p : Program} {l : Launch} {e : Env} {st : State} {m : MethodId} {args : Array Value} {below : List Frame} {meth : Method} {c : Code} {w : Wp} {o : Int} {x1 : Int} {Q : St → Prop} (X : CallFix p m c cX9_part 3 st args lw_all RX9) (hr : meth.sig.returnType = none) (hlk : meth.locks = false) (hT : Tb w st) (hV : Hvl w) (ho : 0 ≤ o ∧ o < 640) (rx1 : rI x1) (K5 : Int → St → Prop) (hK5 : ∀ (y2 : Int) (σ : St) (H : Heap) (locs : List Loc) (ls : Array Slot), rI y2 → lv_has ls 3 [(0, .ref (wad w 9 o)), (1, .int (oI x1)), (2, .int (oI y2))] → Wo w σ H → va_S (wA w) st.heap H locs → K5 y2 σ → W p l e (headSpec (ws_ yX9_part cX9_part 3 none) rm_Knot_part).room st m args below meth c H locs 0 0 (MQ below (QcV w Q) args st 0 0 (wA w)) (F0 m 5 ls [])) : ∀ (y2 : Int) (σ : St) (H : Heap) (locs : List Loc) (ls : Array Slot), rI y2 → lv_has ls 3 [(0, .ref (wad w 9 o)), (1, .int (oI x1)), (2, .int (oI y2))] → Wo w σ H → va_S (wA w) st.heap H locs → wp_Knot_part_L5 (wc w) (wtv w) o x1 Q K5 y2 σ → W p l e (headSpec (ws_ yX9_part cX9_part 3 none) rm_Knot_part).room st m args below meth c H locs 0 0 (MQ below (QcV w Q) args st 0 0 (wA w)) (F0 m 5 ls []) := by
  have vl9_o : vl w 9 o := hV.hv 9 rfl ⟨by omega, by show _ < (640 : Int); omega⟩
  intro y2 σ H locs ls ry2 hl hW hS h
  unfold wp_Knot_part_L5 at h
  refine lv_iload_n X.1 X.2.1 dX9_part_5 rfl (lv_at hl 2 rfl) ?_
  refine lv_iload_n X.1 X.2.1 dX9_part_6 rfl (lv_at hl 1 rfl) ?_
  refine w_icmp_le (tgt := 25) X ry2 rx1 dX9_part_7 (by decide) (fun hc => ?_) (fun hc => ?_)
  · have h := h.1 hc
    refine lv_aload_n X.1 X.2.1 dX9_part_25 rfl (lv_at hl 0 rfl) ?_
    refine lv_dup X.1 X.2.1 dX9_part_26 rfl ?_
    refine wg (v := .int (oI (gI σ 577 o))) X hT hW 9 1 577 vl9_o rfl rfl (by decide) rfl (by decide) in_X9 q386 rfl dX9_part_27 ?_
    refine lv_iconst (v := oI 1) X.1 X.2.1 dX9_part_30 rfl ?_
    refine w_iadd X dX9_part_31 ?_
    refine wput (z := w32 ((gI σ 577 o) + 1)) X hT hW hS 9 1 577 vl9_o rfl rfl (by decide) rfl (by decide) in_X9 tyX9 tyX9_ok nmX9 q386 rfl rfl (w32_r _) (fv0 w rfl) rfl rfl dX9_part_32 (fun H locs hN hS => ?_)
    obtain ⟨σ_6, eσ_6⟩ : ∃ x, x = sI σ 577 o (w32 ((gI σ 577 o) + 1)) := ⟨_, rfl⟩
    have hWσ_6 : Wo w σ_6 H := eσ_6 ▸ hN
    have h := h σ_6 eσ_6
    clear hN
    exact wret_V X hr hlk hWσ_6 hS h dX9_part_35
  · have h := h.2 hc
    refine lv_aload_n X.1 X.2.1 dX9_part_10 rfl (lv_at hl 0 rfl) ?_
    refine lv_iload_n X.1 X.2.1 dX9_part_11 rfl (lv_at hl 2 rfl) ?_
    refine lv_aload_n X.1 X.2.1 dX9_part_12 rfl (lv_at hl 0 rfl) ?_
    refine lv_iload_n X.1 X.2.1 dX9_part_13 rfl (lv_at hl 2 rfl) ?_
    refine lv_iconst (v := oI 1) X.1 X.2.1 dX9_part_14 rfl ?_
    refine w_isub X dX9_part_15 ?_
    refine wr_V (rV (As := [.int (oI y2), va_rf (knO w o), .int (oI (w32 (y2 - 1)))]) (rest := []) X hT hW hS (met_Knot_take l (w := w) hV o y2 o (w32 (y2 - 1)) _ σ ho ry2 (rK_o ho) (w32_r _) h) (cwV 3 X.2.2.2.2 (lw_V q942 q943 q944 q140 q945) rfl rfl rfl (by decide +kernel) ⟨Nat.le_of_ble_eq_true rfl, Nat.le_of_ble_eq_true rfl⟩) vl9_o (by decide) rfl rfl hl.1 (by simp only [knR ho.1]; rfl) (by first | exact Nat.le_of_ble_eq_true rfl | simp [catK, catI, catR, catL]) dX9_part_16 ⟨Nat.le_refl _, Nat.le_refl _⟩) hS (fun σ_8 H locs rkσ_8 h hWσ_8 hS => ?_)
    have h := h rkσ_8
    obtain ⟨y2_9, ey2_9⟩ : ∃ y : Int, y = w32 (y2 + (-1)) := ⟨_, rfl⟩
    have h := h y2_9 ey2_9
    have ry2_9 : rI y2_9 := by rw [ey2_9]; exact w32_r _
    refine lv_iinc (v := oI y2_9) (lv' := [(2, .int (oI y2_9)), (0, .ref (wad w 9 o)), (1, .int (oI x1))]) X.1 X.2.1 dX9_part_19 hl (k := 2) rfl (by rw [ey2_9]; exact oI_add _ _) (by decide) (by first | rfl | simp [catK, catI, catR, catL]) (fun ls hl => ?_)
    refine lv_goto (tgt := 5) X.1 X.2.1 dX9_part_22 (by decide) ?_
    exact hK5 y2_9 σ_8 _ _ _ ry2_9 (lv_sub hl [1, 2, 0] rfl) hWσ_8 hS h
theorem wk_Knot_part_L5 {p : Program} {l : Launch} {e : Env} {st : State} {m : MethodId} {args : Array Value} {below : List Frame} {meth : Method} {c : Code} {w : Wp} {o : Int} {x1 : Int} {Q : St → Prop} (X : CallFix p m c cX9_part 3 st args lw_all RX9) (hr : meth.sig.returnType = none) (hlk : meth.locks = false) (hT : Tb w st) (hV : Hvl w) (ho : 0 ≤ o ∧ o < 640) (rx1 : rI x1) : ∀ (y2 : Int) (σ : St) (H : Heap) (locs : List Loc) (ls : Array Slot), rI y2 → lv_has ls 3 [(0, .ref (wad w 9 o)), (1, .int (oI x1)), (2, .int (oI y2))] → Wo w σ H → va_S (wA w) st.heap H locs → lQ1 (wp_Knot_part_L5 (wc w) (wtv w) o x1 Q) y2 σ → W p l e (headSpec (ws_ yX9_part cX9_part 3 none) rm_Knot_part).room st m args below meth c H locs 0 0 (MQ below (QcV w Q) args st 0 0 (wA w)) (F0 m 5 ls []) := by
  intro y2 σ H locs ls ry2 hl hW hS h
  obtain ⟨fu, h⟩ := h
  induction fu generalizing y2 σ H locs ls with
  | zero => exact h.elim
  | succ fu ih =>
    exact wk_Knot_part_L5B X hr hlk hT hV ho rx1 (lq1 (wp_Knot_part_L5 (wc w) (wtv w) o x1 Q) fu) (fun y2 σ H locs ls ry2 hl hW hS h => ih y2 σ H locs ls ry2 hl hW hS h) y2 σ H locs ls ry2 hl hW hS h
set_option maxHeartbeats 4000000 in
set_option maxRecDepth 100000 in
theorem met_Knot_part (l : Launch) {w : Wp} (hV : Hvl w) (o : Int) (x1 : Int) (Q : St → Prop) (σ : St) (ho : 0 ≤ o ∧ o < 640) (rx1 : rI x1) (h : wp_Knot_part (wc w) (wtv w) o x1 Q σ) : Met l yX9_part (ws_ yX9_part cX9_part 3 none) rm_Knot_part (PcW w σ [.ref (wad w 9 o), .int (oI x1)]) (QcV w Q) 0 0 (wA w) := by
  refine Met.ofW (cc := cX9_part) (maxL := 3) (ret := none) (by decide) rfl ?_
  intro p e st m args below meth c s₁ B hml hv
  obtain ⟨hargs, hW, hT⟩ := hv
  have X : CallFix p m c cX9_part 3 st _ lw_all RX9 := ⟨B.exec, B.bytes, hml, findClass_of_methodNamed B.named, fun w h => atoms_spec (ws := ws_ yX9_part cX9_part 3 none) B.pre w (List.mem_cons_of_mem _ h)⟩
  have hr := B.returns
  have hlk := B.notSynchronized
  have hS : va_S (wA w) st.heap st.heap [] := va_S.rf
  have vl9_o : vl w 9 o := hV.hv 9 rfl ⟨by omega, by show _ < (640 : Int); omega⟩
  have hl := lv_entry ([.ref (wad w 9 o), .int (oI x1)]) (n := 3) (Nat.le_of_ble_eq_true rfl)
  have hfr := lg_entry_eq m ([.ref (wad w 9 o), .int (oI x1)]) 3
  rw [← hargs] at hfr
  rw [hfr]
  generalize (lg_sl ([.ref (wad w 9 o), .int (oI x1)]) ++ List.replicate (3 - (lg_sl ([.ref (wad w 9 o), .int (oI x1)])).length) Slot.unset).toArray = ls at hl ⊢
  have hl : lv_has ls 3 [(0, .ref (wad w 9 o)), (1, .int (oI x1))] := hl
  unfold wp_Knot_part at h
  refine lv_aload_n X.1 X.2.1 dX9_part_0 rfl (lv_at hl 0 rfl) ?_
  refine wg (v := .int (oI (gI σ 577 o))) X hT hW 9 1 577 vl9_o rfl rfl (by decide) rfl (by decide) in_X9 q386 rfl dX9_part_1 ?_
  refine w_top (fun y2_10 ey2_10 => ?_)
  have h := h y2_10 ey2_10
  have ry2_10 : rI y2_10 := by rw [ey2_10]; exact (hW.r.i 577 o rfl)
  refine lv_istore_n (i := 2) (lv' := [(2, .int (oI y2_10)), (0, .ref (wad w 9 o)), (1, .int (oI x1))]) X.1 X.2.1 dX9_part_4 rfl hl (by decide) (by first | rfl | simp [catK, catI, catR, catL]) (fun ls hl => ?_)
  exact wk_Knot_part_L5 X hr hlk hT hV ho rx1 y2_10 σ _ _ _ ry2_10 (lv_sub hl [1, 2, 0] rfl) hW hS h
/-! Knot.set(IJJLNandHouse$Knot;)V -/
set_option maxHeartbeats 4000000 in
set_option maxRecDepth 100000 in
theorem met_Knot_set (l : Launch) {w : Wp} (hV : Hvl w) (o : Int) (x1 : Int) (x2 : Int) (x4 : Int) (x6 : Int) (Q : St → Prop) (σ : St) (ho : 0 ≤ o ∧ o < 640) (rx1 : rI x1) (rx2 : rJ x2) (rx4 : rJ x4) (rx6 : rK x6) (h : wp_Knot_set (wc w) (wtv w) o x1 x2 x4 x6 Q σ) : Met l yX9_set (ws_ yX9_set cX9_set 7 none) rm_Knot_set (PcW w σ [.ref (wad w 9 o), .int (oI x1), .long (oL x2), .long (oL x4), va_rf (knO w x6)]) (QcV w Q) 0 0 (wA w) := by
  refine Met.ofW (cc := cX9_set) (maxL := 7) (ret := none) (by decide) rfl ?_
  intro p e st m args below meth c s₁ B hml hv
  obtain ⟨hargs, hW, hT⟩ := hv
  have X : CallFix p m c cX9_set 7 st _ lw_all RX9 := ⟨B.exec, B.bytes, hml, findClass_of_methodNamed B.named, fun w h => atoms_spec (ws := ws_ yX9_set cX9_set 7 none) B.pre w (List.mem_cons_of_mem _ h)⟩
  have hr := B.returns
  have hlk := B.notSynchronized
  have hS : va_S (wA w) st.heap st.heap [] := va_S.rf
  have vl578_o : vl w 578 o := hV.hv 578 rfl ⟨by omega, by show _ < (640 : Int); omega⟩
  have vl579_o : vl w 579 o := hV.hv 579 rfl ⟨by omega, by show _ < (640 : Int); omega⟩
  have vl583_o : vl w 583 o := hV.hv 583 rfl ⟨by omega, by show _ < (640 : Int); omega⟩
  have vl9_o : vl w 9 o := hV.hv 9 rfl ⟨by omega, by show _ < (640 : Int); omega⟩
  have hl := lv_entry ([.ref (wad w 9 o), .int (oI x1), .long (oL x2), .long (oL x4), va_rf (knO w x6)]) (n := 7) (by simp [lg_sl, catK, catI, catR, catL])
  have hfr := lg_entry_eq m ([.ref (wad w 9 o), .int (oI x1), .long (oL x2), .long (oL x4), va_rf (knO w x6)]) 7
  rw [← hargs] at hfr
  rw [hfr]
  generalize (lg_sl ([.ref (wad w 9 o), .int (oI x1), .long (oL x2), .long (oL x4), va_rf (knO w x6)]) ++ List.replicate (7 - (lg_sl ([.ref (wad w 9 o), .int (oI x1), .long (oL x2), .long (oL x4), va_rf (knO w x6)])).length) Slot.unset).toArray = ls at hl ⊢
  simp [lv_args, catK, catI, catR, catL] at hl
  have hl : lv_has ls 7 [(0, .ref (wad w 9 o)), (1, .int (oI x1)), (2, .long (oL x2)), (4, .long (oL x4)), (6, va_rf (knO w x6))] := hl
  unfold wp_Knot_set at h
  refine lv_aload_n X.1 X.2.1 dX9_set_0 rfl (lv_at hl 0 rfl) ?_
  refine wg (v := .ref (wad w 578 o)) X hT hW 9 2 578 vl9_o rfl rfl (by decide) rfl (by decide) in_X9 q389 rfl dX9_set_1 ?_
  refine lv_iload_n X.1 X.2.1 dX9_set_4 rfl (lv_at hl 1 rfl) ?_
  refine lv_lload_n X.1 X.2.1 dX9_set_5 rfl (lv_at hl 2 rfl) ?_
  obtain ⟨bi, h⟩ := h
  refine w_last (n := 9) X hT hW hS 578 vl578_o (by decide) rfl rfl bi rx2 dX9_set_6 (fun H locs hN hS => ?_)
  obtain ⟨σ_4, eσ_4⟩ : ∃ x, x = sA σ 578 o x1 x2 := ⟨_, rfl⟩
  have hWσ_4 : Wo w σ_4 H := eσ_4 ▸ hN
  have h := h σ_4 eσ_4
  clear hN
  refine lv_aload_n X.1 X.2.1 dX9_set_7 rfl (lv_at hl 0 rfl) ?_
  refine wg (v := .ref (wad w 579 o)) X hT hWσ_4 9 3 579 vl9_o rfl rfl (by decide) rfl (by decide) in_X9 q392 rfl dX9_set_8 ?_
  refine lv_iload_n X.1 X.2.1 dX9_set_11 rfl (lv_at hl 1 rfl) ?_
  refine lv_lload X.1 X.2.1 dX9_set_12 (lv_at hl 3 rfl) ?_
  obtain ⟨bi, h⟩ := h
  refine w_last (n := 9) X hT hWσ_4 hS 579 vl579_o (by decide) rfl rfl bi rx4 dX9_set_14 (fun H locs hN hS => ?_)
  obtain ⟨σ_5, eσ_5⟩ : ∃ x, x = sA σ_4 579 o x1 x4 := ⟨_, rfl⟩
  have hWσ_5 : Wo w σ_5 H := eσ_5 ▸ hN
  have h := h σ_5 eσ_5
  clear hN
  refine lv_aload_n X.1 X.2.1 dX9_set_15 rfl (lv_at hl 0 rfl) ?_
  refine wg (v := .ref (wad w 583 o)) X hT hWσ_5 9 7 583 vl9_o rfl rfl (by decide) rfl (by decide) in_X9 q404 rfl dX9_set_16 ?_
  refine lv_iload_n X.1 X.2.1 dX9_set_19 rfl (lv_at hl 1 rfl) ?_
  refine w_kload (w := w) X dX9_set_20 (lv_at hl 4 rfl) ?_
  obtain ⟨bi, h⟩ := h
  refine w_aast (n := 9) X hV hT hWσ_5 hS 583 vl583_o (by decide) rfl rfl bi rx6 dX9_set_22 (fun H locs hN hS => ?_)
  obtain ⟨σ_6, eσ_6⟩ : ∃ x, x = sA σ_5 583 o x1 x6 := ⟨_, rfl⟩
  have hWσ_6 : Wo w σ_6 H := eσ_6 ▸ hN
  have h := h σ_6 eσ_6
  clear hN
  exact wret_V X hr hlk hWσ_6 hS h dX9_set_23
/-! House.eights(I)I -/
set_option maxHeartbeats 4000000 in
set_option maxRecDepth 100000 in
theorem met_House_eights (l : Launch) {w : Wp} (x0 : Int) (Q : Int → St → Prop) (σ : St) (rx0 : rI x0) (h : wp_House_eights (wc w) (wtv w) x0 Q σ) : Met l yX1_eights (ws_ yX1_eights cX1_eights 1 (some .int)) rm_House_eights (PcW w σ [.int (oI x0)]) (QcI w Q) 0 0 (wA w) := by
  refine Met.ofW (cc := cX1_eights) (maxL := 1) (ret := (some .int)) (by decide) rfl ?_
  intro p e st m args below meth c s₁ B hml hv
  obtain ⟨hargs, hW, hT⟩ := hv
  have X : CallFix p m c cX1_eights 1 st _ lw_all RX1 := ⟨B.exec, B.bytes, hml, findClass_of_methodNamed B.named, fun w h => atoms_spec (ws := ws_ yX1_eights cX1_eights 1 (some .int)) B.pre w (List.mem_cons_of_mem _ h)⟩
  have hr := B.returns
  have hlk := B.notSynchronized
  have hS : va_S (wA w) st.heap st.heap [] := va_S.rf
  have hl := lv_entry ([.int (oI x0)]) (n := 1) (Nat.le_of_ble_eq_true rfl)
  have hfr := lg_entry_eq m ([.int (oI x0)]) 1
  rw [← hargs] at hfr
  rw [hfr]
  generalize (lg_sl ([.int (oI x0)]) ++ List.replicate (1 - (lg_sl ([.int (oI x0)])).length) Slot.unset).toArray = ls at hl ⊢
  have hl : lv_has ls 1 [(0, .int (oI x0))] := hl
  unfold wp_House_eights at h
  refine lv_iload_n X.1 X.2.1 dX1_eights_0 rfl (lv_at hl 0 rfl) ?_
  refine lv_bipush (v := oI 7) X.1 X.2.1 dX1_eights_1 (by decide) ?_
  refine w_iadd X dX1_eights_3 ?_
  refine lv_bipush (v := oI (-8)) X.1 X.2.1 dX1_eights_4 (by decide) ?_
  refine w_iand X dX1_eights_6 ?_
  exact wret_I X hr hlk hW hS (iand_r _ _) h dX1_eights_7
/-! Knot.leave(I)V -/
set_option maxHeartbeats 4000000 in
set_option maxRecDepth 100000 in
theorem wk_Knot_leave_L2B {p : Program} {l : Launch} {e : Env} {st : State} {m : MethodId} {args : Array Value} {below : List Frame} {meth : Method} {c : Code} {w : Wp} {o : Int} {x1 : Int} {Q : St → Prop} (X : CallFix p m c cX9_leave 3 st args lw_all RX9) (hr : meth.sig.returnType = none) (hlk : meth.locks = false) (hT : Tb w st) (hV : Hvl w) (ho : 0 ≤ o ∧ o < 640) (rx1 : rI x1) (K2 : Int → St → Prop) (hK2 : ∀ (y2 : Int) (σ : St) (H : Heap) (locs : List Loc) (ls : Array Slot), rI y2 → lv_has ls 3 [(0, .ref (wad w 9 o)), (2, .int (oI y2))] → Wo w σ H → va_S (wA w) st.heap H locs → K2 y2 σ → W p l e (headSpec (ws_ yX9_leave cX9_leave 3 none) rm_Knot_leave).room st m args below meth c H locs 0 0 (MQ below (QcV w Q) args st 0 0 (wA w)) (F0 m 2 ls [])) : ∀ (y2 : Int) (σ : St) (H : Heap) (locs : List Loc) (ls : Array Slot), rI y2 → lv_has ls 3 [(0, .ref (wad w 9 o)), (2, .int (oI y2))] → Wo w σ H → va_S (wA w) st.heap H locs → wp_Knot_leave_L2 (wc w) (wtv w) o x1 Q K2 y2 σ → W p l e (headSpec (ws_ yX9_leave cX9_leave 3 none) rm_Knot_leave).room st m args below meth c H locs 0 0 (MQ below (QcV w Q) args st 0 0 (wA w)) (F0 m 2 ls []) := by
  have vl583_o : vl w 583 o := hV.hv 583 rfl ⟨by omega, by show _ < (640 : Int); omega⟩
  have vl9_o : vl w 9 o := hV.hv 9 rfl ⟨by omega, by show _ < (640 : Int); omega⟩
  intro y2 σ H locs ls ry2 hl hW hS h
  unfold wp_Knot_leave_L2 at h
  refine lv_iload_n X.1 X.2.1 dX9_leave_2 rfl (lv_at hl 1 rfl) ?_
  refine lv_iconst (v := oI 1) X.1 X.2.1 dX9_leave_3 rfl ?_
  refine w_iadd X dX9_leave_4 ?_
  refine lv_aload_n X.1 X.2.1 dX9_leave_5 rfl (lv_at hl 0 rfl) ?_
  refine wg (v := .int (oI (gI σ 577 o))) X hT hW 9 1 577 vl9_o rfl rfl (by decide) rfl (by decide) in_X9 q386 rfl dX9_leave_6 ?_
  refine w_icmp_ge (tgt := 27) X (w32_r _) (hW.r.i 577 o rfl) dX9_leave_9 (by decide) (fun hc => ?_) (fun hc => ?_)
  · have h := h.1 hc
    refine lv_aload_n X.1 X.2.1 dX9_leave_27 rfl (lv_at hl 0 rfl) ?_
    refine lv_dup X.1 X.2.1 dX9_leave_28 rfl ?_
    refine wg (v := .int (oI (gI σ 577 o))) X hT hW 9 1 577 vl9_o rfl rfl (by decide) rfl (by decide) in_X9 q386 rfl dX9_leave_29 ?_
    refine lv_iconst (v := oI 1) X.1 X.2.1 dX9_leave_32 rfl ?_
    refine w_isub X dX9_leave_33 ?_
    refine wput (z := w32 ((gI σ 577 o) - 1)) X hT hW hS 9 1 577 vl9_o rfl rfl (by decide) rfl (by decide) in_X9 tyX9 tyX9_ok nmX9 q386 rfl rfl (w32_r _) (fv0 w rfl) rfl rfl dX9_leave_34 (fun H locs hN hS => ?_)
    obtain ⟨σ_6, eσ_6⟩ : ∃ x, x = sI σ 577 o (w32 ((gI σ 577 o) - 1)) := ⟨_, rfl⟩
    have hWσ_6 : Wo w σ_6 H := eσ_6 ▸ hN
    have h := h σ_6 eσ_6
    clear hN
    refine lv_aload_n X.1 X.2.1 dX9_leave_37 rfl (lv_at hl 0 rfl) ?_
    refine wg (v := .ref (wad w 583 o)) X hT hWσ_6 9 7 583 vl9_o rfl rfl (by decide) rfl (by decide) in_X9 q404 rfl dX9_leave_38 ?_
    refine lv_aload_n X.1 X.2.1 dX9_leave_41 rfl (lv_at hl 0 rfl) ?_
    refine wg (v := .int (oI (gI σ_6 577 o))) X hT hWσ_6 9 1 577 vl9_o rfl rfl (by decide) rfl (by decide) in_X9 q386 rfl dX9_leave_42 ?_
    refine w_knull (w := w) X dX9_leave_45 ?_
    obtain ⟨bi, h⟩ := h
    refine w_aast (n := 9) X hV hT hWσ_6 hS 583 vl583_o (by decide) rfl rfl bi rK_n dX9_leave_46 (fun H locs hN hS => ?_)
    obtain ⟨σ_7, eσ_7⟩ : ∃ x, x = sA σ_6 583 o (gI σ_6 577 o) (-1) := ⟨_, rfl⟩
    have hWσ_7 : Wo w σ_7 H := eσ_7 ▸ hN
    have h := h σ_7 eσ_7
    clear hN
    exact wret_V X hr hlk hWσ_7 hS h dX9_leave_47
  · have h := h.2 hc
    refine lv_aload_n X.1 X.2.1 dX9_leave_12 rfl (lv_at hl 0 rfl) ?_
    refine lv_iload_n X.1 X.2.1 dX9_leave_13 rfl (lv_at hl 1 rfl) ?_
    refine lv_aload_n X.1 X.2.1 dX9_leave_14 rfl (lv_at hl 0 rfl) ?_
    refine lv_iload_n X.1 X.2.1 dX9_leave_15 rfl (lv_at hl 1 rfl) ?_
    refine lv_iconst (v := oI 1) X.1 X.2.1 dX9_leave_16 rfl ?_
    refine w_iadd X dX9_leave_17 ?_
    refine wr_V (rV (As := [.int (oI y2), va_rf (knO w o), .int (oI (w32 (y2 + 1)))]) (rest := []) X hT hW hS (met_Knot_take l (w := w) hV o y2 o (w32 (y2 + 1)) _ σ ho ry2 (rK_o ho) (w32_r _) h) (cwV 3 X.2.2.2.2 (lw_V q942 q943 q944 q140 q945) rfl rfl rfl (by decide +kernel) ⟨Nat.le_of_ble_eq_true rfl, Nat.le_of_ble_eq_true rfl⟩) vl9_o (by decide) rfl rfl hl.1 (by simp only [knR ho.1]; rfl) (by first | exact Nat.le_of_ble_eq_true rfl | simp [catK, catI, catR, catL]) dX9_leave_18 ⟨Nat.le_refl _, Nat.le_refl _⟩) hS (fun σ_9 H locs rkσ_9 h hWσ_9 hS => ?_)
    have h := h rkσ_9
    obtain ⟨y2_10, ey2_10⟩ : ∃ y : Int, y = w32 (y2 + 1) := ⟨_, rfl⟩
    have h := h y2_10 ey2_10
    have ry2_10 : rI y2_10 := by rw [ey2_10]; exact w32_r _
    refine lv_iinc (v := oI y2_10) (lv' := [(2, .int (oI y2_10)), (0, .ref (wad w 9 o))]) X.1 X.2.1 dX9_leave_21 hl (k := 1) rfl (by rw [ey2_10]; exact oI_add _ _) (by decide) (by first | rfl | simp [catK, catI, catR, catL]) (fun ls hl => ?_)
    refine lv_goto (tgt := 2) X.1 X.2.1 dX9_leave_24 (by decide) ?_
    exact hK2 y2_10 σ_9 _ _ _ ry2_10 (lv_sub hl [1, 0] rfl) hWσ_9 hS h
theorem wk_Knot_leave_L2 {p : Program} {l : Launch} {e : Env} {st : State} {m : MethodId} {args : Array Value} {below : List Frame} {meth : Method} {c : Code} {w : Wp} {o : Int} {x1 : Int} {Q : St → Prop} (X : CallFix p m c cX9_leave 3 st args lw_all RX9) (hr : meth.sig.returnType = none) (hlk : meth.locks = false) (hT : Tb w st) (hV : Hvl w) (ho : 0 ≤ o ∧ o < 640) (rx1 : rI x1) : ∀ (y2 : Int) (σ : St) (H : Heap) (locs : List Loc) (ls : Array Slot), rI y2 → lv_has ls 3 [(0, .ref (wad w 9 o)), (2, .int (oI y2))] → Wo w σ H → va_S (wA w) st.heap H locs → lQ1 (wp_Knot_leave_L2 (wc w) (wtv w) o x1 Q) y2 σ → W p l e (headSpec (ws_ yX9_leave cX9_leave 3 none) rm_Knot_leave).room st m args below meth c H locs 0 0 (MQ below (QcV w Q) args st 0 0 (wA w)) (F0 m 2 ls []) := by
  intro y2 σ H locs ls ry2 hl hW hS h
  obtain ⟨fu, h⟩ := h
  induction fu generalizing y2 σ H locs ls with
  | zero => exact h.elim
  | succ fu ih =>
    exact wk_Knot_leave_L2B X hr hlk hT hV ho rx1 (lq1 (wp_Knot_leave_L2 (wc w) (wtv w) o x1 Q) fu) (fun y2 σ H locs ls ry2 hl hW hS h => ih y2 σ H locs ls ry2 hl hW hS h) y2 σ H locs ls ry2 hl hW hS h
set_option maxHeartbeats 4000000 in
set_option maxRecDepth 100000 in
theorem met_Knot_leave (l : Launch) {w : Wp} (hV : Hvl w) (o : Int) (x1 : Int) (Q : St → Prop) (σ : St) (ho : 0 ≤ o ∧ o < 640) (rx1 : rI x1) (h : wp_Knot_leave (wc w) (wtv w) o x1 Q σ) : Met l yX9_leave (ws_ yX9_leave cX9_leave 3 none) rm_Knot_leave (PcW w σ [.ref (wad w 9 o), .int (oI x1)]) (QcV w Q) 0 0 (wA w) := by
  refine Met.ofW (cc := cX9_leave) (maxL := 3) (ret := none) (by decide) rfl ?_
  intro p e st m args below meth c s₁ B hml hv
  obtain ⟨hargs, hW, hT⟩ := hv
  have X : CallFix p m c cX9_leave 3 st _ lw_all RX9 := ⟨B.exec, B.bytes, hml, findClass_of_methodNamed B.named, fun w h => atoms_spec (ws := ws_ yX9_leave cX9_leave 3 none) B.pre w (List.mem_cons_of_mem _ h)⟩
  have hr := B.returns
  have hlk := B.notSynchronized
  have hS : va_S (wA w) st.heap st.heap [] := va_S.rf
  have vl9_o : vl w 9 o := hV.hv 9 rfl ⟨by omega, by show _ < (640 : Int); omega⟩
  have hl := lv_entry ([.ref (wad w 9 o), .int (oI x1)]) (n := 3) (Nat.le_of_ble_eq_true rfl)
  have hfr := lg_entry_eq m ([.ref (wad w 9 o), .int (oI x1)]) 3
  rw [← hargs] at hfr
  rw [hfr]
  generalize (lg_sl ([.ref (wad w 9 o), .int (oI x1)]) ++ List.replicate (3 - (lg_sl ([.ref (wad w 9 o), .int (oI x1)])).length) Slot.unset).toArray = ls at hl ⊢
  have hl : lv_has ls 3 [(0, .ref (wad w 9 o)), (1, .int (oI x1))] := hl
  unfold wp_Knot_leave at h
  refine lv_iload_n X.1 X.2.1 dX9_leave_0 rfl (lv_at hl 1 rfl) ?_
  refine lv_istore_n (i := 2) (lv' := [(2, .int (oI x1)), (0, .ref (wad w 9 o)), (1, .int (oI x1))]) X.1 X.2.1 dX9_leave_1 rfl hl (by decide) (by first | rfl | simp [catK, catI, catR, catL]) (fun ls hl => ?_)
  exact wk_Knot_leave_L2 X hr hlk hT hV ho rx1 x1 σ _ _ _ rx1 (lv_sub hl [1, 0] rfl) hW hS h
/-! Arrays.fill([II)V -/
set_option maxHeartbeats 4000000 in
set_option maxRecDepth 100000 in
theorem wk_Arrays_fill_2_L5B {p : Program} {l : Launch} {e : Env} {st : State} {m : MethodId} {args : Array Value} {below : List Frame} {meth : Method} {c : Code} {w : Wp} {x0f : Nat} {x0o : Int} {x1 : Int} {Q : St → Prop} (X : CallFix p m c cJ0_fill_2 4 st args lw_all RJ0) (hr : meth.sig.returnType = none) (hlk : meth.locks = false) (hT : Tb w st) (vx0 : vl w x0f x0o) (nx0 : ¬ x0f < 64) (tx0 : aty x0f = 0) (rx1 : rI x1) (K5 : Int → Int → St → Prop) (hK5 : ∀ (y2 y3 : Int) (σ : St) (H : Heap) (locs : List Loc) (ls : Array Slot), rI y2 → rI y3 → lv_has ls 4 [(0, .ref (wad w x0f x0o)), (1, .int (oI x1)), (2, .int (oI y2)), (3, .int (oI y3))] → Wo w σ H → va_S (wA w) st.heap H locs → K5 y2 y3 σ → W p l e (headSpec (ws_ yJ0_fill_2 cJ0_fill_2 4 none) rm_Arrays_fill_2).room st m args below meth c H locs 0 0 (MQ below (QcV w Q) args st 0 0 (wA w)) (F0 m 5 ls [])) : ∀ (y2 y3 : Int) (σ : St) (H : Heap) (locs : List Loc) (ls : Array Slot), rI y2 → rI y3 → lv_has ls 4 [(0, .ref (wad w x0f x0o)), (1, .int (oI x1)), (2, .int (oI y2)), (3, .int (oI y3))] → Wo w σ H → va_S (wA w) st.heap H locs → wp_Arrays_fill_2_L5 (wc w) (wtv w) x0f x0o x1 Q K5 y2 y3 σ → W p l e (headSpec (ws_ yJ0_fill_2 cJ0_fill_2 4 none) rm_Arrays_fill_2).room st m args below meth c H locs 0 0 (MQ below (QcV w Q) args st 0 0 (wA w)) (F0 m 5 ls []) := by

  intro y2 y3 σ H locs ls ry2 ry3 hl hW hS h
  unfold wp_Arrays_fill_2_L5 at h
  refine lv_iload_n X.1 X.2.1 dJ0_fill_2_5 rfl (lv_at hl 2 rfl) ?_
  refine lv_iload_n X.1 X.2.1 dJ0_fill_2_6 rfl (lv_at hl 3 rfl) ?_
  refine w_icmp_ge (tgt := 20) X ry2 ry3 dJ0_fill_2_7 (by decide) (fun hc => ?_) (fun hc => ?_)
  · have h := h.1 hc
    exact wret_V X hr hlk hW hS h dJ0_fill_2_20
  · have h := h.2 hc
    refine lv_aload_n X.1 X.2.1 dJ0_fill_2_10 rfl (lv_at hl 0 rfl) ?_
    refine lv_iload_n X.1 X.2.1 dJ0_fill_2_11 rfl (lv_at hl 2 rfl) ?_
    refine lv_iload_n X.1 X.2.1 dJ0_fill_2_12 rfl (lv_at hl 1 rfl) ?_
    obtain ⟨bi, h⟩ := h
    refine w_iast (n := (aln (wc w) x0f x0o)) X hT hW hS x0f vx0 nx0 tx0 rfl bi rx1 dJ0_fill_2_13 (fun H locs hN hS => ?_)
    obtain ⟨σ_7, eσ_7⟩ : ∃ x, x = sA σ x0f x0o y2 x1 := ⟨_, rfl⟩
    have hWσ_7 : Wo w σ_7 H := eσ_7 ▸ hN
    have h := h σ_7 eσ_7
    clear hN
    obtain ⟨y2_8, ey2_8⟩ : ∃ y : Int, y = w32 (y2 + 1) := ⟨_, rfl⟩
    have h := h y2_8 ey2_8
    have ry2_8 : rI y2_8 := by rw [ey2_8]; exact w32_r _
    refine lv_iinc (v := oI y2_8) (lv' := [(2, .int (oI y2_8)), (0, .ref (wad w x0f x0o)), (1, .int (oI x1)), (3, .int (oI y3))]) X.1 X.2.1 dJ0_fill_2_14 hl (k := 2) rfl (by rw [ey2_8]; exact oI_add _ _) (by decide) (by first | rfl | simp [catK, catI, catR, catL]) (fun ls hl => ?_)
    refine lv_goto (tgt := 5) X.1 X.2.1 dJ0_fill_2_17 (by decide) ?_
    exact hK5 y2_8 y3 σ_7 _ _ _ ry2_8 ry3 (lv_sub hl [1, 2, 0, 3] rfl) hWσ_7 hS h
theorem wk_Arrays_fill_2_L5 {p : Program} {l : Launch} {e : Env} {st : State} {m : MethodId} {args : Array Value} {below : List Frame} {meth : Method} {c : Code} {w : Wp} {x0f : Nat} {x0o : Int} {x1 : Int} {Q : St → Prop} (X : CallFix p m c cJ0_fill_2 4 st args lw_all RJ0) (hr : meth.sig.returnType = none) (hlk : meth.locks = false) (hT : Tb w st) (vx0 : vl w x0f x0o) (nx0 : ¬ x0f < 64) (tx0 : aty x0f = 0) (rx1 : rI x1) : ∀ (y2 y3 : Int) (σ : St) (H : Heap) (locs : List Loc) (ls : Array Slot), rI y2 → rI y3 → lv_has ls 4 [(0, .ref (wad w x0f x0o)), (1, .int (oI x1)), (2, .int (oI y2)), (3, .int (oI y3))] → Wo w σ H → va_S (wA w) st.heap H locs → lQ2 (wp_Arrays_fill_2_L5 (wc w) (wtv w) x0f x0o x1 Q) y2 y3 σ → W p l e (headSpec (ws_ yJ0_fill_2 cJ0_fill_2 4 none) rm_Arrays_fill_2).room st m args below meth c H locs 0 0 (MQ below (QcV w Q) args st 0 0 (wA w)) (F0 m 5 ls []) := by
  intro y2 y3 σ H locs ls ry2 ry3 hl hW hS h
  obtain ⟨fu, h⟩ := h
  induction fu generalizing y2 y3 σ H locs ls with
  | zero => exact h.elim
  | succ fu ih =>
    exact wk_Arrays_fill_2_L5B X hr hlk hT vx0 nx0 tx0 rx1 (lq2 (wp_Arrays_fill_2_L5 (wc w) (wtv w) x0f x0o x1 Q) fu) (fun y2 y3 σ H locs ls ry2 ry3 hl hW hS h => ih y2 y3 σ H locs ls ry2 ry3 hl hW hS h) y2 y3 σ H locs ls ry2 ry3 hl hW hS h
set_option maxHeartbeats 4000000 in
set_option maxRecDepth 100000 in
theorem met_Arrays_fill_2 (l : Launch) {w : Wp} (x0f : Nat) (x0o : Int) (x1 : Int) (Q : St → Prop) (σ : St) (vx0 : vl w x0f x0o) (nx0 : ¬ x0f < 64) (tx0 : aty x0f = 0) (rx1 : rI x1) (h : wp_Arrays_fill_2 (wc w) (wtv w) x0f x0o x1 Q σ) : Met l yJ0_fill_2 (ws_ yJ0_fill_2 cJ0_fill_2 4 none) rm_Arrays_fill_2 (PcW w σ [.ref (wad w x0f x0o), .int (oI x1)]) (QcV w Q) 0 0 (wA w) := by
  refine Met.ofW (cc := cJ0_fill_2) (maxL := 4) (ret := none) (by decide) rfl ?_
  intro p e st m args below meth c s₁ B hml hv
  obtain ⟨hargs, hW, hT⟩ := hv
  have X : CallFix p m c cJ0_fill_2 4 st _ lw_all RJ0 := ⟨B.exec, B.bytes, hml, findClass_of_methodNamed B.named, fun w h => atoms_spec (ws := ws_ yJ0_fill_2 cJ0_fill_2 4 none) B.pre w (List.mem_cons_of_mem _ h)⟩
  have hr := B.returns
  have hlk := B.notSynchronized
  have hS : va_S (wA w) st.heap st.heap [] := va_S.rf
  have hl := lv_entry ([.ref (wad w x0f x0o), .int (oI x1)]) (n := 4) (Nat.le_of_ble_eq_true rfl)
  have hfr := lg_entry_eq m ([.ref (wad w x0f x0o), .int (oI x1)]) 4
  rw [← hargs] at hfr
  rw [hfr]
  generalize (lg_sl ([.ref (wad w x0f x0o), .int (oI x1)]) ++ List.replicate (4 - (lg_sl ([.ref (wad w x0f x0o), .int (oI x1)])).length) Slot.unset).toArray = ls at hl ⊢
  have hl : lv_has ls 4 [(0, .ref (wad w x0f x0o)), (1, .int (oI x1))] := hl
  unfold wp_Arrays_fill_2 at h
  refine lv_iconst (v := oI 0) X.1 X.2.1 dJ0_fill_2_0 rfl ?_
  refine lv_istore_n (i := 2) (lv' := [(2, .int (oI 0)), (0, .ref (wad w x0f x0o)), (1, .int (oI x1))]) X.1 X.2.1 dJ0_fill_2_1 rfl hl (by decide) (by first | rfl | simp [catK, catI, catR, catL]) (fun ls hl => ?_)
  refine lv_aload_n X.1 X.2.1 dJ0_fill_2_2 rfl (lv_at hl 1 rfl) ?_
  refine w_alen (n := (aln (wc w) x0f x0o)) X hT hW x0f vx0 nx0 (by rw [tx0]; decide) rfl dJ0_fill_2_3 ?_
  refine w_top (fun y3_9 ey3_9 => ?_)
  have h := h y3_9 ey3_9
  have ry3_9 : rI y3_9 := by rw [ey3_9]; exact (aln_r hT.c x0f x0o)
  refine lv_istore_n (i := 3) (lv' := [(3, .int (oI y3_9)), (2, .int (oI 0)), (0, .ref (wad w x0f x0o)), (1, .int (oI x1))]) X.1 X.2.1 dJ0_fill_2_4 rfl hl (by decide) (by first | rfl | simp [catK, catI, catR, catL]) (fun ls hl => ?_)
  exact wk_Arrays_fill_2_L5 X hr hlk hT vx0 nx0 tx0 rx1 0 y3_9 σ _ _ _ rZ_0.i ry3_9 (lv_sub hl [2, 3, 1, 0] rfl) hW hS h
/-! Arrays.fill([ZZ)V -/
set_option maxHeartbeats 4000000 in
set_option maxRecDepth 100000 in
theorem wk_Arrays_fill_6_L5B {p : Program} {l : Launch} {e : Env} {st : State} {m : MethodId} {args : Array Value} {below : List Frame} {meth : Method} {c : Code} {w : Wp} {x0f : Nat} {x0o : Int} {x1 : Int} {Q : St → Prop} (X : CallFix p m c cJ0_fill_6 4 st args lw_all RJ0) (hr : meth.sig.returnType = none) (hlk : meth.locks = false) (hT : Tb w st) (vx0 : vl w x0f x0o) (nx0 : ¬ x0f < 64) (tx0 : aty x0f = 2) (rx1 : rZ x1) (K5 : Int → Int → St → Prop) (hK5 : ∀ (y2 y3 : Int) (σ : St) (H : Heap) (locs : List Loc) (ls : Array Slot), rI y2 → rI y3 → lv_has ls 4 [(0, .ref (wad w x0f x0o)), (1, .int (oI x1)), (2, .int (oI y2)), (3, .int (oI y3))] → Wo w σ H → va_S (wA w) st.heap H locs → K5 y2 y3 σ → W p l e (headSpec (ws_ yJ0_fill_6 cJ0_fill_6 4 none) rm_Arrays_fill_6).room st m args below meth c H locs 0 0 (MQ below (QcV w Q) args st 0 0 (wA w)) (F0 m 5 ls [])) : ∀ (y2 y3 : Int) (σ : St) (H : Heap) (locs : List Loc) (ls : Array Slot), rI y2 → rI y3 → lv_has ls 4 [(0, .ref (wad w x0f x0o)), (1, .int (oI x1)), (2, .int (oI y2)), (3, .int (oI y3))] → Wo w σ H → va_S (wA w) st.heap H locs → wp_Arrays_fill_6_L5 (wc w) (wtv w) x0f x0o x1 Q K5 y2 y3 σ → W p l e (headSpec (ws_ yJ0_fill_6 cJ0_fill_6 4 none) rm_Arrays_fill_6).room st m args below meth c H locs 0 0 (MQ below (QcV w Q) args st 0 0 (wA w)) (F0 m 5 ls []) := by

  intro y2 y3 σ H locs ls ry2 ry3 hl hW hS h
  unfold wp_Arrays_fill_6_L5 at h
  refine lv_iload_n X.1 X.2.1 dJ0_fill_6_5 rfl (lv_at hl 2 rfl) ?_
  refine lv_iload_n X.1 X.2.1 dJ0_fill_6_6 rfl (lv_at hl 3 rfl) ?_
  refine w_icmp_ge (tgt := 20) X ry2 ry3 dJ0_fill_6_7 (by decide) (fun hc => ?_) (fun hc => ?_)
  · have h := h.1 hc
    exact wret_V X hr hlk hW hS h dJ0_fill_6_20
  · have h := h.2 hc
    refine lv_aload_n X.1 X.2.1 dJ0_fill_6_10 rfl (lv_at hl 0 rfl) ?_
    refine lv_iload_n X.1 X.2.1 dJ0_fill_6_11 rfl (lv_at hl 2 rfl) ?_
    refine lv_iload_n X.1 X.2.1 dJ0_fill_6_12 rfl (lv_at hl 1 rfl) ?_
    obtain ⟨bi, h⟩ := h
    refine w_zast (n := (aln (wc w) x0f x0o)) X hT hW hS x0f vx0 nx0 tx0 rfl bi rx1 dJ0_fill_6_13 (fun H locs hN hS => ?_)
    obtain ⟨σ_7, eσ_7⟩ : ∃ x, x = sA σ x0f x0o y2 x1 := ⟨_, rfl⟩
    have hWσ_7 : Wo w σ_7 H := eσ_7 ▸ hN
    have h := h σ_7 eσ_7
    clear hN
    obtain ⟨y2_8, ey2_8⟩ : ∃ y : Int, y = w32 (y2 + 1) := ⟨_, rfl⟩
    have h := h y2_8 ey2_8
    have ry2_8 : rI y2_8 := by rw [ey2_8]; exact w32_r _
    refine lv_iinc (v := oI y2_8) (lv' := [(2, .int (oI y2_8)), (0, .ref (wad w x0f x0o)), (1, .int (oI x1)), (3, .int (oI y3))]) X.1 X.2.1 dJ0_fill_6_14 hl (k := 2) rfl (by rw [ey2_8]; exact oI_add _ _) (by decide) (by first | rfl | simp [catK, catI, catR, catL]) (fun ls hl => ?_)
    refine lv_goto (tgt := 5) X.1 X.2.1 dJ0_fill_6_17 (by decide) ?_
    exact hK5 y2_8 y3 σ_7 _ _ _ ry2_8 ry3 (lv_sub hl [1, 2, 0, 3] rfl) hWσ_7 hS h
theorem wk_Arrays_fill_6_L5 {p : Program} {l : Launch} {e : Env} {st : State} {m : MethodId} {args : Array Value} {below : List Frame} {meth : Method} {c : Code} {w : Wp} {x0f : Nat} {x0o : Int} {x1 : Int} {Q : St → Prop} (X : CallFix p m c cJ0_fill_6 4 st args lw_all RJ0) (hr : meth.sig.returnType = none) (hlk : meth.locks = false) (hT : Tb w st) (vx0 : vl w x0f x0o) (nx0 : ¬ x0f < 64) (tx0 : aty x0f = 2) (rx1 : rZ x1) : ∀ (y2 y3 : Int) (σ : St) (H : Heap) (locs : List Loc) (ls : Array Slot), rI y2 → rI y3 → lv_has ls 4 [(0, .ref (wad w x0f x0o)), (1, .int (oI x1)), (2, .int (oI y2)), (3, .int (oI y3))] → Wo w σ H → va_S (wA w) st.heap H locs → lQ2 (wp_Arrays_fill_6_L5 (wc w) (wtv w) x0f x0o x1 Q) y2 y3 σ → W p l e (headSpec (ws_ yJ0_fill_6 cJ0_fill_6 4 none) rm_Arrays_fill_6).room st m args below meth c H locs 0 0 (MQ below (QcV w Q) args st 0 0 (wA w)) (F0 m 5 ls []) := by
  intro y2 y3 σ H locs ls ry2 ry3 hl hW hS h
  obtain ⟨fu, h⟩ := h
  induction fu generalizing y2 y3 σ H locs ls with
  | zero => exact h.elim
  | succ fu ih =>
    exact wk_Arrays_fill_6_L5B X hr hlk hT vx0 nx0 tx0 rx1 (lq2 (wp_Arrays_fill_6_L5 (wc w) (wtv w) x0f x0o x1 Q) fu) (fun y2 y3 σ H locs ls ry2 ry3 hl hW hS h => ih y2 y3 σ H locs ls ry2 ry3 hl hW hS h) y2 y3 σ H locs ls ry2 ry3 hl hW hS h
set_option maxHeartbeats 4000000 in
set_option maxRecDepth 100000 in
theorem met_Arrays_fill_6 (l : Launch) {w : Wp} (x0f : Nat) (x0o : Int) (x1 : Int) (Q : St → Prop) (σ : St) (vx0 : vl w x0f x0o) (nx0 : ¬ x0f < 64) (tx0 : aty x0f = 2) (rx1 : rZ x1) (h : wp_Arrays_fill_6 (wc w) (wtv w) x0f x0o x1 Q σ) : Met l yJ0_fill_6 (ws_ yJ0_fill_6 cJ0_fill_6 4 none) rm_Arrays_fill_6 (PcW w σ [.ref (wad w x0f x0o), .int (oI x1)]) (QcV w Q) 0 0 (wA w) := by
  refine Met.ofW (cc := cJ0_fill_6) (maxL := 4) (ret := none) (by decide) rfl ?_
  intro p e st m args below meth c s₁ B hml hv
  obtain ⟨hargs, hW, hT⟩ := hv
  have X : CallFix p m c cJ0_fill_6 4 st _ lw_all RJ0 := ⟨B.exec, B.bytes, hml, findClass_of_methodNamed B.named, fun w h => atoms_spec (ws := ws_ yJ0_fill_6 cJ0_fill_6 4 none) B.pre w (List.mem_cons_of_mem _ h)⟩
  have hr := B.returns
  have hlk := B.notSynchronized
  have hS : va_S (wA w) st.heap st.heap [] := va_S.rf
  have hl := lv_entry ([.ref (wad w x0f x0o), .int (oI x1)]) (n := 4) (Nat.le_of_ble_eq_true rfl)
  have hfr := lg_entry_eq m ([.ref (wad w x0f x0o), .int (oI x1)]) 4
  rw [← hargs] at hfr
  rw [hfr]
  generalize (lg_sl ([.ref (wad w x0f x0o), .int (oI x1)]) ++ List.replicate (4 - (lg_sl ([.ref (wad w x0f x0o), .int (oI x1)])).length) Slot.unset).toArray = ls at hl ⊢
  have hl : lv_has ls 4 [(0, .ref (wad w x0f x0o)), (1, .int (oI x1))] := hl
  unfold wp_Arrays_fill_6 at h
  refine lv_iconst (v := oI 0) X.1 X.2.1 dJ0_fill_6_0 rfl ?_
  refine lv_istore_n (i := 2) (lv' := [(2, .int (oI 0)), (0, .ref (wad w x0f x0o)), (1, .int (oI x1))]) X.1 X.2.1 dJ0_fill_6_1 rfl hl (by decide) (by first | rfl | simp [catK, catI, catR, catL]) (fun ls hl => ?_)
  refine lv_aload_n X.1 X.2.1 dJ0_fill_6_2 rfl (lv_at hl 1 rfl) ?_
  refine w_alen (n := (aln (wc w) x0f x0o)) X hT hW x0f vx0 nx0 (by rw [tx0]; decide) rfl dJ0_fill_6_3 ?_
  refine w_top (fun y3_9 ey3_9 => ?_)
  have h := h y3_9 ey3_9
  have ry3_9 : rI y3_9 := by rw [ey3_9]; exact (aln_r hT.c x0f x0o)
  refine lv_istore_n (i := 3) (lv' := [(3, .int (oI y3_9)), (2, .int (oI 0)), (0, .ref (wad w x0f x0o)), (1, .int (oI x1))]) X.1 X.2.1 dJ0_fill_6_4 rfl hl (by decide) (by first | rfl | simp [catK, catI, catR, catL]) (fun ls hl => ?_)
  exact wk_Arrays_fill_6_L5 X hr hlk hT vx0 nx0 tx0 rx1 0 y3_9 σ _ _ _ rZ_0.i ry3_9 (lv_sub hl [2, 3, 1, 0] rfl) hW hS h
/-! Flash.written(I)I -/
set_option maxHeartbeats 4000000 in
set_option maxRecDepth 100000 in
theorem met_Flash_written (l : Launch) {w : Wp} (hV : Hvl w) (x1 : Int) (Q : Int → St → Prop) (σ : St) (rx1 : rI x1) (h : wp_Flash_written (wc w) (wtv w) x1 Q σ) : Met l yX4_written (ws_ yX4_written cX4_written 2 (some .int)) rm_Flash_written (PcW w σ [.ref (wad w 2 0), .int (oI x1)]) (QcI w Q) 0 0 (wA w) := by
  refine Met.ofW (cc := cX4_written) (maxL := 2) (ret := (some .int)) (by decide) rfl ?_
  intro p e st m args below meth c s₁ B hml hv
  obtain ⟨hargs, hW, hT⟩ := hv
  have X : CallFix p m c cX4_written 2 st _ lw_all RX4 := ⟨B.exec, B.bytes, hml, findClass_of_methodNamed B.named, fun w h => atoms_spec (ws := ws_ yX4_written cX4_written 2 (some .int)) B.pre w (List.mem_cons_of_mem _ h)⟩
  have hr := B.returns
  have hlk := B.notSynchronized
  have hS : va_S (wA w) st.heap st.heap [] := va_S.rf
  have vl133_0 : vl w 133 0 := hV.hv 133 rfl ⟨by omega, by show _ < (1 : Int); omega⟩
  have vl2_0 : vl w 2 0 := hV.hv 2 rfl ⟨by omega, by show _ < (1 : Int); omega⟩
  have hl := lv_entry ([.ref (wad w 2 0), .int (oI x1)]) (n := 2) (Nat.le_of_ble_eq_true rfl)
  have hfr := lg_entry_eq m ([.ref (wad w 2 0), .int (oI x1)]) 2
  rw [← hargs] at hfr
  rw [hfr]
  generalize (lg_sl ([.ref (wad w 2 0), .int (oI x1)]) ++ List.replicate (2 - (lg_sl ([.ref (wad w 2 0), .int (oI x1)])).length) Slot.unset).toArray = ls at hl ⊢
  have hl : lv_has ls 2 [(0, .ref (wad w 2 0)), (1, .int (oI x1))] := hl
  unfold wp_Flash_written at h
  refine lv_aload_n X.1 X.2.1 dX4_written_0 rfl (lv_at hl 0 rfl) ?_
  refine wg (v := .ref (wad w 133 0)) X hT hW 2 5 133 vl2_0 rfl rfl (by decide) rfl (by decide) in_X4 q228 rfl dX4_written_1 ?_
  refine lv_iload_n X.1 X.2.1 dX4_written_4 rfl (lv_at hl 1 rfl) ?_
  obtain ⟨bi, h⟩ := h
  refine w_iald (n := (wc w).1) X hT hW 133 vl133_0 (by decide) rfl rfl bi dX4_written_5 ?_
  exact wret_I X hr hlk hW hS (hW.r.ai 133 0 x1 rfl) h dX4_written_6
/-! Flash.isBroken(I)Z -/
set_option maxHeartbeats 4000000 in
set_option maxRecDepth 100000 in
theorem met_Flash_isBroken (l : Launch) {w : Wp} (hV : Hvl w) (x1 : Int) (Q : Int → St → Prop) (σ : St) (rx1 : rI x1) (h : wp_Flash_isBroken (wc w) (wtv w) x1 Q σ) : Met l yX4_isBroken (ws_ yX4_isBroken cX4_isBroken 2 (some .boolean)) rm_Flash_isBroken (PcW w σ [.ref (wad w 2 0), .int (oI x1)]) (QcZ w Q) 0 0 (wA w) := by
  refine Met.ofW (cc := cX4_isBroken) (maxL := 2) (ret := (some .boolean)) (by decide) rfl ?_
  intro p e st m args below meth c s₁ B hml hv
  obtain ⟨hargs, hW, hT⟩ := hv
  have X : CallFix p m c cX4_isBroken 2 st _ lw_all RX4 := ⟨B.exec, B.bytes, hml, findClass_of_methodNamed B.named, fun w h => atoms_spec (ws := ws_ yX4_isBroken cX4_isBroken 2 (some .boolean)) B.pre w (List.mem_cons_of_mem _ h)⟩
  have hr := B.returns
  have hlk := B.notSynchronized
  have hS : va_S (wA w) st.heap st.heap [] := va_S.rf
  have vl134_0 : vl w 134 0 := hV.hv 134 rfl ⟨by omega, by show _ < (1 : Int); omega⟩
  have vl2_0 : vl w 2 0 := hV.hv 2 rfl ⟨by omega, by show _ < (1 : Int); omega⟩
  have hl := lv_entry ([.ref (wad w 2 0), .int (oI x1)]) (n := 2) (Nat.le_of_ble_eq_true rfl)
  have hfr := lg_entry_eq m ([.ref (wad w 2 0), .int (oI x1)]) 2
  rw [← hargs] at hfr
  rw [hfr]
  generalize (lg_sl ([.ref (wad w 2 0), .int (oI x1)]) ++ List.replicate (2 - (lg_sl ([.ref (wad w 2 0), .int (oI x1)])).length) Slot.unset).toArray = ls at hl ⊢
  have hl : lv_has ls 2 [(0, .ref (wad w 2 0)), (1, .int (oI x1))] := hl
  unfold wp_Flash_isBroken at h
  refine lv_aload_n X.1 X.2.1 dX4_isBroken_0 rfl (lv_at hl 0 rfl) ?_
  refine wg (v := .ref (wad w 134 0)) X hT hW 2 6 134 vl2_0 rfl rfl (by decide) rfl (by decide) in_X4 q229 rfl dX4_isBroken_1 ?_
  refine lv_iload_n X.1 X.2.1 dX4_isBroken_4 rfl (lv_at hl 1 rfl) ?_
  obtain ⟨bi, h⟩ := h
  refine w_zald (n := (wc w).1) X hT hW 134 vl134_0 (by decide) rfl rfl bi dX4_isBroken_5 ?_
  exact wret_Z X hr hlk hW hS (hW.r.az 134 0 x1 rfl) h dX4_isBroken_6
/-! House.getInt([BI)I -/
set_option maxHeartbeats 4000000 in
set_option maxRecDepth 100000 in
theorem wk_House_getInt_L4B {p : Program} {l : Launch} {e : Env} {st : State} {m : MethodId} {args : Array Value} {below : List Frame} {meth : Method} {c : Code} {w : Wp} {x0f : Nat} {x0o : Int} {x1 : Int} {Q : Int → St → Prop} (X : CallFix p m c cX1_getInt 4 st args lw_all RX1) (hr : meth.sig.returnType = (some .int)) (hlk : meth.locks = false) (hT : Tb w st) (vx0 : vl w x0f x0o) (nx0 : ¬ x0f < 64) (tx0 : aty x0f = 1) (rx1 : rI x1) (K4 : Int → Int → St → Prop) (hK4 : ∀ (y2 y3 : Int) (σ : St) (H : Heap) (locs : List Loc) (ls : Array Slot), rI y2 → rI y3 → lv_has ls 4 [(0, .ref (wad w x0f x0o)), (1, .int (oI x1)), (2, .int (oI y2)), (3, .int (oI y3))] → Wo w σ H → va_S (wA w) st.heap H locs → K4 y2 y3 σ → W p l e (headSpec (ws_ yX1_getInt cX1_getInt 4 (some .int)) rm_House_getInt).room st m args below meth c H locs 0 0 (MQ below (QcI w Q) args st 0 0 (wA w)) (F0 m 4 ls [])) : ∀ (y2 y3 : Int) (σ : St) (H : Heap) (locs : List Loc) (ls : Array Slot), rI y2 → rI y3 → lv_has ls 4 [(0, .ref (wad w x0f x0o)), (1, .int (oI x1)), (2, .int (oI y2)), (3, .int (oI y3))] → Wo w σ H → va_S (wA w) st.heap H locs → wp_House_getInt_L4 (wc w) (wtv w) x0f x0o x1 Q K4 y2 y3 σ → W p l e (headSpec (ws_ yX1_getInt cX1_getInt 4 (some .int)) rm_House_getInt).room st m args below meth c H locs 0 0 (MQ below (QcI w Q) args st 0 0 (wA w)) (F0 m 4 ls []) := by

  intro y2 y3 σ H locs ls ry2 ry3 hl hW hS h
  unfold wp_House_getInt_L4 at h
  refine lv_iload_n X.1 X.2.1 dX1_getInt_4 rfl (lv_at hl 3 rfl) ?_
  refine w_if_lt (tgt := 29) X ry3 dX1_getInt_5 (by decide) (fun hc => ?_) (fun hc => ?_)
  · have h := h.1 hc
    refine lv_iload_n X.1 X.2.1 dX1_getInt_29 rfl (lv_at hl 2 rfl) ?_
    exact wret_I X hr hlk hW hS ry2 h dX1_getInt_30
  · have h := h.2 hc
    refine lv_iload_n X.1 X.2.1 dX1_getInt_8 rfl (lv_at hl 2 rfl) ?_
    refine lv_bipush (v := oI 8) X.1 X.2.1 dX1_getInt_9 (by decide) ?_
    refine w_ishl X dX1_getInt_11 ?_
    refine lv_aload_n X.1 X.2.1 dX1_getInt_12 rfl (lv_at hl 0 rfl) ?_
    refine lv_iload_n X.1 X.2.1 dX1_getInt_13 rfl (lv_at hl 1 rfl) ?_
    refine lv_iload_n X.1 X.2.1 dX1_getInt_14 rfl (lv_at hl 3 rfl) ?_
    refine w_iadd X dX1_getInt_15 ?_
    obtain ⟨bi, h⟩ := h
    refine w_bald (n := (aln (wc w) x0f x0o)) X hT hW x0f vx0 nx0 tx0 rfl bi dX1_getInt_16 ?_
    refine lv_sipush (v := oI 255) X.1 X.2.1 dX1_getInt_17 (by decide) ?_
    refine w_iand X dX1_getInt_20 ?_
    refine w_ior X dX1_getInt_21 ?_
    refine w_top (fun y2_5 ey2_5 => ?_)
    have h := h y2_5 ey2_5
    have ry2_5 : rI y2_5 := by rw [ey2_5]; exact (ior_r _ _)
    refine lv_istore_n (i := 2) (lv' := [(2, .int (oI y2_5)), (0, .ref (wad w x0f x0o)), (1, .int (oI x1)), (3, .int (oI y3))]) X.1 X.2.1 dX1_getInt_22 rfl hl (by decide) (by first | rfl | simp [catK, catI, catR, catL]) (fun ls hl => ?_)
    obtain ⟨y3_6, ey3_6⟩ : ∃ y : Int, y = w32 (y3 + (-1)) := ⟨_, rfl⟩
    have h := h y3_6 ey3_6
    have ry3_6 : rI y3_6 := by rw [ey3_6]; exact w32_r _
    refine lv_iinc (v := oI y3_6) (lv' := [(3, .int (oI y3_6)), (2, .int (oI y2_5)), (0, .ref (wad w x0f x0o)), (1, .int (oI x1))]) X.1 X.2.1 dX1_getInt_23 hl (k := 3) rfl (by rw [ey3_6]; exact oI_add _ _) (by decide) (by first | rfl | simp [catK, catI, catR, catL]) (fun ls hl => ?_)
    refine lv_goto (tgt := 4) X.1 X.2.1 dX1_getInt_26 (by decide) ?_
    exact hK4 y2_5 y3_6 σ _ _ _ ry2_5 ry3_6 (lv_sub hl [2, 3, 1, 0] rfl) hW hS h
theorem wk_House_getInt_L4 {p : Program} {l : Launch} {e : Env} {st : State} {m : MethodId} {args : Array Value} {below : List Frame} {meth : Method} {c : Code} {w : Wp} {x0f : Nat} {x0o : Int} {x1 : Int} {Q : Int → St → Prop} (X : CallFix p m c cX1_getInt 4 st args lw_all RX1) (hr : meth.sig.returnType = (some .int)) (hlk : meth.locks = false) (hT : Tb w st) (vx0 : vl w x0f x0o) (nx0 : ¬ x0f < 64) (tx0 : aty x0f = 1) (rx1 : rI x1) : ∀ (y2 y3 : Int) (σ : St) (H : Heap) (locs : List Loc) (ls : Array Slot), rI y2 → rI y3 → lv_has ls 4 [(0, .ref (wad w x0f x0o)), (1, .int (oI x1)), (2, .int (oI y2)), (3, .int (oI y3))] → Wo w σ H → va_S (wA w) st.heap H locs → lQ2 (wp_House_getInt_L4 (wc w) (wtv w) x0f x0o x1 Q) y2 y3 σ → W p l e (headSpec (ws_ yX1_getInt cX1_getInt 4 (some .int)) rm_House_getInt).room st m args below meth c H locs 0 0 (MQ below (QcI w Q) args st 0 0 (wA w)) (F0 m 4 ls []) := by
  intro y2 y3 σ H locs ls ry2 ry3 hl hW hS h
  obtain ⟨fu, h⟩ := h
  induction fu generalizing y2 y3 σ H locs ls with
  | zero => exact h.elim
  | succ fu ih =>
    exact wk_House_getInt_L4B X hr hlk hT vx0 nx0 tx0 rx1 (lq2 (wp_House_getInt_L4 (wc w) (wtv w) x0f x0o x1 Q) fu) (fun y2 y3 σ H locs ls ry2 ry3 hl hW hS h => ih y2 y3 σ H locs ls ry2 ry3 hl hW hS h) y2 y3 σ H locs ls ry2 ry3 hl hW hS h
set_option maxHeartbeats 4000000 in
set_option maxRecDepth 100000 in
theorem met_House_getInt (l : Launch) {w : Wp} (x0f : Nat) (x0o : Int) (x1 : Int) (Q : Int → St → Prop) (σ : St) (vx0 : vl w x0f x0o) (nx0 : ¬ x0f < 64) (tx0 : aty x0f = 1) (rx1 : rI x1) (h : wp_House_getInt (wc w) (wtv w) x0f x0o x1 Q σ) : Met l yX1_getInt (ws_ yX1_getInt cX1_getInt 4 (some .int)) rm_House_getInt (PcW w σ [.ref (wad w x0f x0o), .int (oI x1)]) (QcI w Q) 0 0 (wA w) := by
  refine Met.ofW (cc := cX1_getInt) (maxL := 4) (ret := (some .int)) (by decide) rfl ?_
  intro p e st m args below meth c s₁ B hml hv
  obtain ⟨hargs, hW, hT⟩ := hv
  have X : CallFix p m c cX1_getInt 4 st _ lw_all RX1 := ⟨B.exec, B.bytes, hml, findClass_of_methodNamed B.named, fun w h => atoms_spec (ws := ws_ yX1_getInt cX1_getInt 4 (some .int)) B.pre w (List.mem_cons_of_mem _ h)⟩
  have hr := B.returns
  have hlk := B.notSynchronized
  have hS : va_S (wA w) st.heap st.heap [] := va_S.rf
  have hl := lv_entry ([.ref (wad w x0f x0o), .int (oI x1)]) (n := 4) (Nat.le_of_ble_eq_true rfl)
  have hfr := lg_entry_eq m ([.ref (wad w x0f x0o), .int (oI x1)]) 4
  rw [← hargs] at hfr
  rw [hfr]
  generalize (lg_sl ([.ref (wad w x0f x0o), .int (oI x1)]) ++ List.replicate (4 - (lg_sl ([.ref (wad w x0f x0o), .int (oI x1)])).length) Slot.unset).toArray = ls at hl ⊢
  have hl : lv_has ls 4 [(0, .ref (wad w x0f x0o)), (1, .int (oI x1))] := hl
  unfold wp_House_getInt at h
  refine lv_iconst (v := oI 0) X.1 X.2.1 dX1_getInt_0 rfl ?_
  refine lv_istore_n (i := 2) (lv' := [(2, .int (oI 0)), (0, .ref (wad w x0f x0o)), (1, .int (oI x1))]) X.1 X.2.1 dX1_getInt_1 rfl hl (by decide) (by first | rfl | simp [catK, catI, catR, catL]) (fun ls hl => ?_)
  refine lv_iconst (v := oI 3) X.1 X.2.1 dX1_getInt_2 rfl ?_
  refine lv_istore_n (i := 3) (lv' := [(3, .int (oI 3)), (2, .int (oI 0)), (0, .ref (wad w x0f x0o)), (1, .int (oI x1))]) X.1 X.2.1 dX1_getInt_3 rfl hl (by decide) (by first | rfl | simp [catK, catI, catR, catL]) (fun ls hl => ?_)
  exact wk_House_getInt_L4 X hr hlk hT vx0 nx0 tx0 rx1 0 3 σ _ _ _ rZ_0.i ((rB_lit 3 (by decide)).i) (lv_sub hl [2, 3, 1, 0] rfl) hW hS h
/-! House.getLong([BI)J -/
set_option maxHeartbeats 4000000 in
set_option maxRecDepth 100000 in
theorem met_House_getLong (l : Launch) {w : Wp} (x0f : Nat) (x0o : Int) (x1 : Int) (Q : Int → St → Prop) (σ : St) (vx0 : vl w x0f x0o) (nx0 : ¬ x0f < 64) (tx0 : aty x0f = 1) (rx1 : rI x1) (h : wp_House_getLong (wc w) (wtv w) x0f x0o x1 Q σ) : Met l yX1_getLong (ws_ yX1_getLong cX1_getLong 2 (some .long)) rm_House_getLong (PcW w σ [.ref (wad w x0f x0o), .int (oI x1)]) (QcJ w Q) 0 0 (wA w) := by
  refine Met.ofW (cc := cX1_getLong) (maxL := 2) (ret := (some .long)) (by decide) rfl ?_
  intro p e st m args below meth c s₁ B hml hv
  obtain ⟨hargs, hW, hT⟩ := hv
  have X : CallFix p m c cX1_getLong 2 st _ lw_all RX1 := ⟨B.exec, B.bytes, hml, findClass_of_methodNamed B.named, fun w h => atoms_spec (ws := ws_ yX1_getLong cX1_getLong 2 (some .long)) B.pre w (List.mem_cons_of_mem _ h)⟩
  have hr := B.returns
  have hlk := B.notSynchronized
  have hS : va_S (wA w) st.heap st.heap [] := va_S.rf
  have hl := lv_entry ([.ref (wad w x0f x0o), .int (oI x1)]) (n := 2) (Nat.le_of_ble_eq_true rfl)
  have hfr := lg_entry_eq m ([.ref (wad w x0f x0o), .int (oI x1)]) 2
  rw [← hargs] at hfr
  rw [hfr]
  generalize (lg_sl ([.ref (wad w x0f x0o), .int (oI x1)]) ++ List.replicate (2 - (lg_sl ([.ref (wad w x0f x0o), .int (oI x1)])).length) Slot.unset).toArray = ls at hl ⊢
  have hl : lv_has ls 2 [(0, .ref (wad w x0f x0o)), (1, .int (oI x1))] := hl
  unfold wp_House_getLong at h
  refine lv_aload_n X.1 X.2.1 dX1_getLong_0 rfl (lv_at hl 0 rfl) ?_
  refine lv_iload_n X.1 X.2.1 dX1_getLong_1 rfl (lv_at hl 1 rfl) ?_
  refine lv_iconst (v := oI 4) X.1 X.2.1 dX1_getLong_2 rfl ?_
  refine w_iadd X dX1_getLong_3 ?_
  refine wr_I (rS (As := [.ref (wad w x0f x0o), .int (oI (w32 (x1 + 4)))]) (rest := []) X hT hW hS (met_House_getInt l (w := w) x0f x0o (w32 (x1 + 4)) _ σ vx0 nx0 tx0 (w32_r _) h) (va_cwS 2 X.2.2.2.2 (lw_S q1225 q768 q131 q769) rfl rfl rfl (by decide +kernel) ⟨Nat.le_of_ble_eq_true rfl, Nat.le_of_ble_eq_true rfl⟩) rfl hl.1 rfl (by first | exact Nat.le_of_ble_eq_true rfl | simp [catK, catI, catR, catL]) dX1_getLong_4 ⟨Nat.le_refl _, Nat.le_refl _⟩) hS (fun r_5 σ_6 H locs rr_5 rkσ_6 h hWσ_6 hS => ?_)
  have h := h rr_5 rkσ_6
  refine w_i2l X rr_5 dX1_getLong_7 ?_
  refine lv_bipush (v := oI 32) X.1 X.2.1 dX1_getLong_8 (by decide) ?_
  refine w_lshl X dX1_getLong_10 ?_
  refine lv_aload_n X.1 X.2.1 dX1_getLong_11 rfl (lv_at hl 0 rfl) ?_
  refine lv_iload_n X.1 X.2.1 dX1_getLong_12 rfl (lv_at hl 1 rfl) ?_
  refine wr_I (rS (As := [.ref (wad w x0f x0o), .int (oI x1)]) (rest := [.long (oL (lshl r_5 32))]) X hT hWσ_6 hS (met_House_getInt l (w := w) x0f x0o x1 _ σ_6 vx0 nx0 tx0 rx1 h) (va_cwS 2 X.2.2.2.2 (lw_S q1225 q768 q131 q769) rfl rfl rfl (by decide +kernel) ⟨Nat.le_of_ble_eq_true rfl, Nat.le_of_ble_eq_true rfl⟩) rfl hl.1 rfl (by first | exact Nat.le_of_ble_eq_true rfl | simp [catK, catI, catR, catL]) dX1_getLong_13 ⟨Nat.le_refl _, Nat.le_refl _⟩) hS (fun r_7 σ_8 H locs rr_7 rkσ_8 h hWσ_8 hS => ?_)
  have h := h rr_7 rkσ_8
  refine w_i2l X rr_7 dX1_getLong_16 ?_
  refine w_ldc2 X (z := 4294967295) q1226 (by decide) dX1_getLong_17 ?_
  refine w_land X dX1_getLong_20 ?_
  refine w_lor X dX1_getLong_21 ?_
  exact wret_J X hr hlk hWσ_8 hS (lor_r _ _) h dX1_getLong_22
/-! House.isIn(III)Z -/
set_option maxHeartbeats 4000000 in
set_option maxRecDepth 100000 in
theorem met_House_isIn (l : Launch) {w : Wp} (x0 : Int) (x1 : Int) (x2 : Int) (Q : Int → St → Prop) (σ : St) (rx0 : rI x0) (rx1 : rI x1) (rx2 : rI x2) (h : wp_House_isIn (wc w) (wtv w) x0 x1 x2 Q σ) : Met l yX1_isIn (ws_ yX1_isIn cX1_isIn 3 (some .boolean)) rm_House_isIn (PcW w σ [.int (oI x0), .int (oI x1), .int (oI x2)]) (QcZ w Q) 0 0 (wA w) := by
  refine Met.ofW (cc := cX1_isIn) (maxL := 3) (ret := (some .boolean)) (by decide) rfl ?_
  intro p e st m args below meth c s₁ B hml hv
  obtain ⟨hargs, hW, hT⟩ := hv
  have X : CallFix p m c cX1_isIn 3 st _ lw_all RX1 := ⟨B.exec, B.bytes, hml, findClass_of_methodNamed B.named, fun w h => atoms_spec (ws := ws_ yX1_isIn cX1_isIn 3 (some .boolean)) B.pre w (List.mem_cons_of_mem _ h)⟩
  have hr := B.returns
  have hlk := B.notSynchronized
  have hS : va_S (wA w) st.heap st.heap [] := va_S.rf
  have hl := lv_entry ([.int (oI x0), .int (oI x1), .int (oI x2)]) (n := 3) (Nat.le_of_ble_eq_true rfl)
  have hfr := lg_entry_eq m ([.int (oI x0), .int (oI x1), .int (oI x2)]) 3
  rw [← hargs] at hfr
  rw [hfr]
  generalize (lg_sl ([.int (oI x0), .int (oI x1), .int (oI x2)]) ++ List.replicate (3 - (lg_sl ([.int (oI x0), .int (oI x1), .int (oI x2)])).length) Slot.unset).toArray = ls at hl ⊢
  have hl : lv_has ls 3 [(0, .int (oI x0)), (1, .int (oI x1)), (2, .int (oI x2))] := hl
  unfold wp_House_isIn at h
  refine lv_iload_n X.1 X.2.1 dX1_isIn_0 rfl (lv_at hl 0 rfl) ?_
  refine lv_iload_n X.1 X.2.1 dX1_isIn_1 rfl (lv_at hl 1 rfl) ?_
  refine w_icmp_lt (tgt := 14) X rx0 rx1 dX1_isIn_2 (by decide) (fun hc => ?_) (fun hc => ?_)
  · have h := h.1 hc
    refine lv_iconst (v := oI 0) X.1 X.2.1 dX1_isIn_14 rfl ?_
    exact wret_Z X hr hlk hW hS rZ_0 h dX1_isIn_15
  · have h := h.2 hc
    refine lv_iload_n X.1 X.2.1 dX1_isIn_5 rfl (lv_at hl 0 rfl) ?_
    refine lv_iload_n X.1 X.2.1 dX1_isIn_6 rfl (lv_at hl 2 rfl) ?_
    refine w_icmp_gt (tgt := 14) X rx0 rx2 dX1_isIn_7 (by decide) (fun hc => ?_) (fun hc => ?_)
    · have h := h.1 hc
      refine lv_iconst (v := oI 0) X.1 X.2.1 dX1_isIn_14 rfl ?_
      exact wret_Z X hr hlk hW hS rZ_0 h dX1_isIn_15
    · have h := h.2 hc
      refine lv_iconst (v := oI 1) X.1 X.2.1 dX1_isIn_10 rfl ?_
      refine lv_goto (tgt := 15) X.1 X.2.1 dX1_isIn_11 (by decide) ?_
      exact wret_Z X hr hlk hW hS rZ_1 h dX1_isIn_15
/-! Flash.isWeak(I)Z -/
set_option maxHeartbeats 4000000 in
set_option maxRecDepth 100000 in
theorem met_Flash_isWeak (l : Launch) {w : Wp} (hV : Hvl w) (x1 : Int) (Q : Int → St → Prop) (σ : St) (rx1 : rI x1) (h : wp_Flash_isWeak (wc w) (wtv w) x1 Q σ) : Met l yX4_isWeak (ws_ yX4_isWeak cX4_isWeak 2 (some .boolean)) rm_Flash_isWeak (PcW w σ [.ref (wad w 2 0), .int (oI x1)]) (QcZ w Q) 0 0 (wA w) := by
  refine Met.ofW (cc := cX4_isWeak) (maxL := 2) (ret := (some .boolean)) (by decide) rfl ?_
  intro p e st m args below meth c s₁ B hml hv
  obtain ⟨hargs, hW, hT⟩ := hv
  have X : CallFix p m c cX4_isWeak 2 st _ lw_all RX4 := ⟨B.exec, B.bytes, hml, findClass_of_methodNamed B.named, fun w h => atoms_spec (ws := ws_ yX4_isWeak cX4_isWeak 2 (some .boolean)) B.pre w (List.mem_cons_of_mem _ h)⟩
  have hr := B.returns
  have hlk := B.notSynchronized
  have hS : va_S (wA w) st.heap st.heap [] := va_S.rf
  have vl135_0 : vl w 135 0 := hV.hv 135 rfl ⟨by omega, by show _ < (1 : Int); omega⟩
  have vl2_0 : vl w 2 0 := hV.hv 2 rfl ⟨by omega, by show _ < (1 : Int); omega⟩
  have hl := lv_entry ([.ref (wad w 2 0), .int (oI x1)]) (n := 2) (Nat.le_of_ble_eq_true rfl)
  have hfr := lg_entry_eq m ([.ref (wad w 2 0), .int (oI x1)]) 2
  rw [← hargs] at hfr
  rw [hfr]
  generalize (lg_sl ([.ref (wad w 2 0), .int (oI x1)]) ++ List.replicate (2 - (lg_sl ([.ref (wad w 2 0), .int (oI x1)])).length) Slot.unset).toArray = ls at hl ⊢
  have hl : lv_has ls 2 [(0, .ref (wad w 2 0)), (1, .int (oI x1))] := hl
  unfold wp_Flash_isWeak at h
  refine lv_aload_n X.1 X.2.1 dX4_isWeak_0 rfl (lv_at hl 0 rfl) ?_
  refine wg (v := .ref (wad w 135 0)) X hT hW 2 7 135 vl2_0 rfl rfl (by decide) rfl (by decide) in_X4 q230 rfl dX4_isWeak_1 ?_
  refine lv_iload_n X.1 X.2.1 dX4_isWeak_4 rfl (lv_at hl 1 rfl) ?_
  obtain ⟨bi, h⟩ := h
  refine w_zald (n := (wc w).1) X hT hW 135 vl135_0 (by decide) rfl rfl bi dX4_isWeak_5 ?_
  exact wret_Z X hr hlk hW hS (hW.r.az 135 0 x1 rfl) h dX4_isWeak_6
/-! Flash.failIn(I)V -/
set_option maxHeartbeats 4000000 in
set_option maxRecDepth 100000 in
theorem met_Flash_failIn (l : Launch) {w : Wp} (hV : Hvl w) (x1 : Int) (Q : St → Prop) (σ : St) (rx1 : rI x1) (h : wp_Flash_failIn (wc w) (wtv w) x1 Q σ) : Met l yX4_failIn (ws_ yX4_failIn cX4_failIn 2 none) rm_Flash_failIn (PcW w σ [.ref (wad w 2 0), .int (oI x1)]) (QcV w Q) 0 0 (wA w) := by
  refine Met.ofW (cc := cX4_failIn) (maxL := 2) (ret := none) (by decide) rfl ?_
  intro p e st m args below meth c s₁ B hml hv
  obtain ⟨hargs, hW, hT⟩ := hv
  have X : CallFix p m c cX4_failIn 2 st _ lw_all RX4 := ⟨B.exec, B.bytes, hml, findClass_of_methodNamed B.named, fun w h => atoms_spec (ws := ws_ yX4_failIn cX4_failIn 2 none) B.pre w (List.mem_cons_of_mem _ h)⟩
  have hr := B.returns
  have hlk := B.notSynchronized
  have hS : va_S (wA w) st.heap st.heap [] := va_S.rf
  have vl2_0 : vl w 2 0 := hV.hv 2 rfl ⟨by omega, by show _ < (1 : Int); omega⟩
  have hl := lv_entry ([.ref (wad w 2 0), .int (oI x1)]) (n := 2) (Nat.le_of_ble_eq_true rfl)
  have hfr := lg_entry_eq m ([.ref (wad w 2 0), .int (oI x1)]) 2
  rw [← hargs] at hfr
  rw [hfr]
  generalize (lg_sl ([.ref (wad w 2 0), .int (oI x1)]) ++ List.replicate (2 - (lg_sl ([.ref (wad w 2 0), .int (oI x1)])).length) Slot.unset).toArray = ls at hl ⊢
  have hl : lv_has ls 2 [(0, .ref (wad w 2 0)), (1, .int (oI x1))] := hl
  unfold wp_Flash_failIn at h
  refine lv_aload_n X.1 X.2.1 dX4_failIn_0 rfl (lv_at hl 0 rfl) ?_
  refine lv_iload_n X.1 X.2.1 dX4_failIn_1 rfl (lv_at hl 1 rfl) ?_
  refine lv_iconst (v := oI 1) X.1 X.2.1 dX4_failIn_2 rfl ?_
  refine w_isub X dX4_failIn_3 ?_
  refine wput (z := w32 (x1 - 1)) X hT hW hS 2 8 136 vl2_0 rfl rfl (by decide) rfl (by decide) in_X4 tyX4 tyX4_ok nmX4 q231 rfl rfl (w32_r _) (fv0 w rfl) rfl rfl dX4_failIn_4 (fun H locs hN hS => ?_)
  obtain ⟨σ_2, eσ_2⟩ : ∃ x, x = sI σ 136 0 (w32 (x1 - 1)) := ⟨_, rfl⟩
  have hWσ_2 : Wo w σ_2 H := eσ_2 ▸ hN
  have h := h σ_2 eσ_2
  clear hN
  exact wret_V X hr hlk hWσ_2 hS h dX4_failIn_7
/-! Flash.turn(I)V -/
set_option maxHeartbeats 4000000 in
set_option maxRecDepth 100000 in
theorem wk_Flash_turn_b180 {p : Program} {l : Launch} {e : Env} {st : State} {m : MethodId} {args : Array Value} {below : List Frame} {meth : Method} {c : Code} {w : Wp} {x1 : Int} {Q : St → Prop} (X : CallFix p m c cX4_turn 8 st args lw_all RX4) (hr : meth.sig.returnType = none) (hlk : meth.locks = false) (hT : Tb w st) (hV : Hvl w) (rx1 : rI x1) (K98 : Int → Int → Int → Int → St → Prop) (hK98 : ∀ (y3 y4 y5 y6 : Int) (σ : St) (H : Heap) (locs : List Loc) (ls : Array Slot), rI y3 → rI y4 → rI y5 → rI y6 → lv_has ls 8 [(0, .ref (wad w 2 0)), (3, .int (oI y3)), (4, .int (oI y4)), (5, .int (oI y5)), (6, .int (oI y6))] → Wo w σ H → va_S (wA w) st.heap H locs → K98 y3 y4 y5 y6 σ → W p l e (headSpec (ws_ yX4_turn cX4_turn 8 none) rm_Flash_turn).room st m args below meth c H locs 0 0 (MQ below (QcV w Q) args st 0 0 (wA w)) (F0 m 98 ls [])) : ∀ (y3 y4 y5 y6 : Int) (σ : St) (H : Heap) (locs : List Loc) (ls : Array Slot), rI y3 → rI y4 → rI y5 → rI y6 → lv_has ls 8 [(0, .ref (wad w 2 0)), (3, .int (oI y3)), (4, .int (oI y4)), (5, .int (oI y5)), (6, .int (oI y6))] → Wo w σ H → va_S (wA w) st.heap H locs → wp_Flash_turn_b180 (wc w) (wtv w) x1 Q K98 y3 y4 y5 y6 σ → W p l e (headSpec (ws_ yX4_turn cX4_turn 8 none) rm_Flash_turn).room st m args below meth c H locs 0 0 (MQ below (QcV w Q) args st 0 0 (wA w)) (F0 m 180 ls []) := by

  intro y3 y4 y5 y6 σ H locs ls ry3 ry4 ry5 ry6 hl hW hS h
  unfold wp_Flash_turn_b180 at h
  obtain ⟨y6_34, ey6_34⟩ : ∃ y : Int, y = w32 (y6 + 1) := ⟨_, rfl⟩
  have h := h y6_34 ey6_34
  have ry6_34 : rI y6_34 := by rw [ey6_34]; exact w32_r _
  refine lv_iinc (v := oI y6_34) (lv' := [(6, .int (oI y6_34)), (0, .ref (wad w 2 0)), (3, .int (oI y3)), (4, .int (oI y4)), (5, .int (oI y5))]) X.1 X.2.1 dX4_turn_180 hl (k := 4) rfl (by rw [ey6_34]; exact oI_add _ _) (by decide) (by first | rfl | simp [catK, catI, catR, catL]) (fun ls hl => ?_)
  refine lv_goto (tgt := 98) X.1 X.2.1 dX4_turn_183 (by decide) ?_
  exact hK98 y3 y4 y5 y6_34 σ _ _ _ ry3 ry4 ry5 ry6_34 (lv_sub hl [1, 2, 3, 4, 0] rfl) hW hS h
set_option maxHeartbeats 4000000 in
set_option maxRecDepth 100000 in
theorem wk_Flash_turn_L98B {p : Program} {l : Launch} {e : Env} {st : State} {m : MethodId} {args : Array Value} {below : List Frame} {meth : Method} {c : Code} {w : Wp} {x1 : Int} {Q : St → Prop} (X : CallFix p m c cX4_turn 8 st args lw_all RX4) (hr : meth.sig.returnType = none) (hlk : meth.locks = false) (hT : Tb w st) (hV : Hvl w) (rx1 : rI x1) (K86 : Int → Int → Int → St → Prop) (K98 : Int → Int → Int → Int → St → Prop) (hK86 : ∀ (y3 y4 y5 : Int) (σ : St) (H : Heap) (locs : List Loc) (ls : Array Slot), rI y3 → rI y4 → rI y5 → lv_has ls 8 [(0, .ref (wad w 2 0)), (3, .int (oI y3)), (4, .int (oI y4)), (5, .int (oI y5))] → Wo w σ H → va_S (wA w) st.heap H locs → K86 y3 y4 y5 σ → W p l e (headSpec (ws_ yX4_turn cX4_turn 8 none) rm_Flash_turn).room st m args below meth c H locs 0 0 (MQ below (QcV w Q) args st 0 0 (wA w)) (F0 m 86 ls [])) (hK98 : ∀ (y3 y4 y5 y6 : Int) (σ : St) (H : Heap) (locs : List Loc) (ls : Array Slot), rI y3 → rI y4 → rI y5 → rI y6 → lv_has ls 8 [(0, .ref (wad w 2 0)), (3, .int (oI y3)), (4, .int (oI y4)), (5, .int (oI y5)), (6, .int (oI y6))] → Wo w σ H → va_S (wA w) st.heap H locs → K98 y3 y4 y5 y6 σ → W p l e (headSpec (ws_ yX4_turn cX4_turn 8 none) rm_Flash_turn).room st m args below meth c H locs 0 0 (MQ below (QcV w Q) args st 0 0 (wA w)) (F0 m 98 ls [])) : ∀ (y3 y4 y5 y6 : Int) (σ : St) (H : Heap) (locs : List Loc) (ls : Array Slot), rI y3 → rI y4 → rI y5 → rI y6 → lv_has ls 8 [(0, .ref (wad w 2 0)), (3, .int (oI y3)), (4, .int (oI y4)), (5, .int (oI y5)), (6, .int (oI y6))] → Wo w σ H → va_S (wA w) st.heap H locs → wp_Flash_turn_L98 (wc w) (wtv w) x1 Q K86 K98 y3 y4 y5 y6 σ → W p l e (headSpec (ws_ yX4_turn cX4_turn 8 none) rm_Flash_turn).room st m args below meth c H locs 0 0 (MQ below (QcV w Q) args st 0 0 (wA w)) (F0 m 98 ls []) := by
  have vl130_0 : vl w 130 0 := hV.hv 130 rfl ⟨by omega, by show _ < (1 : Int); omega⟩
  have vl132_0 : vl w 132 0 := hV.hv 132 rfl ⟨by omega, by show _ < (1 : Int); omega⟩
  have vl133_0 : vl w 133 0 := hV.hv 133 rfl ⟨by omega, by show _ < (1 : Int); omega⟩
  have vl2_0 : vl w 2 0 := hV.hv 2 rfl ⟨by omega, by show _ < (1 : Int); omega⟩
  intro y3 y4 y5 y6 σ H locs ls ry3 ry4 ry5 ry6 hl hW hS h
  unfold wp_Flash_turn_L98 at h
  refine lv_iload X.1 X.2.1 dX4_turn_98 (lv_at hl 4 rfl) ?_
  refine lv_aload_n X.1 X.2.1 dX4_turn_100 rfl (lv_at hl 0 rfl) ?_
  refine wg (v := .ref (wad w 133 0)) X hT hW 2 5 133 vl2_0 rfl rfl (by decide) rfl (by decide) in_X4 q228 rfl dX4_turn_101 ?_
  refine lv_iload X.1 X.2.1 dX4_turn_104 (lv_at hl 3 rfl) ?_
  obtain ⟨bi, h⟩ := h
  refine w_iald (n := (wc w).1) X hT hW 133 vl133_0 (by decide) rfl rfl bi dX4_turn_106 ?_
  refine w_icmp_ge (tgt := 186) X ry6 (hW.r.ai 133 0 y5 rfl) dX4_turn_107 (by decide) (fun hc => ?_) (fun hc => ?_)
  · have h := h.1 hc
    obtain ⟨y5_35, ey5_35⟩ : ∃ y : Int, y = w32 (y5 + 1) := ⟨_, rfl⟩
    have h := h y5_35 ey5_35
    have ry5_35 : rI y5_35 := by rw [ey5_35]; exact w32_r _
    refine lv_iinc (v := oI y5_35) (lv' := [(5, .int (oI y5_35)), (0, .ref (wad w 2 0)), (3, .int (oI y3)), (4, .int (oI y4)), (6, .int (oI y6))]) X.1 X.2.1 dX4_turn_186 hl (k := 3) rfl (by rw [ey5_35]; exact oI_add _ _) (by decide) (by first | rfl | simp [catK, catI, catR, catL]) (fun ls hl => ?_)
    refine lv_goto (tgt := 86) X.1 X.2.1 dX4_turn_189 (by decide) ?_
    exact hK86 y3 y4 y5_35 σ _ _ _ ry3 ry4 ry5_35 (lv_sub hl [1, 2, 3, 0] rfl) hW hS h
  · have h := h.2 hc
    refine lv_iload X.1 X.2.1 dX4_turn_110 (lv_at hl 3 rfl) ?_
    refine lv_aload_n X.1 X.2.1 dX4_turn_112 rfl (lv_at hl 0 rfl) ?_
    refine wg (v := .int (oI (wc w).2.1)) X hT hW 2 1 129 vl2_0 rfl rfl (by decide) rfl (by decide) in_X4 q223 rfl dX4_turn_113 ?_
    refine w_imul X dX4_turn_116 ?_
    refine lv_iload X.1 X.2.1 dX4_turn_117 (lv_at hl 4 rfl) ?_
    refine w_iadd X dX4_turn_119 ?_
    refine w_top (fun y7_36 ey7_36 => ?_)
    have h := h y7_36 ey7_36
    have ry7_36 : rI y7_36 := by rw [ey7_36]; exact (w32_r _)
    refine lv_istore (i := 7) (lv' := [(7, .int (oI y7_36)), (0, .ref (wad w 2 0)), (3, .int (oI y3)), (4, .int (oI y4)), (5, .int (oI y5)), (6, .int (oI y6))]) X.1 X.2.1 dX4_turn_120 hl (by decide) (by first | rfl | simp [catK, catI, catR, catL]) (fun ls hl => ?_)
    refine lv_aload_n X.1 X.2.1 dX4_turn_122 rfl (lv_at hl 1 rfl) ?_
    refine wg (v := .ref (wad w 132 0)) X hT hW 2 4 132 vl2_0 rfl rfl (by decide) rfl (by decide) in_X4 q227 rfl dX4_turn_123 ?_
    refine lv_iload X.1 X.2.1 dX4_turn_126 (lv_at hl 0 rfl) ?_
    obtain ⟨bi, h⟩ := h
    refine w_zald (n := ((wc w).1 * (wc w).2.1)) X hT hW 132 vl132_0 (by decide) rfl rfl bi dX4_turn_128 ?_
    refine w_if_eq (tgt := 135) X ((hW.r.az 132 0 y7_36 rfl).i) dX4_turn_129 (by decide) (fun hc => ?_) (fun hc => ?_)
    · have h := h.1 hc
      refine lv_iload_n X.1 X.2.1 dX4_turn_135 rfl (lv_at hl 2 rfl) ?_
      refine w_if_ne (tgt := 177) X ry3 dX4_turn_136 (by decide) (fun hc => ?_) (fun hc => ?_)
      · have h := h.1 hc
        obtain ⟨y3_37, ey3_37⟩ : ∃ y : Int, y = w32 (y3 + (-1)) := ⟨_, rfl⟩
        have h := h y3_37 ey3_37
        have ry3_37 : rI y3_37 := by rw [ey3_37]; exact w32_r _
        refine lv_iinc (v := oI y3_37) (lv' := [(3, .int (oI y3_37)), (7, .int (oI y7_36)), (0, .ref (wad w 2 0)), (4, .int (oI y4)), (5, .int (oI y5)), (6, .int (oI y6))]) X.1 X.2.1 dX4_turn_177 hl (k := 2) rfl (by rw [ey3_37]; exact oI_add _ _) (by decide) (by first | rfl | simp [catK, catI, catR, catL]) (fun ls hl => ?_)
        exact wk_Flash_turn_b180 X hr hlk hT hV rx1 K98 hK98 y3_37 y4 y5 y6 σ _ _ _ ry3_37 ry4 ry5 ry6 (lv_sub hl [2, 0, 3, 4, 5] rfl) hW hS h
      · have h := h.2 hc
        refine lv_aload_n X.1 X.2.1 dX4_turn_139 rfl (lv_at hl 1 rfl) ?_
        refine wg (v := .ref (wad w 130 0)) X hT hW 2 2 130 vl2_0 rfl rfl (by decide) rfl (by decide) in_X4 q225 rfl dX4_turn_140 ?_
        refine lv_iload X.1 X.2.1 dX4_turn_143 (lv_at hl 0 rfl) ?_
        refine lv_sipush (v := oI 128) X.1 X.2.1 dX4_turn_145 (by decide) ?_
        refine w_imul X dX4_turn_148 ?_
        refine lv_iload X.1 X.2.1 dX4_turn_149 (lv_at hl 3 rfl) ?_
        refine lv_bipush (v := oI 8) X.1 X.2.1 dX4_turn_151 (by decide) ?_
        refine w_idiv X ry4 ((rB_lit 8 (by decide)).i) (by decide) dX4_turn_153 ?_
        refine w_iadd X dX4_turn_154 ?_
        refine lv_dup2_11 X.1 X.2.1 dX4_turn_155 rfl rfl ?_
        obtain ⟨bi, h⟩ := h
        refine w_bald (n := (128 * ((wc w).1 * (wc w).2.1))) X hT hW 130 vl130_0 (by decide) rfl rfl bi dX4_turn_156 ?_
        refine lv_iconst (v := oI 1) X.1 X.2.1 dX4_turn_157 rfl ?_
        refine lv_iload X.1 X.2.1 dX4_turn_158 (lv_at hl 3 rfl) ?_
        refine lv_bipush (v := oI 8) X.1 X.2.1 dX4_turn_160 (by decide) ?_
        refine w_irem X ry4 ((rB_lit 8 (by decide)).i) (by decide) dX4_turn_162 ?_
        refine w_ishl X dX4_turn_163 ?_
        refine w_i2b X dX4_turn_164 ?_
        refine w_ixor X dX4_turn_165 ?_
        refine w_i2b X dX4_turn_166 ?_
        obtain ⟨bi, h⟩ := h
        refine w_bast (n := (128 * ((wc w).1 * (wc w).2.1))) X hT hW hS 130 vl130_0 (by decide) rfl rfl bi (b8_r _) dX4_turn_167 (fun H locs hN hS => ?_)
        obtain ⟨σ_38, eσ_38⟩ : ∃ x, x = sA σ 130 0 (w32 ((w32 (y7_36 * 128)) + (jdv y4 8))) (b8 (ixor (gA σ 130 0 (w32 ((w32 (y7_36 * 128)) + (jdv y4 8)))) (b8 (ishl 1 (jrm y4 8))))) := ⟨_, rfl⟩
        have hWσ_38 : Wo w σ_38 H := eσ_38 ▸ hN
        have h := h σ_38 eσ_38
        clear hN
        refine lv_aload_n X.1 X.2.1 dX4_turn_168 rfl (lv_at hl 1 rfl) ?_
        refine wg (v := .ref (wad w 132 0)) X hT hWσ_38 2 4 132 vl2_0 rfl rfl (by decide) rfl (by decide) in_X4 q227 rfl dX4_turn_169 ?_
        refine lv_iload X.1 X.2.1 dX4_turn_172 (lv_at hl 0 rfl) ?_
        refine lv_iconst (v := oI 1) X.1 X.2.1 dX4_turn_174 rfl ?_
        obtain ⟨bi, h⟩ := h
        refine w_zast (n := ((wc w).1 * (wc w).2.1)) X hT hWσ_38 hS 132 vl132_0 (by decide) rfl rfl bi rZ_1 dX4_turn_175 (fun H locs hN hS => ?_)
        obtain ⟨σ_39, eσ_39⟩ : ∃ x, x = sA σ_38 132 0 y7_36 1 := ⟨_, rfl⟩
        have hWσ_39 : Wo w σ_39 H := eσ_39 ▸ hN
        have h := h σ_39 eσ_39
        clear hN
        exact wret_V X hr hlk hWσ_39 hS h dX4_turn_176
    · have h := h.2 hc
      refine lv_goto (tgt := 180) X.1 X.2.1 dX4_turn_132 (by decide) ?_
      exact wk_Flash_turn_b180 X hr hlk hT hV rx1 K98 hK98 y3 y4 y5 y6 σ _ _ _ ry3 ry4 ry5 ry6 (lv_sub hl [1, 2, 3, 4, 5] rfl) hW hS h
theorem wk_Flash_turn_L98 {p : Program} {l : Launch} {e : Env} {st : State} {m : MethodId} {args : Array Value} {below : List Frame} {meth : Method} {c : Code} {w : Wp} {x1 : Int} {Q : St → Prop} (X : CallFix p m c cX4_turn 8 st args lw_all RX4) (hr : meth.sig.returnType = none) (hlk : meth.locks = false) (hT : Tb w st) (hV : Hvl w) (rx1 : rI x1) (K86 : Int → Int → Int → St → Prop) (hK86 : ∀ (y3 y4 y5 : Int) (σ : St) (H : Heap) (locs : List Loc) (ls : Array Slot), rI y3 → rI y4 → rI y5 → lv_has ls 8 [(0, .ref (wad w 2 0)), (3, .int (oI y3)), (4, .int (oI y4)), (5, .int (oI y5))] → Wo w σ H → va_S (wA w) st.heap H locs → K86 y3 y4 y5 σ → W p l e (headSpec (ws_ yX4_turn cX4_turn 8 none) rm_Flash_turn).room st m args below meth c H locs 0 0 (MQ below (QcV w Q) args st 0 0 (wA w)) (F0 m 86 ls [])) : ∀ (y3 y4 y5 y6 : Int) (σ : St) (H : Heap) (locs : List Loc) (ls : Array Slot), rI y3 → rI y4 → rI y5 → rI y6 → lv_has ls 8 [(0, .ref (wad w 2 0)), (3, .int (oI y3)), (4, .int (oI y4)), (5, .int (oI y5)), (6, .int (oI y6))] → Wo w σ H → va_S (wA w) st.heap H locs → lQ4 (wp_Flash_turn_L98 (wc w) (wtv w) x1 Q K86) y3 y4 y5 y6 σ → W p l e (headSpec (ws_ yX4_turn cX4_turn 8 none) rm_Flash_turn).room st m args below meth c H locs 0 0 (MQ below (QcV w Q) args st 0 0 (wA w)) (F0 m 98 ls []) := by
  intro y3 y4 y5 y6 σ H locs ls ry3 ry4 ry5 ry6 hl hW hS h
  obtain ⟨fu, h⟩ := h
  induction fu generalizing y3 y4 y5 y6 σ H locs ls with
  | zero => exact h.elim
  | succ fu ih =>
    exact wk_Flash_turn_L98B X hr hlk hT hV rx1 K86 (lq4 (wp_Flash_turn_L98 (wc w) (wtv w) x1 Q K86) fu) hK86 (fun y3 y4 y5 y6 σ H locs ls ry3 ry4 ry5 ry6 hl hW hS h => ih y3 y4 y5 y6 σ H locs ls ry3 ry4 ry5 ry6 hl hW hS h) y3 y4 y5 y6 σ H locs ls ry3 ry4 ry5 ry6 hl hW hS h
set_option maxHeartbeats 4000000 in
set_option maxRecDepth 100000 in
theorem wk_Flash_turn_L15B {p : Program} {l : Launch} {e : Env} {st : State} {m : MethodId} {args : Array Value} {below : List Frame} {meth : Method} {c : Code} {w : Wp} {x1 : Int} {Q : St → Prop} (X : CallFix p m c cX4_turn 8 st args lw_all RX4) (hr : meth.sig.returnType = none) (hlk : meth.locks = false) (hT : Tb w st) (hV : Hvl w) (rx1 : rI x1) (K4 : Int → Int → St → Prop) (K15 : Int → Int → Int → St → Prop) (hK4 : ∀ (y2 y3 : Int) (σ : St) (H : Heap) (locs : List Loc) (ls : Array Slot), rI y2 → rI y3 → lv_has ls 8 [(0, .ref (wad w 2 0)), (1, .int (oI x1)), (2, .int (oI y2)), (3, .int (oI y3))] → Wo w σ H → va_S (wA w) st.heap H locs → K4 y2 y3 σ → W p l e (headSpec (ws_ yX4_turn cX4_turn 8 none) rm_Flash_turn).room st m args below meth c H locs 0 0 (MQ below (QcV w Q) args st 0 0 (wA w)) (F0 m 4 ls [])) (hK15 : ∀ (y2 y3 y4 : Int) (σ : St) (H : Heap) (locs : List Loc) (ls : Array Slot), rI y2 → rI y3 → rI y4 → lv_has ls 8 [(0, .ref (wad w 2 0)), (1, .int (oI x1)), (2, .int (oI y2)), (3, .int (oI y3)), (4, .int (oI y4))] → Wo w σ H → va_S (wA w) st.heap H locs → K15 y2 y3 y4 σ → W p l e (headSpec (ws_ yX4_turn cX4_turn 8 none) rm_Flash_turn).room st m args below meth c H locs 0 0 (MQ below (QcV w Q) args st 0 0 (wA w)) (F0 m 15 ls [])) : ∀ (y2 y3 y4 : Int) (σ : St) (H : Heap) (locs : List Loc) (ls : Array Slot), rI y2 → rI y3 → rI y4 → lv_has ls 8 [(0, .ref (wad w 2 0)), (1, .int (oI x1)), (2, .int (oI y2)), (3, .int (oI y3)), (4, .int (oI y4))] → Wo w σ H → va_S (wA w) st.heap H locs → wp_Flash_turn_L15 (wc w) (wtv w) x1 Q K4 K15 y2 y3 y4 σ → W p l e (headSpec (ws_ yX4_turn cX4_turn 8 none) rm_Flash_turn).room st m args below meth c H locs 0 0 (MQ below (QcV w Q) args st 0 0 (wA w)) (F0 m 15 ls []) := by
  have vl132_0 : vl w 132 0 := hV.hv 132 rfl ⟨by omega, by show _ < (1 : Int); omega⟩
  have vl133_0 : vl w 133 0 := hV.hv 133 rfl ⟨by omega, by show _ < (1 : Int); omega⟩
  have vl2_0 : vl w 2 0 := hV.hv 2 rfl ⟨by omega, by show _ < (1 : Int); omega⟩
  intro y2 y3 y4 σ H locs ls ry2 ry3 ry4 hl hW hS h
  unfold wp_Flash_turn_L15 at h
  refine lv_iload X.1 X.2.1 dX4_turn_15 (lv_at hl 4 rfl) ?_
  refine lv_aload_n X.1 X.2.1 dX4_turn_17 rfl (lv_at hl 0 rfl) ?_
  refine wg (v := .ref (wad w 133 0)) X hT hW 2 5 133 vl2_0 rfl rfl (by decide) rfl (by decide) in_X4 q228 rfl dX4_turn_18 ?_
  refine lv_iload_n X.1 X.2.1 dX4_turn_21 rfl (lv_at hl 3 rfl) ?_
  obtain ⟨bi, h⟩ := h
  refine w_iald (n := (wc w).1) X hT hW 133 vl133_0 (by decide) rfl rfl bi dX4_turn_22 ?_
  refine w_icmp_ge (tgt := 57) X ry4 (hW.r.ai 133 0 y3 rfl) dX4_turn_23 (by decide) (fun hc => ?_) (fun hc => ?_)
  · have h := h.1 hc
    obtain ⟨y3_40, ey3_40⟩ : ∃ y : Int, y = w32 (y3 + 1) := ⟨_, rfl⟩
    have h := h y3_40 ey3_40
    have ry3_40 : rI y3_40 := by rw [ey3_40]; exact w32_r _
    refine lv_iinc (v := oI y3_40) (lv' := [(3, .int (oI y3_40)), (0, .ref (wad w 2 0)), (1, .int (oI x1)), (2, .int (oI y2)), (4, .int (oI y4))]) X.1 X.2.1 dX4_turn_57 hl (k := 3) rfl (by rw [ey3_40]; exact oI_add _ _) (by decide) (by first | rfl | simp [catK, catI, catR, catL]) (fun ls hl => ?_)
    refine lv_goto (tgt := 4) X.1 X.2.1 dX4_turn_60 (by decide) ?_
    exact hK4 y2 y3_40 σ _ _ _ ry2 ry3_40 (lv_sub hl [1, 2, 3, 0] rfl) hW hS h
  · have h := h.2 hc
    refine lv_iload_n X.1 X.2.1 dX4_turn_26 rfl (lv_at hl 2 rfl) ?_
    refine lv_aload_n X.1 X.2.1 dX4_turn_27 rfl (lv_at hl 0 rfl) ?_
    refine wg (v := .ref (wad w 132 0)) X hT hW 2 4 132 vl2_0 rfl rfl (by decide) rfl (by decide) in_X4 q227 rfl dX4_turn_28 ?_
    refine lv_iload_n X.1 X.2.1 dX4_turn_31 rfl (lv_at hl 3 rfl) ?_
    refine lv_aload_n X.1 X.2.1 dX4_turn_32 rfl (lv_at hl 0 rfl) ?_
    refine wg (v := .int (oI (wc w).2.1)) X hT hW 2 1 129 vl2_0 rfl rfl (by decide) rfl (by decide) in_X4 q223 rfl dX4_turn_33 ?_
    refine w_imul X dX4_turn_36 ?_
    refine lv_iload X.1 X.2.1 dX4_turn_37 (lv_at hl 4 rfl) ?_
    refine w_iadd X dX4_turn_39 ?_
    obtain ⟨bi, h⟩ := h
    refine w_zald (n := ((wc w).1 * (wc w).2.1)) X hT hW 132 vl132_0 (by decide) rfl rfl bi dX4_turn_40 ?_
    refine w_cut (pc2 := 49) (st2 := [.int (oI (if (gA σ 132 0 (w32 ((w32 (y3 * (wc w).2.1)) + y4))) = 0 then (1 : Int) else (0 : Int))), .int (oI y2)]) (fun hj => ?_) ?_
    · refine w_if_eq (tgt := 48) X ((hW.r.az 132 0 (w32 ((w32 (y3 * (wc w).2.1)) + y4)) rfl).i) dX4_turn_41 (by decide) (fun hc => ?_) (fun hc => ?_)
      · refine lv_iconst (v := oI 1) X.1 X.2.1 dX4_turn_48 rfl ?_
        rw [if_pos hc] at hj; exact hj
      · refine lv_iconst (v := oI 0) X.1 X.2.1 dX4_turn_44 rfl ?_
        refine lv_goto (tgt := 49) X.1 X.2.1 dX4_turn_45 (by decide) ?_
        rw [if_neg hc] at hj; exact hj
    refine w_iadd X dX4_turn_49 ?_
    refine w_top (fun y2_41 ey2_41 => ?_)
    have h := h y2_41 ey2_41
    have ry2_41 : rI y2_41 := by rw [ey2_41]; exact (w32_r _)
    refine lv_istore_n (i := 2) (lv' := [(2, .int (oI y2_41)), (0, .ref (wad w 2 0)), (1, .int (oI x1)), (3, .int (oI y3)), (4, .int (oI y4))]) X.1 X.2.1 dX4_turn_50 rfl hl (by decide) (by first | rfl | simp [catK, catI, catR, catL]) (fun ls hl => ?_)
    obtain ⟨y4_42, ey4_42⟩ : ∃ y : Int, y = w32 (y4 + 1) := ⟨_, rfl⟩
    have h := h y4_42 ey4_42
    have ry4_42 : rI y4_42 := by rw [ey4_42]; exact w32_r _
    refine lv_iinc (v := oI y4_42) (lv' := [(4, .int (oI y4_42)), (2, .int (oI y2_41)), (0, .ref (wad w 2 0)), (1, .int (oI x1)), (3, .int (oI y3))]) X.1 X.2.1 dX4_turn_51 hl (k := 4) rfl (by rw [ey4_42]; exact oI_add _ _) (by decide) (by first | rfl | simp [catK, catI, catR, catL]) (fun ls hl => ?_)
    refine lv_goto (tgt := 15) X.1 X.2.1 dX4_turn_54 (by decide) ?_
    exact hK15 y2_41 y3 y4_42 σ _ _ _ ry2_41 ry3 ry4_42 (lv_sub hl [2, 3, 1, 4, 0] rfl) hW hS h
theorem wk_Flash_turn_L15 {p : Program} {l : Launch} {e : Env} {st : State} {m : MethodId} {args : Array Value} {below : List Frame} {meth : Method} {c : Code} {w : Wp} {x1 : Int} {Q : St → Prop} (X : CallFix p m c cX4_turn 8 st args lw_all RX4) (hr : meth.sig.returnType = none) (hlk : meth.locks = false) (hT : Tb w st) (hV : Hvl w) (rx1 : rI x1) (K4 : Int → Int → St → Prop) (hK4 : ∀ (y2 y3 : Int) (σ : St) (H : Heap) (locs : List Loc) (ls : Array Slot), rI y2 → rI y3 → lv_has ls 8 [(0, .ref (wad w 2 0)), (1, .int (oI x1)), (2, .int (oI y2)), (3, .int (oI y3))] → Wo w σ H → va_S (wA w) st.heap H locs → K4 y2 y3 σ → W p l e (headSpec (ws_ yX4_turn cX4_turn 8 none) rm_Flash_turn).room st m args below meth c H locs 0 0 (MQ below (QcV w Q) args st 0 0 (wA w)) (F0 m 4 ls [])) : ∀ (y2 y3 y4 : Int) (σ : St) (H : Heap) (locs : List Loc) (ls : Array Slot), rI y2 → rI y3 → rI y4 → lv_has ls 8 [(0, .ref (wad w 2 0)), (1, .int (oI x1)), (2, .int (oI y2)), (3, .int (oI y3)), (4, .int (oI y4))] → Wo w σ H → va_S (wA w) st.heap H locs → lQ3 (wp_Flash_turn_L15 (wc w) (wtv w) x1 Q K4) y2 y3 y4 σ → W p l e (headSpec (ws_ yX4_turn cX4_turn 8 none) rm_Flash_turn).room st m args below meth c H locs 0 0 (MQ below (QcV w Q) args st 0 0 (wA w)) (F0 m 15 ls []) := by
  intro y2 y3 y4 σ H locs ls ry2 ry3 ry4 hl hW hS h
  obtain ⟨fu, h⟩ := h
  induction fu generalizing y2 y3 y4 σ H locs ls with
  | zero => exact h.elim
  | succ fu ih =>
    exact wk_Flash_turn_L15B X hr hlk hT hV rx1 K4 (lq3 (wp_Flash_turn_L15 (wc w) (wtv w) x1 Q K4) fu) hK4 (fun y2 y3 y4 σ H locs ls ry2 ry3 ry4 hl hW hS h => ih y2 y3 y4 σ H locs ls ry2 ry3 ry4 hl hW hS h) y2 y3 y4 σ H locs ls ry2 ry3 ry4 hl hW hS h
set_option maxHeartbeats 4000000 in
set_option maxRecDepth 100000 in
theorem wk_Flash_turn_L86B {p : Program} {l : Launch} {e : Env} {st : State} {m : MethodId} {args : Array Value} {below : List Frame} {meth : Method} {c : Code} {w : Wp} {x1 : Int} {Q : St → Prop} (X : CallFix p m c cX4_turn 8 st args lw_all RX4) (hr : meth.sig.returnType = none) (hlk : meth.locks = false) (hT : Tb w st) (hV : Hvl w) (rx1 : rI x1) (K86 : Int → Int → Int → St → Prop) (hK86 : ∀ (y3 y4 y5 : Int) (σ : St) (H : Heap) (locs : List Loc) (ls : Array Slot), rI y3 → rI y4 → rI y5 → lv_has ls 8 [(0, .ref (wad w 2 0)), (3, .int (oI y3)), (4, .int (oI y4)), (5, .int (oI y5))] → Wo w σ H → va_S (wA w) st.heap H locs → K86 y3 y4 y5 σ → W p l e (headSpec (ws_ yX4_turn cX4_turn 8 none) rm_Flash_turn).room st m args below meth c H locs 0 0 (MQ below (QcV w Q) args st 0 0 (wA w)) (F0 m 86 ls [])) : ∀ (y3 y4 y5 : Int) (σ : St) (H : Heap) (locs : List Loc) (ls : Array Slot), rI y3 → rI y4 → rI y5 → lv_has ls 8 [(0, .ref (wad w 2 0)), (3, .int (oI y3)), (4, .int (oI y4)), (5, .int (oI y5))] → Wo w σ H → va_S (wA w) st.heap H locs → wp_Flash_turn_L86 (wc w) (wtv w) x1 Q K86 y3 y4 y5 σ → W p l e (headSpec (ws_ yX4_turn cX4_turn 8 none) rm_Flash_turn).room st m args below meth c H locs 0 0 (MQ below (QcV w Q) args st 0 0 (wA w)) (F0 m 86 ls []) := by
  have vl2_0 : vl w 2 0 := hV.hv 2 rfl ⟨by omega, by show _ < (1 : Int); omega⟩
  intro y3 y4 y5 σ H locs ls ry3 ry4 ry5 hl hW hS h
  unfold wp_Flash_turn_L86 at h
  refine lv_iload X.1 X.2.1 dX4_turn_86 (lv_at hl 3 rfl) ?_
  refine lv_aload_n X.1 X.2.1 dX4_turn_88 rfl (lv_at hl 0 rfl) ?_
  refine wg (v := .int (oI (wc w).1)) X hT hW 2 0 128 vl2_0 rfl rfl (by decide) rfl (by decide) in_X4 q220 rfl dX4_turn_89 ?_
  refine w_icmp_ge (tgt := 192) X ry5 (cin_r hT.c 128) dX4_turn_92 (by decide) (fun hc => ?_) (fun hc => ?_)
  · have h := h.1 hc
    exact wret_V X hr hlk hW hS h dX4_turn_192
  · have h := h.2 hc
    refine lv_iconst (v := oI 0) X.1 X.2.1 dX4_turn_95 rfl ?_
    refine lv_istore (i := 6) (lv' := [(6, .int (oI 0)), (0, .ref (wad w 2 0)), (3, .int (oI y3)), (4, .int (oI y4)), (5, .int (oI y5))]) X.1 X.2.1 dX4_turn_96 hl (by decide) (by first | rfl | simp [catK, catI, catR, catL]) (fun ls hl => ?_)
    exact wk_Flash_turn_L98 X hr hlk hT hV rx1 K86 hK86 y3 y4 y5 0 σ _ _ _ ry3 ry4 ry5 rZ_0.i (lv_sub hl [1, 2, 3, 4, 0] rfl) hW hS h
theorem wk_Flash_turn_L86 {p : Program} {l : Launch} {e : Env} {st : State} {m : MethodId} {args : Array Value} {below : List Frame} {meth : Method} {c : Code} {w : Wp} {x1 : Int} {Q : St → Prop} (X : CallFix p m c cX4_turn 8 st args lw_all RX4) (hr : meth.sig.returnType = none) (hlk : meth.locks = false) (hT : Tb w st) (hV : Hvl w) (rx1 : rI x1) : ∀ (y3 y4 y5 : Int) (σ : St) (H : Heap) (locs : List Loc) (ls : Array Slot), rI y3 → rI y4 → rI y5 → lv_has ls 8 [(0, .ref (wad w 2 0)), (3, .int (oI y3)), (4, .int (oI y4)), (5, .int (oI y5))] → Wo w σ H → va_S (wA w) st.heap H locs → lQ3 (wp_Flash_turn_L86 (wc w) (wtv w) x1 Q) y3 y4 y5 σ → W p l e (headSpec (ws_ yX4_turn cX4_turn 8 none) rm_Flash_turn).room st m args below meth c H locs 0 0 (MQ below (QcV w Q) args st 0 0 (wA w)) (F0 m 86 ls []) := by
  intro y3 y4 y5 σ H locs ls ry3 ry4 ry5 hl hW hS h
  obtain ⟨fu, h⟩ := h
  induction fu generalizing y3 y4 y5 σ H locs ls with
  | zero => exact h.elim
  | succ fu ih =>
    exact wk_Flash_turn_L86B X hr hlk hT hV rx1 (lq3 (wp_Flash_turn_L86 (wc w) (wtv w) x1 Q) fu) (fun y3 y4 y5 σ H locs ls ry3 ry4 ry5 hl hW hS h => ih y3 y4 y5 σ H locs ls ry3 ry4 ry5 hl hW hS h) y3 y4 y5 σ H locs ls ry3 ry4 ry5 hl hW hS h
set_option maxHeartbeats 4000000 in
set_option maxRecDepth 100000 in
theorem wk_Flash_turn_L4B {p : Program} {l : Launch} {e : Env} {st : State} {m : MethodId} {args : Array Value} {below : List Frame} {meth : Method} {c : Code} {w : Wp} {x1 : Int} {Q : St → Prop} (X : CallFix p m c cX4_turn 8 st args lw_all RX4) (hr : meth.sig.returnType = none) (hlk : meth.locks = false) (hT : Tb w st) (hV : Hvl w) (rx1 : rI x1) (K4 : Int → Int → St → Prop) (hK4 : ∀ (y2 y3 : Int) (σ : St) (H : Heap) (locs : List Loc) (ls : Array Slot), rI y2 → rI y3 → lv_has ls 8 [(0, .ref (wad w 2 0)), (1, .int (oI x1)), (2, .int (oI y2)), (3, .int (oI y3))] → Wo w σ H → va_S (wA w) st.heap H locs → K4 y2 y3 σ → W p l e (headSpec (ws_ yX4_turn cX4_turn 8 none) rm_Flash_turn).room st m args below meth c H locs 0 0 (MQ below (QcV w Q) args st 0 0 (wA w)) (F0 m 4 ls [])) : ∀ (y2 y3 : Int) (σ : St) (H : Heap) (locs : List Loc) (ls : Array Slot), rI y2 → rI y3 → lv_has ls 8 [(0, .ref (wad w 2 0)), (1, .int (oI x1)), (2, .int (oI y2)), (3, .int (oI y3))] → Wo w σ H → va_S (wA w) st.heap H locs → wp_Flash_turn_L4 (wc w) (wtv w) x1 Q K4 y2 y3 σ → W p l e (headSpec (ws_ yX4_turn cX4_turn 8 none) rm_Flash_turn).room st m args below meth c H locs 0 0 (MQ below (QcV w Q) args st 0 0 (wA w)) (F0 m 4 ls []) := by
  have vl2_0 : vl w 2 0 := hV.hv 2 rfl ⟨by omega, by show _ < (1 : Int); omega⟩
  intro y2 y3 σ H locs ls ry2 ry3 hl hW hS h
  unfold wp_Flash_turn_L4 at h
  refine lv_iload_n X.1 X.2.1 dX4_turn_4 rfl (lv_at hl 3 rfl) ?_
  refine lv_aload_n X.1 X.2.1 dX4_turn_5 rfl (lv_at hl 0 rfl) ?_
  refine wg (v := .int (oI (wc w).1)) X hT hW 2 0 128 vl2_0 rfl rfl (by decide) rfl (by decide) in_X4 q220 rfl dX4_turn_6 ?_
  refine w_icmp_ge (tgt := 63) X ry3 (cin_r hT.c 128) dX4_turn_9 (by decide) (fun hc => ?_) (fun hc => ?_)
  · have h := h.1 hc
    refine lv_iload_n X.1 X.2.1 dX4_turn_63 rfl (lv_at hl 2 rfl) ?_
    refine w_if_ne (tgt := 68) X ry2 dX4_turn_64 (by decide) (fun hc => ?_) (fun hc => ?_)
    · have h := h.1 hc
      refine lv_iload_n X.1 X.2.1 dX4_turn_68 rfl (lv_at hl 1 rfl) ?_
      refine lv_sipush (v := oI 1024) X.1 X.2.1 dX4_turn_69 (by decide) ?_
      refine w_idiv X rx1 (rI_lit 1024 (by decide)) (by decide) dX4_turn_72 ?_
      refine lv_iload_n X.1 X.2.1 dX4_turn_73 rfl (lv_at hl 2 rfl) ?_
      obtain ⟨hz0, h⟩ := h
      refine w_irem X (jdv_r _ _) ry2 hz0 dX4_turn_74 ?_
      refine w_top (fun y3_43 ey3_43 => ?_)
      have h := h y3_43 ey3_43
      have ry3_43 : rI y3_43 := by rw [ey3_43]; exact (jrm_r _ _)
      refine lv_istore_n (i := 3) (lv' := [(3, .int (oI y3_43)), (0, .ref (wad w 2 0)), (1, .int (oI x1)), (2, .int (oI y2))]) X.1 X.2.1 dX4_turn_75 rfl hl (by decide) (by first | rfl | simp [catK, catI, catR, catL]) (fun ls hl => ?_)
      refine lv_iload_n X.1 X.2.1 dX4_turn_76 rfl (lv_at hl 2 rfl) ?_
      refine lv_sipush (v := oI 1024) X.1 X.2.1 dX4_turn_77 (by decide) ?_
      refine w_irem X rx1 (rI_lit 1024 (by decide)) (by decide) dX4_turn_80 ?_
      refine w_top (fun y4_44 ey4_44 => ?_)
      have h := h y4_44 ey4_44
      have ry4_44 : rI y4_44 := by rw [ey4_44]; exact (jrm_r _ _)
      refine lv_istore (i := 4) (lv' := [(4, .int (oI y4_44)), (3, .int (oI y3_43)), (0, .ref (wad w 2 0)), (1, .int (oI x1)), (2, .int (oI y2))]) X.1 X.2.1 dX4_turn_81 hl (by decide) (by first | rfl | simp [catK, catI, catR, catL]) (fun ls hl => ?_)
      refine lv_iconst (v := oI 0) X.1 X.2.1 dX4_turn_83 rfl ?_
      refine lv_istore (i := 5) (lv' := [(5, .int (oI 0)), (4, .int (oI y4_44)), (3, .int (oI y3_43)), (0, .ref (wad w 2 0)), (1, .int (oI x1)), (2, .int (oI y2))]) X.1 X.2.1 dX4_turn_84 hl (by decide) (by first | rfl | simp [catK, catI, catR, catL]) (fun ls hl => ?_)
      exact wk_Flash_turn_L86 X hr hlk hT hV rx1 y3_43 y4_44 0 σ _ _ _ ry3_43 ry4_44 rZ_0.i (lv_sub hl [3, 2, 1, 0] rfl) hW hS h
    · have h := h.2 hc
      exact wret_V X hr hlk hW hS h dX4_turn_67
  · have h := h.2 hc
    refine lv_iconst (v := oI 0) X.1 X.2.1 dX4_turn_12 rfl ?_
    refine lv_istore (i := 4) (lv' := [(4, .int (oI 0)), (0, .ref (wad w 2 0)), (1, .int (oI x1)), (2, .int (oI y2)), (3, .int (oI y3))]) X.1 X.2.1 dX4_turn_13 hl (by decide) (by first | rfl | simp [catK, catI, catR, catL]) (fun ls hl => ?_)
    exact wk_Flash_turn_L15 X hr hlk hT hV rx1 K4 hK4 y2 y3 0 σ _ _ _ ry2 ry3 rZ_0.i (lv_sub hl [1, 2, 3, 4, 0] rfl) hW hS h
theorem wk_Flash_turn_L4 {p : Program} {l : Launch} {e : Env} {st : State} {m : MethodId} {args : Array Value} {below : List Frame} {meth : Method} {c : Code} {w : Wp} {x1 : Int} {Q : St → Prop} (X : CallFix p m c cX4_turn 8 st args lw_all RX4) (hr : meth.sig.returnType = none) (hlk : meth.locks = false) (hT : Tb w st) (hV : Hvl w) (rx1 : rI x1) : ∀ (y2 y3 : Int) (σ : St) (H : Heap) (locs : List Loc) (ls : Array Slot), rI y2 → rI y3 → lv_has ls 8 [(0, .ref (wad w 2 0)), (1, .int (oI x1)), (2, .int (oI y2)), (3, .int (oI y3))] → Wo w σ H → va_S (wA w) st.heap H locs → lQ2 (wp_Flash_turn_L4 (wc w) (wtv w) x1 Q) y2 y3 σ → W p l e (headSpec (ws_ yX4_turn cX4_turn 8 none) rm_Flash_turn).room st m args below meth c H locs 0 0 (MQ below (QcV w Q) args st 0 0 (wA w)) (F0 m 4 ls []) := by
  intro y2 y3 σ H locs ls ry2 ry3 hl hW hS h
  obtain ⟨fu, h⟩ := h
  induction fu generalizing y2 y3 σ H locs ls with
  | zero => exact h.elim
  | succ fu ih =>
    exact wk_Flash_turn_L4B X hr hlk hT hV rx1 (lq2 (wp_Flash_turn_L4 (wc w) (wtv w) x1 Q) fu) (fun y2 y3 σ H locs ls ry2 ry3 hl hW hS h => ih y2 y3 σ H locs ls ry2 ry3 hl hW hS h) y2 y3 σ H locs ls ry2 ry3 hl hW hS h
set_option maxHeartbeats 4000000 in
set_option maxRecDepth 100000 in
theorem met_Flash_turn (l : Launch) {w : Wp} (hV : Hvl w) (x1 : Int) (Q : St → Prop) (σ : St) (rx1 : rI x1) (h : wp_Flash_turn (wc w) (wtv w) x1 Q σ) : Met l yX4_turn (ws_ yX4_turn cX4_turn 8 none) rm_Flash_turn (PcW w σ [.ref (wad w 2 0), .int (oI x1)]) (QcV w Q) 0 0 (wA w) := by
  refine Met.ofW (cc := cX4_turn) (maxL := 8) (ret := none) (by decide) rfl ?_
  intro p e st m args below meth c s₁ B hml hv
  obtain ⟨hargs, hW, hT⟩ := hv
  have X : CallFix p m c cX4_turn 8 st _ lw_all RX4 := ⟨B.exec, B.bytes, hml, findClass_of_methodNamed B.named, fun w h => atoms_spec (ws := ws_ yX4_turn cX4_turn 8 none) B.pre w (List.mem_cons_of_mem _ h)⟩
  have hr := B.returns
  have hlk := B.notSynchronized
  have hS : va_S (wA w) st.heap st.heap [] := va_S.rf
  have vl2_0 : vl w 2 0 := hV.hv 2 rfl ⟨by omega, by show _ < (1 : Int); omega⟩
  have hl := lv_entry ([.ref (wad w 2 0), .int (oI x1)]) (n := 8) (Nat.le_of_ble_eq_true rfl)
  have hfr := lg_entry_eq m ([.ref (wad w 2 0), .int (oI x1)]) 8
  rw [← hargs] at hfr
  rw [hfr]
  generalize (lg_sl ([.ref (wad w 2 0), .int (oI x1)]) ++ List.replicate (8 - (lg_sl ([.ref (wad w 2 0), .int (oI x1)])).length) Slot.unset).toArray = ls at hl ⊢
  have hl : lv_has ls 8 [(0, .ref (wad w 2 0)), (1, .int (oI x1))] := hl
  unfold wp_Flash_turn at h
  refine lv_iconst (v := oI 0) X.1 X.2.1 dX4_turn_0 rfl ?_
  refine lv_istore_n (i := 2) (lv' := [(2, .int (oI 0)), (0, .ref (wad w 2 0)), (1, .int (oI x1))]) X.1 X.2.1 dX4_turn_1 rfl hl (by decide) (by first | rfl | simp [catK, catI, catR, catL]) (fun ls hl => ?_)
  refine lv_iconst (v := oI 0) X.1 X.2.1 dX4_turn_2 rfl ?_
  refine lv_istore_n (i := 3) (lv' := [(3, .int (oI 0)), (2, .int (oI 0)), (0, .ref (wad w 2 0)), (1, .int (oI x1))]) X.1 X.2.1 dX4_turn_3 rfl hl (by decide) (by first | rfl | simp [catK, catI, catR, catL]) (fun ls hl => ?_)
  exact wk_Flash_turn_L4 X hr hlk hT hV rx1 0 0 σ _ _ _ rZ_0.i rZ_0.i (lv_sub hl [2, 3, 1, 0] rfl) hW hS h
/-! Row.clear()V -/
set_option maxHeartbeats 4000000 in
set_option maxRecDepth 100000 in
theorem met_Row_clear (l : Launch) {w : Wp} (hV : Hvl w) (o : Int) (Q : St → Prop) (σ : St) (ho : 0 ≤ o ∧ o < 8) (h : wp_Row_clear (wc w) (wtv w) o Q σ) : Met l yX2_clear (ws_ yX2_clear cX2_clear 1 none) rm_Row_clear (PcW w σ [.ref (wad w 8 o)]) (QcV w Q) 0 0 (wA w) := by
  refine Met.ofW (cc := cX2_clear) (maxL := 1) (ret := none) (by decide) rfl ?_
  intro p e st m args below meth c s₁ B hml hv
  obtain ⟨hargs, hW, hT⟩ := hv
  have X : CallFix p m c cX2_clear 1 st _ lw_all RX2 := ⟨B.exec, B.bytes, hml, findClass_of_methodNamed B.named, fun w h => atoms_spec (ws := ws_ yX2_clear cX2_clear 1 none) B.pre w (List.mem_cons_of_mem _ h)⟩
  have hr := B.returns
  have hlk := B.notSynchronized
  have hS : va_S (wA w) st.heap st.heap [] := va_S.rf
  have vl8_o : vl w 8 o := hV.hv 8 rfl ⟨by omega, by show _ < (8 : Int); omega⟩
  have hl := lv_entry ([.ref (wad w 8 o)]) (n := 1) (Nat.le_of_ble_eq_true rfl)
  have hfr := lg_entry_eq m ([.ref (wad w 8 o)]) 1
  rw [← hargs] at hfr
  rw [hfr]
  generalize (lg_sl ([.ref (wad w 8 o)]) ++ List.replicate (1 - (lg_sl ([.ref (wad w 8 o)])).length) Slot.unset).toArray = ls at hl ⊢
  have hl : lv_has ls 1 [(0, .ref (wad w 8 o))] := hl
  unfold wp_Row_clear at h
  refine lv_aload_n X.1 X.2.1 dX2_clear_0 rfl (lv_at hl 0 rfl) ?_
  refine lv_iconst (v := oI 0) X.1 X.2.1 dX2_clear_1 rfl ?_
  refine wput (z := 0) X hT hW hS 8 1 513 vl8_o rfl rfl (by decide) rfl (by decide) in_X2 tyX2 tyX2_ok nmX2 q168 rfl rfl rZ_0.i (fv0 w rfl) rfl rfl dX2_clear_2 (fun H locs hN hS => ?_)
  obtain ⟨σ_3, eσ_3⟩ : ∃ x, x = sI σ 513 o 0 := ⟨_, rfl⟩
  have hWσ_3 : Wo w σ_3 H := eσ_3 ▸ hN
  have h := h σ_3 eσ_3
  clear hN
  refine lv_aload_n X.1 X.2.1 dX2_clear_5 rfl (lv_at hl 0 rfl) ?_
  refine lv_iconst (v := oI 0) X.1 X.2.1 dX2_clear_6 rfl ?_
  refine wput (z := 0) X hT hWσ_3 hS 8 2 514 vl8_o rfl rfl (by decide) rfl (by decide) in_X2 tyX2 tyX2_ok nmX2 q171 rfl rfl rZ_0.i (fv0 w rfl) rfl rfl dX2_clear_7 (fun H locs hN hS => ?_)
  obtain ⟨σ_4, eσ_4⟩ : ∃ x, x = sI σ_3 514 o 0 := ⟨_, rfl⟩
  have hWσ_4 : Wo w σ_4 H := eσ_4 ▸ hN
  have h := h σ_4 eσ_4
  clear hN
  exact wret_V X hr hlk hWσ_4 hS h dX2_clear_10
/-! Row.begin(II)LNandHouse$Row; -/
set_option maxHeartbeats 4000000 in
set_option maxRecDepth 100000 in
theorem met_Row_begin (l : Launch) {w : Wp} (hV : Hvl w) (o : Int) (x1 : Int) (x2 : Int) (Q : St → Prop) (σ : St) (ho : 0 ≤ o ∧ o < 8) (rx1 : rI x1) (rx2 : rI x2) (h : wp_Row_begin (wc w) (wtv w) o x1 x2 Q σ) : Met l yX2_begin (ws_ yX2_begin cX2_begin 3 (some (.object "NandHouse$Row"))) rm_Row_begin (PcW w σ [.ref (wad w 8 o), .int (oI x1), .int (oI x2)]) (QcR w 8 o Q) 0 0 (wA w) := by
  refine Met.ofW (cc := cX2_begin) (maxL := 3) (ret := (some (.object "NandHouse$Row"))) (by decide) rfl ?_
  intro p e st m args below meth c s₁ B hml hv
  obtain ⟨hargs, hW, hT⟩ := hv
  have X : CallFix p m c cX2_begin 3 st _ lw_all RX2 := ⟨B.exec, B.bytes, hml, findClass_of_methodNamed B.named, fun w h => atoms_spec (ws := ws_ yX2_begin cX2_begin 3 (some (.object "NandHouse$Row"))) B.pre w (List.mem_cons_of_mem _ h)⟩
  have hr := B.returns
  have hlk := B.notSynchronized
  have hS : va_S (wA w) st.heap st.heap [] := va_S.rf
  have vl512_o : vl w 512 o := hV.hv 512 rfl ⟨by omega, by show _ < (8 : Int); omega⟩
  have vl8_o : vl w 8 o := hV.hv 8 rfl ⟨by omega, by show _ < (8 : Int); omega⟩
  have hl := lv_entry ([.ref (wad w 8 o), .int (oI x1), .int (oI x2)]) (n := 3) (Nat.le_of_ble_eq_true rfl)
  have hfr := lg_entry_eq m ([.ref (wad w 8 o), .int (oI x1), .int (oI x2)]) 3
  rw [← hargs] at hfr
  rw [hfr]
  generalize (lg_sl ([.ref (wad w 8 o), .int (oI x1), .int (oI x2)]) ++ List.replicate (3 - (lg_sl ([.ref (wad w 8 o), .int (oI x1), .int (oI x2)])).length) Slot.unset).toArray = ls at hl ⊢
  have hl : lv_has ls 3 [(0, .ref (wad w 8 o)), (1, .int (oI x1)), (2, .int (oI x2))] := hl
  unfold wp_Row_begin at h
  refine lv_aload_n X.1 X.2.1 dX2_begin_0 rfl (lv_at hl 0 rfl) ?_
  refine lv_aload_n X.1 X.2.1 dX2_begin_1 rfl (lv_at hl 0 rfl) ?_
  refine wg (v := .int (oI (gI σ 514 o))) X hT hW 8 2 514 vl8_o rfl rfl (by decide) rfl (by decide) in_X2 q171 rfl dX2_begin_2 ?_
  refine wput (z := gI σ 514 o) X hT hW hS 8 1 513 vl8_o rfl rfl (by decide) rfl (by decide) in_X2 tyX2 tyX2_ok nmX2 q168 rfl rfl (hW.r.i 514 o rfl) (fv0 w rfl) rfl rfl dX2_begin_5 (fun H locs hN hS => ?_)
  obtain ⟨σ_10, eσ_10⟩ : ∃ x, x = sI σ 513 o (gI σ 514 o) := ⟨_, rfl⟩
  have hWσ_10 : Wo w σ_10 H := eσ_10 ▸ hN
  have h := h σ_10 eσ_10
  clear hN
  refine lv_aload_n X.1 X.2.1 dX2_begin_8 rfl (lv_at hl 0 rfl) ?_
  refine lv_aload_n X.1 X.2.1 dX2_begin_9 rfl (lv_at hl 0 rfl) ?_
  refine wg (v := .int (oI (gI σ_10 513 o))) X hT hWσ_10 8 1 513 vl8_o rfl rfl (by decide) rfl (by decide) in_X2 q168 rfl dX2_begin_10 ?_
  refine lv_iload_n X.1 X.2.1 dX2_begin_13 rfl (lv_at hl 2 rfl) ?_
  refine w_iadd X dX2_begin_14 ?_
  refine wput (z := w32 ((gI σ_10 513 o) + x2)) X hT hWσ_10 hS 8 2 514 vl8_o rfl rfl (by decide) rfl (by decide) in_X2 tyX2 tyX2_ok nmX2 q171 rfl rfl (w32_r _) (fv0 w rfl) rfl rfl dX2_begin_15 (fun H locs hN hS => ?_)
  obtain ⟨σ_11, eσ_11⟩ : ∃ x, x = sI σ_10 514 o (w32 ((gI σ_10 513 o) + x2)) := ⟨_, rfl⟩
  have hWσ_11 : Wo w σ_11 H := eσ_11 ▸ hN
  have h := h σ_11 eσ_11
  clear hN
  refine lv_aload_n X.1 X.2.1 dX2_begin_18 rfl (lv_at hl 0 rfl) ?_
  refine wg (v := .ref (wad w 512 o)) X hT hWσ_11 8 0 512 vl8_o rfl rfl (by decide) rfl (by decide) in_X2 q165 rfl dX2_begin_19 ?_
  refine lv_aload_n X.1 X.2.1 dX2_begin_22 rfl (lv_at hl 0 rfl) ?_
  refine wg (v := .int (oI (gI σ_11 513 o))) X hT hWσ_11 8 1 513 vl8_o rfl rfl (by decide) rfl (by decide) in_X2 q168 rfl dX2_begin_23 ?_
  refine lv_aload_n X.1 X.2.1 dX2_begin_26 rfl (lv_at hl 0 rfl) ?_
  refine wg (v := .int (oI (gI σ_11 514 o))) X hT hWσ_11 8 2 514 vl8_o rfl rfl (by decide) rfl (by decide) in_X2 q171 rfl dX2_begin_27 ?_
  refine lv_iconst (v := oI 0) X.1 X.2.1 dX2_begin_30 rfl ?_
  refine wr_V (rS (As := [.ref (wad w 512 o), .int (oI (gI σ_11 513 o)), .int (oI (gI σ_11 514 o)), .int (oI 0)]) (rest := []) X hT hWσ_11 hS (met_Arrays_fill_3 l (w := w) 512 o (gI σ_11 513 o) (gI σ_11 514 o) 0 _ σ_11 vl512_o (by decide) rfl (hWσ_11.r.i 513 o rfl) (hWσ_11.r.i 514 o rfl) (rZ.b rZ_0) h) (va_cwS 4 X.2.2.2.2 (lw_S q744 q668 q135 q669) rfl rfl rfl (by decide +kernel) ⟨Nat.le_of_ble_eq_true rfl, Nat.le_of_ble_eq_true rfl⟩) rfl hl.1 rfl (by first | exact Nat.le_of_ble_eq_true rfl | simp [catK, catI, catR, catL]) dX2_begin_31 ⟨Nat.le_refl _, Nat.le_refl _⟩) hS (fun σ_13 H locs rkσ_13 h hWσ_13 hS => ?_)
  have h := h rkσ_13
  refine lv_aload_n X.1 X.2.1 dX2_begin_34 rfl (lv_at hl 0 rfl) ?_
  refine wg (v := .ref (wad w 512 o)) X hT hWσ_13 8 0 512 vl8_o rfl rfl (by decide) rfl (by decide) in_X2 q165 rfl dX2_begin_35 ?_
  refine lv_aload_n X.1 X.2.1 dX2_begin_38 rfl (lv_at hl 0 rfl) ?_
  refine wg (v := .int (oI (gI σ_13 513 o))) X hT hWσ_13 8 1 513 vl8_o rfl rfl (by decide) rfl (by decide) in_X2 q168 rfl dX2_begin_39 ?_
  refine lv_iconst (v := oI 4) X.1 X.2.1 dX2_begin_42 rfl ?_
  refine w_iadd X dX2_begin_43 ?_
  refine lv_iload_n X.1 X.2.1 dX2_begin_44 rfl (lv_at hl 2 rfl) ?_
  refine wr_V (rSN (As := [.ref (wad w 512 o), .int (oI (w32 ((gI σ_13 513 o) + 4))), .int (oI x2)]) (rest := []) X hT hWσ_13 hS (met_House_putInt l (w := w) 512 o (w32 ((gI σ_13 513 o) + 4)) x2 _ σ_13 vl512_o (by decide) rfl (w32_r _) rx2 h) ⟨va_cnB 3 X.2.2.2.2 (lw_meth q687) rfl rfl rfl (hT.2.1 _ (List.mem_of_getElem? (i := 8) rfl)) (X.2.2.2.2 _ q131) (by decide +kernel) ⟨Nat.le_of_ble_eq_true rfl, Nat.le_of_ble_eq_true rfl⟩, X.2.2.2.2 _ q686, trivial⟩ rfl hl.1 rfl (by first | exact Nat.le_of_ble_eq_true rfl | simp [catK, catI, catR, catL]) dX2_begin_45 ⟨Nat.le_refl _, Nat.le_refl _⟩) hS (fun σ_15 H locs rkσ_15 h hWσ_15 hS => ?_)
  have h := h rkσ_15
  refine lv_aload_n X.1 X.2.1 dX2_begin_48 rfl (lv_at hl 0 rfl) ?_
  refine wg (v := .ref (wad w 512 o)) X hT hWσ_15 8 0 512 vl8_o rfl rfl (by decide) rfl (by decide) in_X2 q165 rfl dX2_begin_49 ?_
  refine lv_aload_n X.1 X.2.1 dX2_begin_52 rfl (lv_at hl 0 rfl) ?_
  refine wg (v := .int (oI (gI σ_15 513 o))) X hT hWσ_15 8 1 513 vl8_o rfl rfl (by decide) rfl (by decide) in_X2 q168 rfl dX2_begin_53 ?_
  refine lv_bipush (v := oI 16) X.1 X.2.1 dX2_begin_56 (by decide) ?_
  refine w_iadd X dX2_begin_58 ?_
  refine lv_iload_n X.1 X.2.1 dX2_begin_59 rfl (lv_at hl 1 rfl) ?_
  refine w_i2b X dX2_begin_60 ?_
  obtain ⟨bi, h⟩ := h
  refine w_bast (n := (rowL o)) X hT hWσ_15 hS 512 vl512_o (by decide) rfl rfl bi (b8_r _) dX2_begin_61 (fun H locs hN hS => ?_)
  obtain ⟨σ_16, eσ_16⟩ : ∃ x, x = sA σ_15 512 o (w32 ((gI σ_15 513 o) + 16)) (b8 x1) := ⟨_, rfl⟩
  have hWσ_16 : Wo w σ_16 H := eσ_16 ▸ hN
  have h := h σ_16 eσ_16
  clear hN
  refine lv_aload_n X.1 X.2.1 dX2_begin_62 rfl (lv_at hl 0 rfl) ?_
  refine wg (v := .ref (wad w 512 o)) X hT hWσ_16 8 0 512 vl8_o rfl rfl (by decide) rfl (by decide) in_X2 q165 rfl dX2_begin_63 ?_
  refine lv_aload_n X.1 X.2.1 dX2_begin_66 rfl (lv_at hl 0 rfl) ?_
  refine wg (v := .int (oI (gI σ_16 513 o))) X hT hWσ_16 8 1 513 vl8_o rfl rfl (by decide) rfl (by decide) in_X2 q168 rfl dX2_begin_67 ?_
  refine lv_bipush (v := oI 20) X.1 X.2.1 dX2_begin_70 (by decide) ?_
  refine w_iadd X dX2_begin_72 ?_
  refine w_ldc X (z := 1414677829) q746 (by decide) dX2_begin_73 ?_
  refine wr_V (rSN (As := [.ref (wad w 512 o), .int (oI (w32 ((gI σ_16 513 o) + 20))), .int (oI 1414677829)]) (rest := []) X hT hWσ_16 hS (met_House_putInt l (w := w) 512 o (w32 ((gI σ_16 513 o) + 20)) 1414677829 _ σ_16 vl512_o (by decide) rfl (w32_r _) (rI_lit 1414677829 (by decide)) h) ⟨va_cnB 3 X.2.2.2.2 (lw_meth q687) rfl rfl rfl (hT.2.1 _ (List.mem_of_getElem? (i := 8) rfl)) (X.2.2.2.2 _ q131) (by decide +kernel) ⟨Nat.le_of_ble_eq_true rfl, Nat.le_of_ble_eq_true rfl⟩, X.2.2.2.2 _ q686, trivial⟩ rfl hl.1 rfl (by first | exact Nat.le_of_ble_eq_true rfl | simp [catK, catI, catR, catL]) dX2_begin_75 ⟨Nat.le_refl _, Nat.le_refl _⟩) hS (fun σ_18 H locs rkσ_18 h hWσ_18 hS => ?_)
  have h := h rkσ_18
  refine lv_aload_n X.1 X.2.1 dX2_begin_78 rfl (lv_at hl 0 rfl) ?_
  exact wret_R X hr hlk hWσ_18 hS h dX2_begin_79
/-! Row.put(II)LNandHouse$Row; -/
set_option maxHeartbeats 4000000 in
set_option maxRecDepth 100000 in
theorem met_Row_put (l : Launch) {w : Wp} (hV : Hvl w) (o : Int) (x1 : Int) (x2 : Int) (Q : St → Prop) (σ : St) (ho : 0 ≤ o ∧ o < 8) (rx1 : rI x1) (rx2 : rI x2) (h : wp_Row_put (wc w) (wtv w) o x1 x2 Q σ) : Met l yX2_put (ws_ yX2_put cX2_put 3 (some (.object "NandHouse$Row"))) rm_Row_put (PcW w σ [.ref (wad w 8 o), .int (oI x1), .int (oI x2)]) (QcR w 8 o Q) 0 0 (wA w) := by
  refine Met.ofW (cc := cX2_put) (maxL := 3) (ret := (some (.object "NandHouse$Row"))) (by decide) rfl ?_
  intro p e st m args below meth c s₁ B hml hv
  obtain ⟨hargs, hW, hT⟩ := hv
  have X : CallFix p m c cX2_put 3 st _ lw_all RX2 := ⟨B.exec, B.bytes, hml, findClass_of_methodNamed B.named, fun w h => atoms_spec (ws := ws_ yX2_put cX2_put 3 (some (.object "NandHouse$Row"))) B.pre w (List.mem_cons_of_mem _ h)⟩
  have hr := B.returns
  have hlk := B.notSynchronized
  have hS : va_S (wA w) st.heap st.heap [] := va_S.rf
  have vl512_o : vl w 512 o := hV.hv 512 rfl ⟨by omega, by show _ < (8 : Int); omega⟩
  have vl8_o : vl w 8 o := hV.hv 8 rfl ⟨by omega, by show _ < (8 : Int); omega⟩
  have hl := lv_entry ([.ref (wad w 8 o), .int (oI x1), .int (oI x2)]) (n := 3) (Nat.le_of_ble_eq_true rfl)
  have hfr := lg_entry_eq m ([.ref (wad w 8 o), .int (oI x1), .int (oI x2)]) 3
  rw [← hargs] at hfr
  rw [hfr]
  generalize (lg_sl ([.ref (wad w 8 o), .int (oI x1), .int (oI x2)]) ++ List.replicate (3 - (lg_sl ([.ref (wad w 8 o), .int (oI x1), .int (oI x2)])).length) Slot.unset).toArray = ls at hl ⊢
  have hl : lv_has ls 3 [(0, .ref (wad w 8 o)), (1, .int (oI x1)), (2, .int (oI x2))] := hl
  unfold wp_Row_put at h
  refine lv_aload_n X.1 X.2.1 dX2_put_0 rfl (lv_at hl 0 rfl) ?_
  refine wg (v := .ref (wad w 512 o)) X hT hW 8 0 512 vl8_o rfl rfl (by decide) rfl (by decide) in_X2 q165 rfl dX2_put_1 ?_
  refine lv_aload_n X.1 X.2.1 dX2_put_4 rfl (lv_at hl 0 rfl) ?_
  refine wg (v := .int (oI (gI σ 513 o))) X hT hW 8 1 513 vl8_o rfl rfl (by decide) rfl (by decide) in_X2 q168 rfl dX2_put_5 ?_
  refine lv_bipush (v := oI 24) X.1 X.2.1 dX2_put_8 (by decide) ?_
  refine w_iadd X dX2_put_10 ?_
  refine lv_iload_n X.1 X.2.1 dX2_put_11 rfl (lv_at hl 1 rfl) ?_
  refine w_iadd X dX2_put_12 ?_
  refine lv_iload_n X.1 X.2.1 dX2_put_13 rfl (lv_at hl 2 rfl) ?_
  refine wr_V (rSN (As := [.ref (wad w 512 o), .int (oI (w32 ((w32 ((gI σ 513 o) + 24)) + x1))), .int (oI x2)]) (rest := []) X hT hW hS (met_House_putInt l (w := w) 512 o (w32 ((w32 ((gI σ 513 o) + 24)) + x1)) x2 _ σ vl512_o (by decide) rfl (w32_r _) rx2 h) ⟨va_cnB 3 X.2.2.2.2 (lw_meth q687) rfl rfl rfl (hT.2.1 _ (List.mem_of_getElem? (i := 8) rfl)) (X.2.2.2.2 _ q131) (by decide +kernel) ⟨Nat.le_of_ble_eq_true rfl, Nat.le_of_ble_eq_true rfl⟩, X.2.2.2.2 _ q686, trivial⟩ rfl hl.1 rfl (by first | exact Nat.le_of_ble_eq_true rfl | simp [catK, catI, catR, catL]) dX2_put_14 ⟨Nat.le_refl _, Nat.le_refl _⟩) hS (fun σ_4 H locs rkσ_4 h hWσ_4 hS => ?_)
  have h := h rkσ_4
  refine lv_aload_n X.1 X.2.1 dX2_put_17 rfl (lv_at hl 0 rfl) ?_
  exact wret_R X hr hlk hWσ_4 hS h dX2_put_18
/-! Row.length()I -/
set_option maxHeartbeats 4000000 in
set_option maxRecDepth 100000 in
theorem met_Row_length (l : Launch) {w : Wp} (hV : Hvl w) (o : Int) (Q : Int → St → Prop) (σ : St) (ho : 0 ≤ o ∧ o < 8) (h : wp_Row_length (wc w) (wtv w) o Q σ) : Met l yX2_length (ws_ yX2_length cX2_length 1 (some .int)) rm_Row_length (PcW w σ [.ref (wad w 8 o)]) (QcI w Q) 0 0 (wA w) := by
  refine Met.ofW (cc := cX2_length) (maxL := 1) (ret := (some .int)) (by decide) rfl ?_
  intro p e st m args below meth c s₁ B hml hv
  obtain ⟨hargs, hW, hT⟩ := hv
  have X : CallFix p m c cX2_length 1 st _ lw_all RX2 := ⟨B.exec, B.bytes, hml, findClass_of_methodNamed B.named, fun w h => atoms_spec (ws := ws_ yX2_length cX2_length 1 (some .int)) B.pre w (List.mem_cons_of_mem _ h)⟩
  have hr := B.returns
  have hlk := B.notSynchronized
  have hS : va_S (wA w) st.heap st.heap [] := va_S.rf
  have vl512_o : vl w 512 o := hV.hv 512 rfl ⟨by omega, by show _ < (8 : Int); omega⟩
  have vl8_o : vl w 8 o := hV.hv 8 rfl ⟨by omega, by show _ < (8 : Int); omega⟩
  have hl := lv_entry ([.ref (wad w 8 o)]) (n := 1) (Nat.le_of_ble_eq_true rfl)
  have hfr := lg_entry_eq m ([.ref (wad w 8 o)]) 1
  rw [← hargs] at hfr
  rw [hfr]
  generalize (lg_sl ([.ref (wad w 8 o)]) ++ List.replicate (1 - (lg_sl ([.ref (wad w 8 o)])).length) Slot.unset).toArray = ls at hl ⊢
  have hl : lv_has ls 1 [(0, .ref (wad w 8 o))] := hl
  unfold wp_Row_length at h
  refine lv_aload_n X.1 X.2.1 dX2_length_0 rfl (lv_at hl 0 rfl) ?_
  refine wg (v := .ref (wad w 512 o)) X hT hW 8 0 512 vl8_o rfl rfl (by decide) rfl (by decide) in_X2 q165 rfl dX2_length_1 ?_
  refine lv_aload_n X.1 X.2.1 dX2_length_4 rfl (lv_at hl 0 rfl) ?_
  refine wg (v := .int (oI (gI σ 513 o))) X hT hW 8 1 513 vl8_o rfl rfl (by decide) rfl (by decide) in_X2 q168 rfl dX2_length_5 ?_
  refine lv_iconst (v := oI 4) X.1 X.2.1 dX2_length_8 rfl ?_
  refine w_iadd X dX2_length_9 ?_
  refine wr_I (rSN (As := [.ref (wad w 512 o), .int (oI (w32 ((gI σ 513 o) + 4)))]) (rest := []) X hT hW hS (met_House_getInt l (w := w) 512 o (w32 ((gI σ 513 o) + 4)) _ σ vl512_o (by decide) rfl (w32_r _) h) ⟨va_cnB 2 X.2.2.2.2 (lw_meth q769) rfl rfl rfl (hT.2.1 _ (List.mem_of_getElem? (i := 10) rfl)) (X.2.2.2.2 _ q131) (by decide +kernel) ⟨Nat.le_of_ble_eq_true rfl, Nat.le_of_ble_eq_true rfl⟩, X.2.2.2.2 _ q768, trivial⟩ rfl hl.1 rfl (by first | exact Nat.le_of_ble_eq_true rfl | simp [catK, catI, catR, catL]) dX2_length_10 ⟨Nat.le_refl _, Nat.le_refl _⟩) hS (fun r_3 σ_4 H locs rr_3 rkσ_4 h hWσ_4 hS => ?_)
  have h := h rr_3 rkσ_4
  exact wret_I X hr hlk hWσ_4 hS rr_3 h dX2_length_13
/-! Row.close(JZ)V -/
set_option maxHeartbeats 4000000 in
set_option maxRecDepth 100000 in
theorem met_Row_close (l : Launch) {w : Wp} (hV : Hvl w) (o : Int) (x1 : Int) (x3 : Int) (Q : St → Prop) (σ : St) (ho : 0 ≤ o ∧ o < 8) (rx1 : rJ x1) (rx3 : rZ x3) (h : wp_Row_close (wc w) (wtv w) o x1 x3 Q σ) : Met l yX2_close (ws_ yX2_close cX2_close 4 none) rm_Row_close (PcW w σ [.ref (wad w 8 o), .long (oL x1), .int (oI x3)]) (QcV w Q) 0 0 (wA w) := by
  refine Met.ofW (cc := cX2_close) (maxL := 4) (ret := none) (by decide) rfl ?_
  intro p e st m args below meth c s₁ B hml hv
  obtain ⟨hargs, hW, hT⟩ := hv
  have X : CallFix p m c cX2_close 4 st _ lw_all RX2 := ⟨B.exec, B.bytes, hml, findClass_of_methodNamed B.named, fun w h => atoms_spec (ws := ws_ yX2_close cX2_close 4 none) B.pre w (List.mem_cons_of_mem _ h)⟩
  have hr := B.returns
  have hlk := B.notSynchronized
  have hS : va_S (wA w) st.heap st.heap [] := va_S.rf
  have vl512_o : vl w 512 o := hV.hv 512 rfl ⟨by omega, by show _ < (8 : Int); omega⟩
  have vl8_o : vl w 8 o := hV.hv 8 rfl ⟨by omega, by show _ < (8 : Int); omega⟩
  have hl := lv_entry ([.ref (wad w 8 o), .long (oL x1), .int (oI x3)]) (n := 4) (Nat.le_of_ble_eq_true rfl)
  have hfr := lg_entry_eq m ([.ref (wad w 8 o), .long (oL x1), .int (oI x3)]) 4
  rw [← hargs] at hfr
  rw [hfr]
  generalize (lg_sl ([.ref (wad w 8 o), .long (oL x1), .int (oI x3)]) ++ List.replicate (4 - (lg_sl ([.ref (wad w 8 o), .long (oL x1), .int (oI x3)])).length) Slot.unset).toArray = ls at hl ⊢
  have hl : lv_has ls 4 [(0, .ref (wad w 8 o)), (1, .long (oL x1)), (3, .int (oI x3))] := hl
  unfold wp_Row_close at h
  refine lv_aload_n X.1 X.2.1 dX2_close_0 rfl (lv_at hl 0 rfl) ?_
  refine wg (v := .ref (wad w 512 o)) X hT hW 8 0 512 vl8_o rfl rfl (by decide) rfl (by decide) in_X2 q165 rfl dX2_close_1 ?_
  refine lv_aload_n X.1 X.2.1 dX2_close_4 rfl (lv_at hl 0 rfl) ?_
  refine wg (v := .int (oI (gI σ 513 o))) X hT hW 8 1 513 vl8_o rfl rfl (by decide) rfl (by decide) in_X2 q168 rfl dX2_close_5 ?_
  refine lv_bipush (v := oI 8) X.1 X.2.1 dX2_close_8 (by decide) ?_
  refine w_iadd X dX2_close_10 ?_
  refine lv_lload_n X.1 X.2.1 dX2_close_11 rfl (lv_at hl 1 rfl) ?_
  refine wr_V (rSN (As := [.ref (wad w 512 o), .int (oI (w32 ((gI σ 513 o) + 8))), .long (oL x1)]) (rest := []) X hT hW hS (met_House_putLong l (w := w) 512 o (w32 ((gI σ 513 o) + 8)) x1 _ σ vl512_o (by decide) rfl (w32_r _) rx1 h) ⟨va_cnB 3 X.2.2.2.2 (lw_meth q761) rfl rfl rfl (hT.2.1 _ (List.mem_of_getElem? (i := 9) rfl)) (X.2.2.2.2 _ q131) (by decide +kernel) ⟨Nat.le_of_ble_eq_true rfl, Nat.le_of_ble_eq_true rfl⟩, X.2.2.2.2 _ q760, trivial⟩ rfl hl.1 rfl (by first | exact Nat.le_of_ble_eq_true rfl | simp [catK, catI, catR, catL]) dX2_close_12 ⟨Nat.le_refl _, Nat.le_refl _⟩) hS (fun σ_11 H locs rkσ_11 h hWσ_11 hS => ?_)
  have h := h rkσ_11
  refine lv_aload_n X.1 X.2.1 dX2_close_15 rfl (lv_at hl 0 rfl) ?_
  refine wg (v := .ref (wad w 512 o)) X hT hWσ_11 8 0 512 vl8_o rfl rfl (by decide) rfl (by decide) in_X2 q165 rfl dX2_close_16 ?_
  refine lv_aload_n X.1 X.2.1 dX2_close_19 rfl (lv_at hl 0 rfl) ?_
  refine wg (v := .int (oI (gI σ_11 513 o))) X hT hWσ_11 8 1 513 vl8_o rfl rfl (by decide) rfl (by decide) in_X2 q168 rfl dX2_close_20 ?_
  refine lv_bipush (v := oI 17) X.1 X.2.1 dX2_close_23 (by decide) ?_
  refine w_iadd X dX2_close_25 ?_
  refine lv_iload_n X.1 X.2.1 dX2_close_26 rfl (lv_at hl 2 rfl) ?_
  refine w_cut (pc2 := 35) (st2 := [.int (oI (if x3 = 0 then (0 : Int) else (1 : Int))), .int (oI (w32 ((gI σ_11 513 o) + 17))), .ref (wad w 512 o)]) (fun hj => ?_) ?_
  · refine w_if_eq (tgt := 34) X rx3.i dX2_close_27 (by decide) (fun hc => ?_) (fun hc => ?_)
    · refine lv_iconst (v := oI 0) X.1 X.2.1 dX2_close_34 rfl ?_
      rw [if_pos hc] at hj; exact hj
    · refine lv_iconst (v := oI 1) X.1 X.2.1 dX2_close_30 rfl ?_
      refine lv_goto (tgt := 35) X.1 X.2.1 dX2_close_31 (by decide) ?_
      rw [if_neg hc] at hj; exact hj
  refine w_i2b X dX2_close_35 ?_
  obtain ⟨bi, h⟩ := h
  refine w_bast (n := (rowL o)) X hT hWσ_11 hS 512 vl512_o (by decide) rfl rfl bi (b8_r _) dX2_close_36 (fun H locs hN hS => ?_)
  obtain ⟨σ_12, eσ_12⟩ : ∃ x, x = sA σ_11 512 o (w32 ((gI σ_11 513 o) + 17)) (b8 (if x3 = 0 then (0 : Int) else (1 : Int))) := ⟨_, rfl⟩
  have hWσ_12 : Wo w σ_12 H := eσ_12 ▸ hN
  have h := h σ_12 eσ_12
  clear hN
  refine lv_aload_n X.1 X.2.1 dX2_close_37 rfl (lv_at hl 0 rfl) ?_
  refine wg (v := .ref (wad w 512 o)) X hT hWσ_12 8 0 512 vl8_o rfl rfl (by decide) rfl (by decide) in_X2 q165 rfl dX2_close_38 ?_
  refine lv_aload_n X.1 X.2.1 dX2_close_41 rfl (lv_at hl 0 rfl) ?_
  refine wg (v := .int (oI (gI σ_12 513 o))) X hT hWσ_12 8 1 513 vl8_o rfl rfl (by decide) rfl (by decide) in_X2 q168 rfl dX2_close_42 ?_
  refine lv_iconst (v := oI (-1)) X.1 X.2.1 dX2_close_45 rfl ?_
  refine lv_aload_n X.1 X.2.1 dX2_close_46 rfl (lv_at hl 0 rfl) ?_
  refine wg (v := .ref (wad w 512 o)) X hT hWσ_12 8 0 512 vl8_o rfl rfl (by decide) rfl (by decide) in_X2 q165 rfl dX2_close_47 ?_
  refine lv_aload_n X.1 X.2.1 dX2_close_50 rfl (lv_at hl 0 rfl) ?_
  refine wg (v := .int (oI (gI σ_12 513 o))) X hT hWσ_12 8 1 513 vl8_o rfl rfl (by decide) rfl (by decide) in_X2 q168 rfl dX2_close_51 ?_
  refine lv_iconst (v := oI 4) X.1 X.2.1 dX2_close_54 rfl ?_
  refine w_iadd X dX2_close_55 ?_
  refine lv_aload_n X.1 X.2.1 dX2_close_56 rfl (lv_at hl 0 rfl) ?_
  refine wr_I (rV (As := []) (rest := [.int (oI (w32 ((gI σ_12 513 o) + 4))), .ref (wad w 512 o), .int (oI (-1)), .int (oI (gI σ_12 513 o)), .ref (wad w 512 o)]) X hT hWσ_12 hS (met_Row_length l (w := w) hV o _ σ_12 (by omega) h) (cwV 0 X.2.2.2.2 (lw_V q763 q764 q765 q132 q766) rfl rfl rfl (by decide +kernel) ⟨Nat.le_of_ble_eq_true rfl, Nat.le_of_ble_eq_true rfl⟩) vl8_o (by decide) rfl rfl hl.1 rfl (by first | exact Nat.le_of_ble_eq_true rfl | simp [catK, catI, catR, catL]) dX2_close_57 ⟨Nat.le_refl _, Nat.le_refl _⟩) hS (fun r_13 σ_14 H locs rr_13 rkσ_14 h hWσ_14 hS => ?_)
  have h := h rr_13 rkσ_14
  refine lv_iconst (v := oI 4) X.1 X.2.1 dX2_close_60 rfl ?_
  refine w_isub X dX2_close_61 ?_
  refine wr_I (rSN (As := [.int (oI (-1)), .ref (wad w 512 o), .int (oI (w32 ((gI σ_12 513 o) + 4))), .int (oI (w32 (r_13 - 4)))]) (rest := [.int (oI (gI σ_12 513 o)), .ref (wad w 512 o)]) X hT hWσ_14 hS (met_House_check l (w := w) (-1) 512 o (w32 ((gI σ_12 513 o) + 4)) (w32 (r_13 - 4)) _ σ_14 ((rB_lit (-1) (by decide)).i) vl512_o (by decide) rfl (w32_r _) (w32_r _) h) ⟨va_cnB 4 X.2.2.2.2 (lw_meth q690) rfl rfl rfl (hT.2.1 _ (List.mem_of_getElem? (i := 11) rfl)) (X.2.2.2.2 _ q131) (by decide +kernel) ⟨Nat.le_of_ble_eq_true rfl, Nat.le_of_ble_eq_true rfl⟩, X.2.2.2.2 _ q689, trivial⟩ rfl hl.1 rfl (by first | exact Nat.le_of_ble_eq_true rfl | simp [catK, catI, catR, catL]) dX2_close_62 ⟨Nat.le_refl _, Nat.le_refl _⟩) hS (fun r_15 σ_16 H locs rr_15 rkσ_16 h hWσ_16 hS => ?_)
  have h := h rr_15 rkσ_16
  refine wr_V (rSN (As := [.ref (wad w 512 o), .int (oI (gI σ_12 513 o)), .int (oI r_15)]) (rest := []) X hT hWσ_16 hS (met_House_putInt l (w := w) 512 o (gI σ_12 513 o) r_15 _ σ_16 vl512_o (by decide) rfl (hWσ_12.r.i 513 o rfl) rr_15 h) ⟨va_cnB 3 X.2.2.2.2 (lw_meth q687) rfl rfl rfl (hT.2.1 _ (List.mem_of_getElem? (i := 8) rfl)) (X.2.2.2.2 _ q131) (by decide +kernel) ⟨Nat.le_of_ble_eq_true rfl, Nat.le_of_ble_eq_true rfl⟩, X.2.2.2.2 _ q686, trivial⟩ rfl hl.1 rfl (by first | exact Nat.le_of_ble_eq_true rfl | simp [catK, catI, catR, catL]) dX2_close_65 ⟨Nat.le_refl _, Nat.le_refl _⟩) hS (fun σ_18 H locs rkσ_18 h hWσ_18 hS => ?_)
  have h := h rkσ_18
  exact wret_V X hr hlk hWσ_18 hS h dX2_close_68
/-! House.keyOf(II)J -/
set_option maxHeartbeats 4000000 in
set_option maxRecDepth 100000 in
theorem met_House_keyOf (l : Launch) {w : Wp} (x0 : Int) (x1 : Int) (Q : Int → St → Prop) (σ : St) (rx0 : rI x0) (rx1 : rI x1) (h : wp_House_keyOf (wc w) (wtv w) x0 x1 Q σ) : Met l yX1_keyOf (ws_ yX1_keyOf cX1_keyOf 2 (some .long)) rm_House_keyOf (PcW w σ [.int (oI x0), .int (oI x1)]) (QcJ w Q) 0 0 (wA w) := by
  refine Met.ofW (cc := cX1_keyOf) (maxL := 2) (ret := (some .long)) (by decide) rfl ?_
  intro p e st m args below meth c s₁ B hml hv
  obtain ⟨hargs, hW, hT⟩ := hv
  have X : CallFix p m c cX1_keyOf 2 st _ lw_all RX1 := ⟨B.exec, B.bytes, hml, findClass_of_methodNamed B.named, fun w h => atoms_spec (ws := ws_ yX1_keyOf cX1_keyOf 2 (some .long)) B.pre w (List.mem_cons_of_mem _ h)⟩
  have hr := B.returns
  have hlk := B.notSynchronized
  have hS : va_S (wA w) st.heap st.heap [] := va_S.rf
  have hl := lv_entry ([.int (oI x0), .int (oI x1)]) (n := 2) (Nat.le_of_ble_eq_true rfl)
  have hfr := lg_entry_eq m ([.int (oI x0), .int (oI x1)]) 2
  rw [← hargs] at hfr
  rw [hfr]
  generalize (lg_sl ([.int (oI x0), .int (oI x1)]) ++ List.replicate (2 - (lg_sl ([.int (oI x0), .int (oI x1)])).length) Slot.unset).toArray = ls at hl ⊢
  have hl : lv_has ls 2 [(0, .int (oI x0)), (1, .int (oI x1))] := hl
  unfold wp_House_keyOf at h
  refine w_ldc2 X (z := 4) q896 (by decide) dX1_keyOf_0 ?_
  refine lv_iload_n X.1 X.2.1 dX1_keyOf_3 rfl (lv_at hl 0 rfl) ?_
  refine w_i2l X rx0 dX1_keyOf_4 ?_
  refine w_lmul X dX1_keyOf_5 ?_
  refine lv_iload_n X.1 X.2.1 dX1_keyOf_6 rfl (lv_at hl 1 rfl) ?_
  refine w_i2l X rx1 dX1_keyOf_7 ?_
  refine w_ladd X dX1_keyOf_8 ?_
  exact wret_J X hr hlk hW hS (w64_r _) h dX1_keyOf_9
/-! Row.putLongAt(IJ)LNandHouse$Row; -/
set_option maxHeartbeats 4000000 in
set_option maxRecDepth 100000 in
theorem met_Row_putLongAt (l : Launch) {w : Wp} (hV : Hvl w) (o : Int) (x1 : Int) (x2 : Int) (Q : St → Prop) (σ : St) (ho : 0 ≤ o ∧ o < 8) (rx1 : rI x1) (rx2 : rJ x2) (h : wp_Row_putLongAt (wc w) (wtv w) o x1 x2 Q σ) : Met l yX2_putLongAt (ws_ yX2_putLongAt cX2_putLongAt 4 (some (.object "NandHouse$Row"))) rm_Row_putLongAt (PcW w σ [.ref (wad w 8 o), .int (oI x1), .long (oL x2)]) (QcR w 8 o Q) 0 0 (wA w) := by
  refine Met.ofW (cc := cX2_putLongAt) (maxL := 4) (ret := (some (.object "NandHouse$Row"))) (by decide) rfl ?_
  intro p e st m args below meth c s₁ B hml hv
  obtain ⟨hargs, hW, hT⟩ := hv
  have X : CallFix p m c cX2_putLongAt 4 st _ lw_all RX2 := ⟨B.exec, B.bytes, hml, findClass_of_methodNamed B.named, fun w h => atoms_spec (ws := ws_ yX2_putLongAt cX2_putLongAt 4 (some (.object "NandHouse$Row"))) B.pre w (List.mem_cons_of_mem _ h)⟩
  have hr := B.returns
  have hlk := B.notSynchronized
  have hS : va_S (wA w) st.heap st.heap [] := va_S.rf
  have vl512_o : vl w 512 o := hV.hv 512 rfl ⟨by omega, by show _ < (8 : Int); omega⟩
  have vl8_o : vl w 8 o := hV.hv 8 rfl ⟨by omega, by show _ < (8 : Int); omega⟩
  have hl := lv_entry ([.ref (wad w 8 o), .int (oI x1), .long (oL x2)]) (n := 4) (Nat.le_of_ble_eq_true rfl)
  have hfr := lg_entry_eq m ([.ref (wad w 8 o), .int (oI x1), .long (oL x2)]) 4
  rw [← hargs] at hfr
  rw [hfr]
  generalize (lg_sl ([.ref (wad w 8 o), .int (oI x1), .long (oL x2)]) ++ List.replicate (4 - (lg_sl ([.ref (wad w 8 o), .int (oI x1), .long (oL x2)])).length) Slot.unset).toArray = ls at hl ⊢
  have hl : lv_has ls 4 [(0, .ref (wad w 8 o)), (1, .int (oI x1)), (2, .long (oL x2))] := hl
  unfold wp_Row_putLongAt at h
  refine lv_aload_n X.1 X.2.1 dX2_putLongAt_0 rfl (lv_at hl 0 rfl) ?_
  refine wg (v := .ref (wad w 512 o)) X hT hW 8 0 512 vl8_o rfl rfl (by decide) rfl (by decide) in_X2 q165 rfl dX2_putLongAt_1 ?_
  refine lv_aload_n X.1 X.2.1 dX2_putLongAt_4 rfl (lv_at hl 0 rfl) ?_
  refine wg (v := .int (oI (gI σ 513 o))) X hT hW 8 1 513 vl8_o rfl rfl (by decide) rfl (by decide) in_X2 q168 rfl dX2_putLongAt_5 ?_
  refine lv_bipush (v := oI 24) X.1 X.2.1 dX2_putLongAt_8 (by decide) ?_
  refine w_iadd X dX2_putLongAt_10 ?_
  refine lv_iload_n X.1 X.2.1 dX2_putLongAt_11 rfl (lv_at hl 1 rfl) ?_
  refine w_iadd X dX2_putLongAt_12 ?_
  refine lv_lload_n X.1 X.2.1 dX2_putLongAt_13 rfl (lv_at hl 2 rfl) ?_
  refine wr_V (rSN (As := [.ref (wad w 512 o), .int (oI (w32 ((w32 ((gI σ 513 o) + 24)) + x1))), .long (oL x2)]) (rest := []) X hT hW hS (met_House_putLong l (w := w) 512 o (w32 ((w32 ((gI σ 513 o) + 24)) + x1)) x2 _ σ vl512_o (by decide) rfl (w32_r _) rx2 h) ⟨va_cnB 3 X.2.2.2.2 (lw_meth q761) rfl rfl rfl (hT.2.1 _ (List.mem_of_getElem? (i := 9) rfl)) (X.2.2.2.2 _ q131) (by decide +kernel) ⟨Nat.le_of_ble_eq_true rfl, Nat.le_of_ble_eq_true rfl⟩, X.2.2.2.2 _ q760, trivial⟩ rfl hl.1 rfl (by first | exact Nat.le_of_ble_eq_true rfl | simp [catK, catI, catR, catL]) dX2_putLongAt_14 ⟨Nat.le_refl _, Nat.le_refl _⟩) hS (fun σ_4 H locs rkσ_4 h hWσ_4 hS => ?_)
  have h := h rkσ_4
  refine lv_aload_n X.1 X.2.1 dX2_putLongAt_17 rfl (lv_at hl 0 rfl) ?_
  exact wret_R X hr hlk hWσ_4 hS h dX2_putLongAt_18
/-! Row.isWhole(I)Z -/
set_option maxHeartbeats 4000000 in
set_option maxRecDepth 100000 in
theorem met_Row_isWhole (l : Launch) {w : Wp} (hV : Hvl w) (o : Int) (x1 : Int) (Q : Int → St → Prop) (σ : St) (ho : 0 ≤ o ∧ o < 8) (rx1 : rI x1) (h : wp_Row_isWhole (wc w) (wtv w) o x1 Q σ) : Met l yX2_isWhole (ws_ yX2_isWhole cX2_isWhole 3 (some .boolean)) rm_Row_isWhole (PcW w σ [.ref (wad w 8 o), .int (oI x1)]) (QcZ w Q) 0 0 (wA w) := by
  refine Met.ofW (cc := cX2_isWhole) (maxL := 3) (ret := (some .boolean)) (by decide) rfl ?_
  intro p e st m args below meth c s₁ B hml hv
  obtain ⟨hargs, hW, hT⟩ := hv
  have X : CallFix p m c cX2_isWhole 3 st _ lw_all RX2 := ⟨B.exec, B.bytes, hml, findClass_of_methodNamed B.named, fun w h => atoms_spec (ws := ws_ yX2_isWhole cX2_isWhole 3 (some .boolean)) B.pre w (List.mem_cons_of_mem _ h)⟩
  have hr := B.returns
  have hlk := B.notSynchronized
  have hS : va_S (wA w) st.heap st.heap [] := va_S.rf
  have vl512_o : vl w 512 o := hV.hv 512 rfl ⟨by omega, by show _ < (8 : Int); omega⟩
  have vl8_o : vl w 8 o := hV.hv 8 rfl ⟨by omega, by show _ < (8 : Int); omega⟩
  have hl := lv_entry ([.ref (wad w 8 o), .int (oI x1)]) (n := 3) (Nat.le_of_ble_eq_true rfl)
  have hfr := lg_entry_eq m ([.ref (wad w 8 o), .int (oI x1)]) 3
  rw [← hargs] at hfr
  rw [hfr]
  generalize (lg_sl ([.ref (wad w 8 o), .int (oI x1)]) ++ List.replicate (3 - (lg_sl ([.ref (wad w 8 o), .int (oI x1)])).length) Slot.unset).toArray = ls at hl ⊢
  have hl : lv_has ls 3 [(0, .ref (wad w 8 o)), (1, .int (oI x1))] := hl
  unfold wp_Row_isWhole at h
  refine lv_aload_n X.1 X.2.1 dX2_isWhole_0 rfl (lv_at hl 0 rfl) ?_
  refine wr_I (rV (As := []) (rest := []) X hT hW hS (met_Row_length l (w := w) hV o _ σ (by omega) h) (cwV 0 X.2.2.2.2 (lw_V q763 q764 q765 q132 q766) rfl rfl rfl (by decide +kernel) ⟨Nat.le_of_ble_eq_true rfl, Nat.le_of_ble_eq_true rfl⟩) vl8_o (by decide) rfl rfl hl.1 rfl (by first | exact Nat.le_of_ble_eq_true rfl | simp [catK, catI, catR, catL]) dX2_isWhole_1 ⟨Nat.le_refl _, Nat.le_refl _⟩) hS (fun r_9 σ_10 H locs rr_9 rkσ_10 h hWσ_10 hS => ?_)
  have h := h rr_9 rkσ_10
  refine lv_istore_n (i := 2) (lv' := [(2, .int (oI r_9)), (0, .ref (wad w 8 o)), (1, .int (oI x1))]) X.1 X.2.1 dX2_isWhole_4 rfl hl (by decide) (by first | rfl | simp [catK, catI, catR, catL]) (fun ls hl => ?_)
  refine lv_iload_n X.1 X.2.1 dX2_isWhole_5 rfl (lv_at hl 0 rfl) ?_
  refine lv_bipush (v := oI 24) X.1 X.2.1 dX2_isWhole_6 (by decide) ?_
  refine w_icmp_lt (tgt := 77) X rr_9 ((rB_lit 24 (by decide)).i) dX2_isWhole_8 (by decide) (fun hc => ?_) (fun hc => ?_)
  · have h := h.1 hc
    refine lv_iconst (v := oI 0) X.1 X.2.1 dX2_isWhole_77 rfl ?_
    exact wret_Z X hr hlk hWσ_10 hS rZ_0 h dX2_isWhole_78
  · have h := h.2 hc
    refine lv_iload_n X.1 X.2.1 dX2_isWhole_11 rfl (lv_at hl 0 rfl) ?_
    refine lv_bipush (v := oI 8) X.1 X.2.1 dX2_isWhole_12 (by decide) ?_
    refine w_irem X rr_9 ((rB_lit 8 (by decide)).i) (by decide) dX2_isWhole_14 ?_
    refine w_if_ne (tgt := 77) X (jrm_r _ _) dX2_isWhole_15 (by decide) (fun hc => ?_) (fun hc => ?_)
    · have h := h.1 hc
      refine lv_iconst (v := oI 0) X.1 X.2.1 dX2_isWhole_77 rfl ?_
      exact wret_Z X hr hlk hWσ_10 hS rZ_0 h dX2_isWhole_78
    · have h := h.2 hc
      refine lv_iload_n X.1 X.2.1 dX2_isWhole_18 rfl (lv_at hl 0 rfl) ?_
      refine lv_iload_n X.1 X.2.1 dX2_isWhole_19 rfl (lv_at hl 2 rfl) ?_
      refine w_icmp_gt (tgt := 77) X rr_9 rx1 dX2_isWhole_20 (by decide) (fun hc => ?_) (fun hc => ?_)
      · have h := h.1 hc
        refine lv_iconst (v := oI 0) X.1 X.2.1 dX2_isWhole_77 rfl ?_
        exact wret_Z X hr hlk hWσ_10 hS rZ_0 h dX2_isWhole_78
      · have h := h.2 hc
        refine lv_aload_n X.1 X.2.1 dX2_isWhole_23 rfl (lv_at hl 1 rfl) ?_
        refine wg (v := .ref (wad w 512 o)) X hT hWσ_10 8 0 512 vl8_o rfl rfl (by decide) rfl (by decide) in_X2 q165 rfl dX2_isWhole_24 ?_
        refine lv_aload_n X.1 X.2.1 dX2_isWhole_27 rfl (lv_at hl 1 rfl) ?_
        refine wg (v := .int (oI (gI σ_10 513 o))) X hT hWσ_10 8 1 513 vl8_o rfl rfl (by decide) rfl (by decide) in_X2 q168 rfl dX2_isWhole_28 ?_
        refine lv_bipush (v := oI 20) X.1 X.2.1 dX2_isWhole_31 (by decide) ?_
        refine w_iadd X dX2_isWhole_33 ?_
        refine wr_I (rSN (As := [.ref (wad w 512 o), .int (oI (w32 ((gI σ_10 513 o) + 20)))]) (rest := []) X hT hWσ_10 hS (met_House_getInt l (w := w) 512 o (w32 ((gI σ_10 513 o) + 20)) _ σ_10 vl512_o (by decide) rfl (w32_r _) h) ⟨va_cnB 2 X.2.2.2.2 (lw_meth q769) rfl rfl rfl (hT.2.1 _ (List.mem_of_getElem? (i := 10) rfl)) (X.2.2.2.2 _ q131) (by decide +kernel) ⟨Nat.le_of_ble_eq_true rfl, Nat.le_of_ble_eq_true rfl⟩, X.2.2.2.2 _ q768, trivial⟩ rfl hl.1 rfl (by first | exact Nat.le_of_ble_eq_true rfl | simp [catK, catI, catR, catL]) dX2_isWhole_34 ⟨Nat.le_refl _, Nat.le_refl _⟩) hS (fun r_11 σ_12 H locs rr_11 rkσ_12 h hWσ_12 hS => ?_)
        have h := h rr_11 rkσ_12
        refine w_ldc X (z := 1414677829) q746 (by decide) dX2_isWhole_37 ?_
        refine w_icmp_ne (tgt := 77) X rr_11 (rI_lit 1414677829 (by decide)) dX2_isWhole_39 (by decide) (fun hc => ?_) (fun hc => ?_)
        · have h := h.1 hc
          refine lv_iconst (v := oI 0) X.1 X.2.1 dX2_isWhole_77 rfl ?_
          exact wret_Z X hr hlk hWσ_12 hS rZ_0 h dX2_isWhole_78
        · have h := h.2 hc
          refine lv_aload_n X.1 X.2.1 dX2_isWhole_42 rfl (lv_at hl 1 rfl) ?_
          refine wg (v := .ref (wad w 512 o)) X hT hWσ_12 8 0 512 vl8_o rfl rfl (by decide) rfl (by decide) in_X2 q165 rfl dX2_isWhole_43 ?_
          refine lv_aload_n X.1 X.2.1 dX2_isWhole_46 rfl (lv_at hl 1 rfl) ?_
          refine wg (v := .int (oI (gI σ_12 513 o))) X hT hWσ_12 8 1 513 vl8_o rfl rfl (by decide) rfl (by decide) in_X2 q168 rfl dX2_isWhole_47 ?_
          refine wr_I (rSN (As := [.ref (wad w 512 o), .int (oI (gI σ_12 513 o))]) (rest := []) X hT hWσ_12 hS (met_House_getInt l (w := w) 512 o (gI σ_12 513 o) _ σ_12 vl512_o (by decide) rfl (hWσ_12.r.i 513 o rfl) h) ⟨va_cnB 2 X.2.2.2.2 (lw_meth q769) rfl rfl rfl (hT.2.1 _ (List.mem_of_getElem? (i := 10) rfl)) (X.2.2.2.2 _ q131) (by decide +kernel) ⟨Nat.le_of_ble_eq_true rfl, Nat.le_of_ble_eq_true rfl⟩, X.2.2.2.2 _ q768, trivial⟩ rfl hl.1 rfl (by first | exact Nat.le_of_ble_eq_true rfl | simp [catK, catI, catR, catL]) dX2_isWhole_50 ⟨Nat.le_refl _, Nat.le_refl _⟩) hS (fun r_13 σ_14 H locs rr_13 rkσ_14 h hWσ_14 hS => ?_)
          have h := h rr_13 rkσ_14
          refine lv_iconst (v := oI (-1)) X.1 X.2.1 dX2_isWhole_53 rfl ?_
          refine lv_aload_n X.1 X.2.1 dX2_isWhole_54 rfl (lv_at hl 1 rfl) ?_
          refine wg (v := .ref (wad w 512 o)) X hT hWσ_14 8 0 512 vl8_o rfl rfl (by decide) rfl (by decide) in_X2 q165 rfl dX2_isWhole_55 ?_
          refine lv_aload_n X.1 X.2.1 dX2_isWhole_58 rfl (lv_at hl 1 rfl) ?_
          refine wg (v := .int (oI (gI σ_14 513 o))) X hT hWσ_14 8 1 513 vl8_o rfl rfl (by decide) rfl (by decide) in_X2 q168 rfl dX2_isWhole_59 ?_
          refine lv_iconst (v := oI 4) X.1 X.2.1 dX2_isWhole_62 rfl ?_
          refine w_iadd X dX2_isWhole_63 ?_
          refine lv_iload_n X.1 X.2.1 dX2_isWhole_64 rfl (lv_at hl 0 rfl) ?_
          refine lv_iconst (v := oI 4) X.1 X.2.1 dX2_isWhole_65 rfl ?_
          refine w_isub X dX2_isWhole_66 ?_
          refine wr_I (rSN (As := [.int (oI (-1)), .ref (wad w 512 o), .int (oI (w32 ((gI σ_14 513 o) + 4))), .int (oI (w32 (r_9 - 4)))]) (rest := [.int (oI r_13)]) X hT hWσ_14 hS (met_House_check l (w := w) (-1) 512 o (w32 ((gI σ_14 513 o) + 4)) (w32 (r_9 - 4)) _ σ_14 ((rB_lit (-1) (by decide)).i) vl512_o (by decide) rfl (w32_r _) (w32_r _) h) ⟨va_cnB 4 X.2.2.2.2 (lw_meth q690) rfl rfl rfl (hT.2.1 _ (List.mem_of_getElem? (i := 11) rfl)) (X.2.2.2.2 _ q131) (by decide +kernel) ⟨Nat.le_of_ble_eq_true rfl, Nat.le_of_ble_eq_true rfl⟩, X.2.2.2.2 _ q689, trivial⟩ rfl hl.1 rfl (by first | exact Nat.le_of_ble_eq_true rfl | simp [catK, catI, catR, catL]) dX2_isWhole_67 ⟨Nat.le_refl _, Nat.le_refl _⟩) hS (fun r_15 σ_16 H locs rr_15 rkσ_16 h hWσ_16 hS => ?_)
          have h := h rr_15 rkσ_16
          refine w_icmp_ne (tgt := 77) X rr_13 rr_15 dX2_isWhole_70 (by decide) (fun hc => ?_) (fun hc => ?_)
          · have h := h.1 hc
            refine lv_iconst (v := oI 0) X.1 X.2.1 dX2_isWhole_77 rfl ?_
            exact wret_Z X hr hlk hWσ_16 hS rZ_0 h dX2_isWhole_78
          · have h := h.2 hc
            refine lv_iconst (v := oI 1) X.1 X.2.1 dX2_isWhole_73 rfl ?_
            refine lv_goto (tgt := 78) X.1 X.2.1 dX2_isWhole_74 (by decide) ?_
            exact wret_Z X hr hlk hWσ_16 hS rZ_1 h dX2_isWhole_78
/-! Row.type()I -/
set_option maxHeartbeats 4000000 in
set_option maxRecDepth 100000 in
theorem met_Row_type (l : Launch) {w : Wp} (hV : Hvl w) (o : Int) (Q : Int → St → Prop) (σ : St) (ho : 0 ≤ o ∧ o < 8) (h : wp_Row_type (wc w) (wtv w) o Q σ) : Met l yX2_type (ws_ yX2_type cX2_type 1 (some .int)) rm_Row_type (PcW w σ [.ref (wad w 8 o)]) (QcI w Q) 0 0 (wA w) := by
  refine Met.ofW (cc := cX2_type) (maxL := 1) (ret := (some .int)) (by decide) rfl ?_
  intro p e st m args below meth c s₁ B hml hv
  obtain ⟨hargs, hW, hT⟩ := hv
  have X : CallFix p m c cX2_type 1 st _ lw_all RX2 := ⟨B.exec, B.bytes, hml, findClass_of_methodNamed B.named, fun w h => atoms_spec (ws := ws_ yX2_type cX2_type 1 (some .int)) B.pre w (List.mem_cons_of_mem _ h)⟩
  have hr := B.returns
  have hlk := B.notSynchronized
  have hS : va_S (wA w) st.heap st.heap [] := va_S.rf
  have vl512_o : vl w 512 o := hV.hv 512 rfl ⟨by omega, by show _ < (8 : Int); omega⟩
  have vl8_o : vl w 8 o := hV.hv 8 rfl ⟨by omega, by show _ < (8 : Int); omega⟩
  have hl := lv_entry ([.ref (wad w 8 o)]) (n := 1) (Nat.le_of_ble_eq_true rfl)
  have hfr := lg_entry_eq m ([.ref (wad w 8 o)]) 1
  rw [← hargs] at hfr
  rw [hfr]
  generalize (lg_sl ([.ref (wad w 8 o)]) ++ List.replicate (1 - (lg_sl ([.ref (wad w 8 o)])).length) Slot.unset).toArray = ls at hl ⊢
  have hl : lv_has ls 1 [(0, .ref (wad w 8 o))] := hl
  unfold wp_Row_type at h
  refine lv_aload_n X.1 X.2.1 dX2_type_0 rfl (lv_at hl 0 rfl) ?_
  refine wg (v := .ref (wad w 512 o)) X hT hW 8 0 512 vl8_o rfl rfl (by decide) rfl (by decide) in_X2 q165 rfl dX2_type_1 ?_
  refine lv_aload_n X.1 X.2.1 dX2_type_4 rfl (lv_at hl 0 rfl) ?_
  refine wg (v := .int (oI (gI σ 513 o))) X hT hW 8 1 513 vl8_o rfl rfl (by decide) rfl (by decide) in_X2 q168 rfl dX2_type_5 ?_
  refine lv_bipush (v := oI 16) X.1 X.2.1 dX2_type_8 (by decide) ?_
  refine w_iadd X dX2_type_10 ?_
  obtain ⟨bi, h⟩ := h
  refine w_bald (n := (rowL o)) X hT hW 512 vl512_o (by decide) rfl rfl bi dX2_type_11 ?_
  exact wret_I X hr hlk hW hS ((hW.r.ab 512 o (w32 ((gI σ 513 o) + 16)) rfl).i) h dX2_type_12
/-! Row.get(I)I -/
set_option maxHeartbeats 4000000 in
set_option maxRecDepth 100000 in
theorem met_Row_get (l : Launch) {w : Wp} (hV : Hvl w) (o : Int) (x1 : Int) (Q : Int → St → Prop) (σ : St) (ho : 0 ≤ o ∧ o < 8) (rx1 : rI x1) (h : wp_Row_get (wc w) (wtv w) o x1 Q σ) : Met l yX2_get (ws_ yX2_get cX2_get 2 (some .int)) rm_Row_get (PcW w σ [.ref (wad w 8 o), .int (oI x1)]) (QcI w Q) 0 0 (wA w) := by
  refine Met.ofW (cc := cX2_get) (maxL := 2) (ret := (some .int)) (by decide) rfl ?_
  intro p e st m args below meth c s₁ B hml hv
  obtain ⟨hargs, hW, hT⟩ := hv
  have X : CallFix p m c cX2_get 2 st _ lw_all RX2 := ⟨B.exec, B.bytes, hml, findClass_of_methodNamed B.named, fun w h => atoms_spec (ws := ws_ yX2_get cX2_get 2 (some .int)) B.pre w (List.mem_cons_of_mem _ h)⟩
  have hr := B.returns
  have hlk := B.notSynchronized
  have hS : va_S (wA w) st.heap st.heap [] := va_S.rf
  have vl512_o : vl w 512 o := hV.hv 512 rfl ⟨by omega, by show _ < (8 : Int); omega⟩
  have vl8_o : vl w 8 o := hV.hv 8 rfl ⟨by omega, by show _ < (8 : Int); omega⟩
  have hl := lv_entry ([.ref (wad w 8 o), .int (oI x1)]) (n := 2) (Nat.le_of_ble_eq_true rfl)
  have hfr := lg_entry_eq m ([.ref (wad w 8 o), .int (oI x1)]) 2
  rw [← hargs] at hfr
  rw [hfr]
  generalize (lg_sl ([.ref (wad w 8 o), .int (oI x1)]) ++ List.replicate (2 - (lg_sl ([.ref (wad w 8 o), .int (oI x1)])).length) Slot.unset).toArray = ls at hl ⊢
  have hl : lv_has ls 2 [(0, .ref (wad w 8 o)), (1, .int (oI x1))] := hl
  unfold wp_Row_get at h
  refine lv_aload_n X.1 X.2.1 dX2_get_0 rfl (lv_at hl 0 rfl) ?_
  refine wg (v := .ref (wad w 512 o)) X hT hW 8 0 512 vl8_o rfl rfl (by decide) rfl (by decide) in_X2 q165 rfl dX2_get_1 ?_
  refine lv_aload_n X.1 X.2.1 dX2_get_4 rfl (lv_at hl 0 rfl) ?_
  refine wg (v := .int (oI (gI σ 513 o))) X hT hW 8 1 513 vl8_o rfl rfl (by decide) rfl (by decide) in_X2 q168 rfl dX2_get_5 ?_
  refine lv_bipush (v := oI 24) X.1 X.2.1 dX2_get_8 (by decide) ?_
  refine w_iadd X dX2_get_10 ?_
  refine lv_iload_n X.1 X.2.1 dX2_get_11 rfl (lv_at hl 1 rfl) ?_
  refine w_iadd X dX2_get_12 ?_
  refine wr_I (rSN (As := [.ref (wad w 512 o), .int (oI (w32 ((w32 ((gI σ 513 o) + 24)) + x1)))]) (rest := []) X hT hW hS (met_House_getInt l (w := w) 512 o (w32 ((w32 ((gI σ 513 o) + 24)) + x1)) _ σ vl512_o (by decide) rfl (w32_r _) h) ⟨va_cnB 2 X.2.2.2.2 (lw_meth q769) rfl rfl rfl (hT.2.1 _ (List.mem_of_getElem? (i := 10) rfl)) (X.2.2.2.2 _ q131) (by decide +kernel) ⟨Nat.le_of_ble_eq_true rfl, Nat.le_of_ble_eq_true rfl⟩, X.2.2.2.2 _ q768, trivial⟩ rfl hl.1 rfl (by first | exact Nat.le_of_ble_eq_true rfl | simp [catK, catI, catR, catL]) dX2_get_13 ⟨Nat.le_refl _, Nat.le_refl _⟩) hS (fun r_3 σ_4 H locs rr_3 rkσ_4 h hWσ_4 hS => ?_)
  have h := h rr_3 rkσ_4
  exact wret_I X hr hlk hWσ_4 hS rr_3 h dX2_get_16
/-! Row.getLongAt(I)J -/
set_option maxHeartbeats 4000000 in
set_option maxRecDepth 100000 in
theorem met_Row_getLongAt (l : Launch) {w : Wp} (hV : Hvl w) (o : Int) (x1 : Int) (Q : Int → St → Prop) (σ : St) (ho : 0 ≤ o ∧ o < 8) (rx1 : rI x1) (h : wp_Row_getLongAt (wc w) (wtv w) o x1 Q σ) : Met l yX2_getLongAt (ws_ yX2_getLongAt cX2_getLongAt 2 (some .long)) rm_Row_getLongAt (PcW w σ [.ref (wad w 8 o), .int (oI x1)]) (QcJ w Q) 0 0 (wA w) := by
  refine Met.ofW (cc := cX2_getLongAt) (maxL := 2) (ret := (some .long)) (by decide) rfl ?_
  intro p e st m args below meth c s₁ B hml hv
  obtain ⟨hargs, hW, hT⟩ := hv
  have X : CallFix p m c cX2_getLongAt 2 st _ lw_all RX2 := ⟨B.exec, B.bytes, hml, findClass_of_methodNamed B.named, fun w h => atoms_spec (ws := ws_ yX2_getLongAt cX2_getLongAt 2 (some .long)) B.pre w (List.mem_cons_of_mem _ h)⟩
  have hr := B.returns
  have hlk := B.notSynchronized
  have hS : va_S (wA w) st.heap st.heap [] := va_S.rf
  have vl512_o : vl w 512 o := hV.hv 512 rfl ⟨by omega, by show _ < (8 : Int); omega⟩
  have vl8_o : vl w 8 o := hV.hv 8 rfl ⟨by omega, by show _ < (8 : Int); omega⟩
  have hl := lv_entry ([.ref (wad w 8 o), .int (oI x1)]) (n := 2) (Nat.le_of_ble_eq_true rfl)
  have hfr := lg_entry_eq m ([.ref (wad w 8 o), .int (oI x1)]) 2
  rw [← hargs] at hfr
  rw [hfr]
  generalize (lg_sl ([.ref (wad w 8 o), .int (oI x1)]) ++ List.replicate (2 - (lg_sl ([.ref (wad w 8 o), .int (oI x1)])).length) Slot.unset).toArray = ls at hl ⊢
  have hl : lv_has ls 2 [(0, .ref (wad w 8 o)), (1, .int (oI x1))] := hl
  unfold wp_Row_getLongAt at h
  refine lv_aload_n X.1 X.2.1 dX2_getLongAt_0 rfl (lv_at hl 0 rfl) ?_
  refine wg (v := .ref (wad w 512 o)) X hT hW 8 0 512 vl8_o rfl rfl (by decide) rfl (by decide) in_X2 q165 rfl dX2_getLongAt_1 ?_
  refine lv_aload_n X.1 X.2.1 dX2_getLongAt_4 rfl (lv_at hl 0 rfl) ?_
  refine wg (v := .int (oI (gI σ 513 o))) X hT hW 8 1 513 vl8_o rfl rfl (by decide) rfl (by decide) in_X2 q168 rfl dX2_getLongAt_5 ?_
  refine lv_bipush (v := oI 24) X.1 X.2.1 dX2_getLongAt_8 (by decide) ?_
  refine w_iadd X dX2_getLongAt_10 ?_
  refine lv_iload_n X.1 X.2.1 dX2_getLongAt_11 rfl (lv_at hl 1 rfl) ?_
  refine w_iadd X dX2_getLongAt_12 ?_
  refine wr_J (rSN (As := [.ref (wad w 512 o), .int (oI (w32 ((w32 ((gI σ 513 o) + 24)) + x1)))]) (rest := []) X hT hW hS (met_House_getLong l (w := w) 512 o (w32 ((w32 ((gI σ 513 o) + 24)) + x1)) _ σ vl512_o (by decide) rfl (w32_r _) h) ⟨va_cnB 2 X.2.2.2.2 (lw_meth q1224) rfl rfl rfl (hT.2.1 _ (List.mem_of_getElem? (i := 15) rfl)) (X.2.2.2.2 _ q131) (by decide +kernel) ⟨Nat.le_of_ble_eq_true rfl, Nat.le_of_ble_eq_true rfl⟩, X.2.2.2.2 _ q1223, trivial⟩ rfl hl.1 rfl (by first | exact Nat.le_of_ble_eq_true rfl | simp [catK, catI, catR, catL]) dX2_getLongAt_13 ⟨Nat.le_refl _, Nat.le_refl _⟩) hS (fun r_3 σ_4 H locs rr_3 rkσ_4 h hWσ_4 hS => ?_)
  have h := h rr_3 rkσ_4
  exact wret_J X hr hlk hWσ_4 hS rr_3 h dX2_getLongAt_16
/-! House.hash(J)J -/
set_option maxHeartbeats 4000000 in
set_option maxRecDepth 100000 in
theorem wk_House_hash_b43 {p : Program} {l : Launch} {e : Env} {st : State} {m : MethodId} {args : Array Value} {below : List Frame} {meth : Method} {c : Code} {w : Wp} {x0 : Int} {Q : Int → St → Prop} (X : CallFix p m c cX1_hash 5 st args lw_all RX1) (hr : meth.sig.returnType = (some .long)) (hlk : meth.locks = false) (hT : Tb w st) (rx0 : rJ x0) (K4 : Int → Int → St → Prop) (hK4 : ∀ (y2 y3 : Int) (σ : St) (H : Heap) (locs : List Loc) (ls : Array Slot), rI y2 → rI y3 → lv_has ls 5 [(0, .long (oL x0)), (2, .int (oI y2)), (3, .int (oI y3))] → Wo w σ H → va_S (wA w) st.heap H locs → K4 y2 y3 σ → W p l e (headSpec (ws_ yX1_hash cX1_hash 5 (some .long)) rm_House_hash).room st m args below meth c H locs 0 0 (MQ below (QcJ w Q) args st 0 0 (wA w)) (F0 m 4 ls [])) : ∀ (y2 y3 : Int) (σ : St) (H : Heap) (locs : List Loc) (ls : Array Slot), rI y2 → rI y3 → lv_has ls 5 [(0, .long (oL x0)), (2, .int (oI y2)), (3, .int (oI y3))] → Wo w σ H → va_S (wA w) st.heap H locs → wp_House_hash_b43 (wc w) (wtv w) x0 Q K4 y2 y3 σ → W p l e (headSpec (ws_ yX1_hash cX1_hash 5 (some .long)) rm_House_hash).room st m args below meth c H locs 0 0 (MQ below (QcJ w Q) args st 0 0 (wA w)) (F0 m 43 ls []) := by

  intro y2 y3 σ H locs ls ry2 ry3 hl hW hS h
  unfold wp_House_hash_b43 at h
  obtain ⟨y3_10, ey3_10⟩ : ∃ y : Int, y = w32 (y3 + 1) := ⟨_, rfl⟩
  have h := h y3_10 ey3_10
  have ry3_10 : rI y3_10 := by rw [ey3_10]; exact w32_r _
  refine lv_iinc (v := oI y3_10) (lv' := [(3, .int (oI y3_10)), (0, .long (oL x0)), (2, .int (oI y2))]) X.1 X.2.1 dX1_hash_43 hl (k := 2) rfl (by rw [ey3_10]; exact oI_add _ _) (by decide) (by first | rfl | simp [catK, catI, catR, catL]) (fun ls hl => ?_)
  refine lv_goto (tgt := 4) X.1 X.2.1 dX1_hash_46 (by decide) ?_
  exact hK4 y2 y3_10 σ _ _ _ ry2 ry3_10 (lv_sub hl [1, 2, 0] rfl) hW hS h
set_option maxHeartbeats 4000000 in
set_option maxRecDepth 100000 in
theorem wk_House_hash_L4B {p : Program} {l : Launch} {e : Env} {st : State} {m : MethodId} {args : Array Value} {below : List Frame} {meth : Method} {c : Code} {w : Wp} {x0 : Int} {Q : Int → St → Prop} (X : CallFix p m c cX1_hash 5 st args lw_all RX1) (hr : meth.sig.returnType = (some .long)) (hlk : meth.locks = false) (hT : Tb w st) (rx0 : rJ x0) (K4 : Int → Int → St → Prop) (hK4 : ∀ (y2 y3 : Int) (σ : St) (H : Heap) (locs : List Loc) (ls : Array Slot), rI y2 → rI y3 → lv_has ls 5 [(0, .long (oL x0)), (2, .int (oI y2)), (3, .int (oI y3))] → Wo w σ H → va_S (wA w) st.heap H locs → K4 y2 y3 σ → W p l e (headSpec (ws_ yX1_hash cX1_hash 5 (some .long)) rm_House_hash).room st m args below meth c H locs 0 0 (MQ below (QcJ w Q) args st 0 0 (wA w)) (F0 m 4 ls [])) : ∀ (y2 y3 : Int) (σ : St) (H : Heap) (locs : List Loc) (ls : Array Slot), rI y2 → rI y3 → lv_has ls 5 [(0, .long (oL x0)), (2, .int (oI y2)), (3, .int (oI y3))] → Wo w σ H → va_S (wA w) st.heap H locs → wp_House_hash_L4 (wc w) (wtv w) x0 Q K4 y2 y3 σ → W p l e (headSpec (ws_ yX1_hash cX1_hash 5 (some .long)) rm_House_hash).room st m args below meth c H locs 0 0 (MQ below (QcJ w Q) args st 0 0 (wA w)) (F0 m 4 ls []) := by

  intro y2 y3 σ H locs ls ry2 ry3 hl hW hS h
  unfold wp_House_hash_L4 at h
  refine lv_iload_n X.1 X.2.1 dX1_hash_4 rfl (lv_at hl 2 rfl) ?_
  refine lv_bipush (v := oI 8) X.1 X.2.1 dX1_hash_5 (by decide) ?_
  refine w_icmp_ge (tgt := 49) X ry3 ((rB_lit 8 (by decide)).i) dX1_hash_7 (by decide) (fun hc => ?_) (fun hc => ?_)
  · have h := h.1 hc
    refine lv_iload_n X.1 X.2.1 dX1_hash_49 rfl (lv_at hl 1 rfl) ?_
    refine lv_sipush (v := oI 1023) X.1 X.2.1 dX1_hash_50 (by decide) ?_
    refine w_iand X dX1_hash_53 ?_
    refine w_i2l X (iand_r _ _) dX1_hash_54 ?_
    refine w_ldc2 X (z := 1024) q1217 (by decide) dX1_hash_55 ?_
    refine w_lmul X dX1_hash_58 ?_
    exact wret_J X hr hlk hW hS (w64_r _) h dX1_hash_59
  · have h := h.2 hc
    refine lv_lload_n X.1 X.2.1 dX1_hash_10 rfl (lv_at hl 0 rfl) ?_
    refine lv_bipush (v := oI 8) X.1 X.2.1 dX1_hash_11 (by decide) ?_
    refine lv_iload_n X.1 X.2.1 dX1_hash_13 rfl (lv_at hl 2 rfl) ?_
    refine w_imul X dX1_hash_14 ?_
    refine w_lushr X dX1_hash_15 ?_
    refine w_l2i X dX1_hash_16 ?_
    refine lv_sipush (v := oI 255) X.1 X.2.1 dX1_hash_17 (by decide) ?_
    refine w_iand X dX1_hash_20 ?_
    refine w_top (fun y4_11 ey4_11 => ?_)
    have h := h y4_11 ey4_11
    have ry4_11 : rI y4_11 := by rw [ey4_11]; exact (iand_r _ _)
    refine lv_istore (i := 4) (lv' := [(4, .int (oI y4_11)), (0, .long (oL x0)), (2, .int (oI y2)), (3, .int (oI y3))]) X.1 X.2.1 dX1_hash_21 hl (by decide) (by first | rfl | simp [catK, catI, catR, catL]) (fun ls hl => ?_)
    refine lv_iload X.1 X.2.1 dX1_hash_23 (lv_at hl 0 rfl) ?_
    refine w_if_eq (tgt := 43) X ry4_11 dX1_hash_25 (by decide) (fun hc => ?_) (fun hc => ?_)
    · have h := h.1 hc
      exact wk_House_hash_b43 X hr hlk hT rx0 K4 hK4 y2 y3 σ _ _ _ ry2 ry3 (lv_sub hl [1, 2, 3] rfl) hW hS h
    · have h := h.2 hc
      refine lv_iload_n X.1 X.2.1 dX1_hash_28 rfl (lv_at hl 2 rfl) ?_
      refine lv_iload X.1 X.2.1 dX1_hash_29 (lv_at hl 0 rfl) ?_
      refine lv_iconst (v := oI 4) X.1 X.2.1 dX1_hash_31 rfl ?_
      refine w_ishl X dX1_hash_32 ?_
      refine w_iadd X dX1_hash_33 ?_
      refine lv_iload X.1 X.2.1 dX1_hash_34 (lv_at hl 0 rfl) ?_
      refine lv_iconst (v := oI 4) X.1 X.2.1 dX1_hash_36 rfl ?_
      refine w_ishr X dX1_hash_37 ?_
      refine w_iadd X dX1_hash_38 ?_
      refine lv_bipush (v := oI 11) X.1 X.2.1 dX1_hash_39 (by decide) ?_
      refine w_imul X dX1_hash_41 ?_
      refine w_top (fun y2_12 ey2_12 => ?_)
      have h := h y2_12 ey2_12
      have ry2_12 : rI y2_12 := by rw [ey2_12]; exact (w32_r _)
      refine lv_istore_n (i := 2) (lv' := [(2, .int (oI y2_12)), (4, .int (oI y4_11)), (0, .long (oL x0)), (3, .int (oI y3))]) X.1 X.2.1 dX1_hash_42 rfl hl (by decide) (by first | rfl | simp [catK, catI, catR, catL]) (fun ls hl => ?_)
      exact wk_House_hash_b43 X hr hlk hT rx0 K4 hK4 y2_12 y3 σ _ _ _ ry2_12 ry3 (lv_sub hl [2, 0, 3] rfl) hW hS h
theorem wk_House_hash_L4 {p : Program} {l : Launch} {e : Env} {st : State} {m : MethodId} {args : Array Value} {below : List Frame} {meth : Method} {c : Code} {w : Wp} {x0 : Int} {Q : Int → St → Prop} (X : CallFix p m c cX1_hash 5 st args lw_all RX1) (hr : meth.sig.returnType = (some .long)) (hlk : meth.locks = false) (hT : Tb w st) (rx0 : rJ x0) : ∀ (y2 y3 : Int) (σ : St) (H : Heap) (locs : List Loc) (ls : Array Slot), rI y2 → rI y3 → lv_has ls 5 [(0, .long (oL x0)), (2, .int (oI y2)), (3, .int (oI y3))] → Wo w σ H → va_S (wA w) st.heap H locs → lQ2 (wp_House_hash_L4 (wc w) (wtv w) x0 Q) y2 y3 σ → W p l e (headSpec (ws_ yX1_hash cX1_hash 5 (some .long)) rm_House_hash).room st m args below meth c H locs 0 0 (MQ below (QcJ w Q) args st 0 0 (wA w)) (F0 m 4 ls []) := by
  intro y2 y3 σ H locs ls ry2 ry3 hl hW hS h
  obtain ⟨fu, h⟩ := h
  induction fu generalizing y2 y3 σ H locs ls with
  | zero => exact h.elim
  | succ fu ih =>
    exact wk_House_hash_L4B X hr hlk hT rx0 (lq2 (wp_House_hash_L4 (wc w) (wtv w) x0 Q) fu) (fun y2 y3 σ H locs ls ry2 ry3 hl hW hS h => ih y2 y3 σ H locs ls ry2 ry3 hl hW hS h) y2 y3 σ H locs ls ry2 ry3 hl hW hS h
set_option maxHeartbeats 4000000 in
set_option maxRecDepth 100000 in
theorem met_House_hash (l : Launch) {w : Wp} (x0 : Int) (Q : Int → St → Prop) (σ : St) (rx0 : rJ x0) (h : wp_House_hash (wc w) (wtv w) x0 Q σ) : Met l yX1_hash (ws_ yX1_hash cX1_hash 5 (some .long)) rm_House_hash (PcW w σ [.long (oL x0)]) (QcJ w Q) 0 0 (wA w) := by
  refine Met.ofW (cc := cX1_hash) (maxL := 5) (ret := (some .long)) (by decide) rfl ?_
  intro p e st m args below meth c s₁ B hml hv
  obtain ⟨hargs, hW, hT⟩ := hv
  have X : CallFix p m c cX1_hash 5 st _ lw_all RX1 := ⟨B.exec, B.bytes, hml, findClass_of_methodNamed B.named, fun w h => atoms_spec (ws := ws_ yX1_hash cX1_hash 5 (some .long)) B.pre w (List.mem_cons_of_mem _ h)⟩
  have hr := B.returns
  have hlk := B.notSynchronized
  have hS : va_S (wA w) st.heap st.heap [] := va_S.rf
  have hl := lv_entry ([.long (oL x0)]) (n := 5) (Nat.le_of_ble_eq_true rfl)
  have hfr := lg_entry_eq m ([.long (oL x0)]) 5
  rw [← hargs] at hfr
  rw [hfr]
  generalize (lg_sl ([.long (oL x0)]) ++ List.replicate (5 - (lg_sl ([.long (oL x0)])).length) Slot.unset).toArray = ls at hl ⊢
  have hl : lv_has ls 5 [(0, .long (oL x0))] := hl
  unfold wp_House_hash at h
  refine lv_iconst (v := oI 0) X.1 X.2.1 dX1_hash_0 rfl ?_
  refine lv_istore_n (i := 2) (lv' := [(2, .int (oI 0)), (0, .long (oL x0))]) X.1 X.2.1 dX1_hash_1 rfl hl (by decide) (by first | rfl | simp [catK, catI, catR, catL]) (fun ls hl => ?_)
  refine lv_iconst (v := oI 0) X.1 X.2.1 dX1_hash_2 rfl ?_
  refine lv_istore_n (i := 3) (lv' := [(3, .int (oI 0)), (2, .int (oI 0)), (0, .long (oL x0))]) X.1 X.2.1 dX1_hash_3 rfl hl (by decide) (by first | rfl | simp [catK, catI, catR, catL]) (fun ls hl => ?_)
  exact wk_House_hash_L4 X hr hlk hT rx0 0 0 σ _ _ _ rZ_0.i rZ_0.i (lv_sub hl [2, 1, 0] rfl) hW hS h
/-! Long.reverseBytes(J)J -/
set_option maxHeartbeats 4000000 in
set_option maxRecDepth 100000 in
theorem met_Long_reverseBytes (l : Launch) {w : Wp} (x0 : Int) (Q : Int → St → Prop) (σ : St) (rx0 : rJ x0) (h : wp_Long_reverseBytes (wc w) (wtv w) x0 Q σ) : Met l yJ5_reverseBytes (ws_ yJ5_reverseBytes cJ5_reverseBytes 2 (some .long)) rm_Long_reverseBytes (PcW w σ [.long (oL x0)]) (QcJ w Q) 0 0 (wA w) := by
  refine Met.ofW (cc := cJ5_reverseBytes) (maxL := 2) (ret := (some .long)) (by decide) rfl ?_
  intro p e st m args below meth c s₁ B hml hv
  obtain ⟨hargs, hW, hT⟩ := hv
  have X : CallFix p m c cJ5_reverseBytes 2 st _ lw_all RJ5 := ⟨B.exec, B.bytes, hml, findClass_of_methodNamed B.named, fun w h => atoms_spec (ws := ws_ yJ5_reverseBytes cJ5_reverseBytes 2 (some .long)) B.pre w (List.mem_cons_of_mem _ h)⟩
  have hr := B.returns
  have hlk := B.notSynchronized
  have hS : va_S (wA w) st.heap st.heap [] := va_S.rf
  have hl := lv_entry ([.long (oL x0)]) (n := 2) (Nat.le_of_ble_eq_true rfl)
  have hfr := lg_entry_eq m ([.long (oL x0)]) 2
  rw [← hargs] at hfr
  rw [hfr]
  generalize (lg_sl ([.long (oL x0)]) ++ List.replicate (2 - (lg_sl ([.long (oL x0)])).length) Slot.unset).toArray = ls at hl ⊢
  have hl : lv_has ls 2 [(0, .long (oL x0))] := hl
  unfold wp_Long_reverseBytes at h
  refine lv_lload_n X.1 X.2.1 dJ5_reverseBytes_0 rfl (lv_at hl 0 rfl) ?_
  refine w_ldc2 X (z := 71777214294589695) q1326 (by decide) dJ5_reverseBytes_1 ?_
  refine w_land X dJ5_reverseBytes_4 ?_
  refine lv_bipush (v := oI 8) X.1 X.2.1 dJ5_reverseBytes_5 (by decide) ?_
  refine w_lshl X dJ5_reverseBytes_7 ?_
  refine lv_lload_n X.1 X.2.1 dJ5_reverseBytes_8 rfl (lv_at hl 0 rfl) ?_
  refine lv_bipush (v := oI 8) X.1 X.2.1 dJ5_reverseBytes_9 (by decide) ?_
  refine w_lushr X dJ5_reverseBytes_11 ?_
  refine w_ldc2 X (z := 71777214294589695) q1326 (by decide) dJ5_reverseBytes_12 ?_
  refine w_land X dJ5_reverseBytes_15 ?_
  refine w_lor X dJ5_reverseBytes_16 ?_
  refine w_topl (fun y0_2 ey0_2 => ?_)
  have h := h y0_2 ey0_2
  have ry0_2 : rJ y0_2 := by rw [ey0_2]; exact (lor_r _ _)
  refine lv_lstore_n (i := 0) (lv' := [(0, .long (oL y0_2))]) X.1 X.2.1 dJ5_reverseBytes_17 rfl hl (by decide) (by first | rfl | simp [catK, catI, catR, catL]) (fun ls hl => ?_)
  refine lv_lload_n X.1 X.2.1 dJ5_reverseBytes_18 rfl (lv_at hl 0 rfl) ?_
  refine lv_bipush (v := oI 48) X.1 X.2.1 dJ5_reverseBytes_19 (by decide) ?_
  refine w_lshl X dJ5_reverseBytes_21 ?_
  refine lv_lload_n X.1 X.2.1 dJ5_reverseBytes_22 rfl (lv_at hl 0 rfl) ?_
  refine w_ldc2 X (z := 4294901760) q1327 (by decide) dJ5_reverseBytes_23 ?_
  refine w_land X dJ5_reverseBytes_26 ?_
  refine lv_bipush (v := oI 16) X.1 X.2.1 dJ5_reverseBytes_27 (by decide) ?_
  refine w_lshl X dJ5_reverseBytes_29 ?_
  refine w_lor X dJ5_reverseBytes_30 ?_
  refine lv_lload_n X.1 X.2.1 dJ5_reverseBytes_31 rfl (lv_at hl 0 rfl) ?_
  refine lv_bipush (v := oI 16) X.1 X.2.1 dJ5_reverseBytes_32 (by decide) ?_
  refine w_lushr X dJ5_reverseBytes_34 ?_
  refine w_ldc2 X (z := 4294901760) q1327 (by decide) dJ5_reverseBytes_35 ?_
  refine w_land X dJ5_reverseBytes_38 ?_
  refine w_lor X dJ5_reverseBytes_39 ?_
  refine lv_lload_n X.1 X.2.1 dJ5_reverseBytes_40 rfl (lv_at hl 0 rfl) ?_
  refine lv_bipush (v := oI 48) X.1 X.2.1 dJ5_reverseBytes_41 (by decide) ?_
  refine w_lushr X dJ5_reverseBytes_43 ?_
  refine w_lor X dJ5_reverseBytes_44 ?_
  exact wret_J X hr hlk hW hS (lor_r _ _) h dJ5_reverseBytes_45
/-! Row.isLast()Z -/
set_option maxHeartbeats 4000000 in
set_option maxRecDepth 100000 in
theorem met_Row_isLast (l : Launch) {w : Wp} (hV : Hvl w) (o : Int) (Q : Int → St → Prop) (σ : St) (ho : 0 ≤ o ∧ o < 8) (h : wp_Row_isLast (wc w) (wtv w) o Q σ) : Met l yX2_isLast (ws_ yX2_isLast cX2_isLast 1 (some .boolean)) rm_Row_isLast (PcW w σ [.ref (wad w 8 o)]) (QcZ w Q) 0 0 (wA w) := by
  refine Met.ofW (cc := cX2_isLast) (maxL := 1) (ret := (some .boolean)) (by decide) rfl ?_
  intro p e st m args below meth c s₁ B hml hv
  obtain ⟨hargs, hW, hT⟩ := hv
  have X : CallFix p m c cX2_isLast 1 st _ lw_all RX2 := ⟨B.exec, B.bytes, hml, findClass_of_methodNamed B.named, fun w h => atoms_spec (ws := ws_ yX2_isLast cX2_isLast 1 (some .boolean)) B.pre w (List.mem_cons_of_mem _ h)⟩
  have hr := B.returns
  have hlk := B.notSynchronized
  have hS : va_S (wA w) st.heap st.heap [] := va_S.rf
  have vl512_o : vl w 512 o := hV.hv 512 rfl ⟨by omega, by show _ < (8 : Int); omega⟩
  have vl8_o : vl w 8 o := hV.hv 8 rfl ⟨by omega, by show _ < (8 : Int); omega⟩
  have hl := lv_entry ([.ref (wad w 8 o)]) (n := 1) (Nat.le_of_ble_eq_true rfl)
  have hfr := lg_entry_eq m ([.ref (wad w 8 o)]) 1
  rw [← hargs] at hfr
  rw [hfr]
  generalize (lg_sl ([.ref (wad w 8 o)]) ++ List.replicate (1 - (lg_sl ([.ref (wad w 8 o)])).length) Slot.unset).toArray = ls at hl ⊢
  have hl : lv_has ls 1 [(0, .ref (wad w 8 o))] := hl
  unfold wp_Row_isLast at h
  refine lv_aload_n X.1 X.2.1 dX2_isLast_0 rfl (lv_at hl 0 rfl) ?_
  refine wg (v := .ref (wad w 512 o)) X hT hW 8 0 512 vl8_o rfl rfl (by decide) rfl (by decide) in_X2 q165 rfl dX2_isLast_1 ?_
  refine lv_aload_n X.1 X.2.1 dX2_isLast_4 rfl (lv_at hl 0 rfl) ?_
  refine wg (v := .int (oI (gI σ 513 o))) X hT hW 8 1 513 vl8_o rfl rfl (by decide) rfl (by decide) in_X2 q168 rfl dX2_isLast_5 ?_
  refine lv_bipush (v := oI 17) X.1 X.2.1 dX2_isLast_8 (by decide) ?_
  refine w_iadd X dX2_isLast_10 ?_
  obtain ⟨bi, h⟩ := h
  refine w_bald (n := (rowL o)) X hT hW 512 vl512_o (by decide) rfl rfl bi dX2_isLast_11 ?_
  refine lv_iconst (v := oI 1) X.1 X.2.1 dX2_isLast_12 rfl ?_
  refine w_cut (pc2 := 21) (st2 := [.int (oI (if (gA σ 512 o (w32 ((gI σ 513 o) + 17))) = 1 then (1 : Int) else (0 : Int)))]) (fun hj => ?_) ?_
  · refine w_icmp_ne (tgt := 20) X ((hW.r.ab 512 o (w32 ((gI σ 513 o) + 17)) rfl).i) rZ_1.i dX2_isLast_13 (by decide) (fun hc => ?_) (fun hc => ?_)
    · refine lv_iconst (v := oI 0) X.1 X.2.1 dX2_isLast_20 rfl ?_
      rw [if_neg hc] at hj; exact hj
    · refine lv_iconst (v := oI 1) X.1 X.2.1 dX2_isLast_16 rfl ?_
      refine lv_goto (tgt := 21) X.1 X.2.1 dX2_isLast_17 (by decide) ?_
      rw [if_pos hc] at hj; exact hj
  exact wret_Z X hr hlk hW hS (ite_rZ rZ_1 rZ_0) h dX2_isLast_21
/-! Row.serial()J -/
set_option maxHeartbeats 4000000 in
set_option maxRecDepth 100000 in
theorem met_Row_serial (l : Launch) {w : Wp} (hV : Hvl w) (o : Int) (Q : Int → St → Prop) (σ : St) (ho : 0 ≤ o ∧ o < 8) (h : wp_Row_serial (wc w) (wtv w) o Q σ) : Met l yX2_serial (ws_ yX2_serial cX2_serial 1 (some .long)) rm_Row_serial (PcW w σ [.ref (wad w 8 o)]) (QcJ w Q) 0 0 (wA w) := by
  refine Met.ofW (cc := cX2_serial) (maxL := 1) (ret := (some .long)) (by decide) rfl ?_
  intro p e st m args below meth c s₁ B hml hv
  obtain ⟨hargs, hW, hT⟩ := hv
  have X : CallFix p m c cX2_serial 1 st _ lw_all RX2 := ⟨B.exec, B.bytes, hml, findClass_of_methodNamed B.named, fun w h => atoms_spec (ws := ws_ yX2_serial cX2_serial 1 (some .long)) B.pre w (List.mem_cons_of_mem _ h)⟩
  have hr := B.returns
  have hlk := B.notSynchronized
  have hS : va_S (wA w) st.heap st.heap [] := va_S.rf
  have vl512_o : vl w 512 o := hV.hv 512 rfl ⟨by omega, by show _ < (8 : Int); omega⟩
  have vl8_o : vl w 8 o := hV.hv 8 rfl ⟨by omega, by show _ < (8 : Int); omega⟩
  have hl := lv_entry ([.ref (wad w 8 o)]) (n := 1) (Nat.le_of_ble_eq_true rfl)
  have hfr := lg_entry_eq m ([.ref (wad w 8 o)]) 1
  rw [← hargs] at hfr
  rw [hfr]
  generalize (lg_sl ([.ref (wad w 8 o)]) ++ List.replicate (1 - (lg_sl ([.ref (wad w 8 o)])).length) Slot.unset).toArray = ls at hl ⊢
  have hl : lv_has ls 1 [(0, .ref (wad w 8 o))] := hl
  unfold wp_Row_serial at h
  refine lv_aload_n X.1 X.2.1 dX2_serial_0 rfl (lv_at hl 0 rfl) ?_
  refine wg (v := .ref (wad w 512 o)) X hT hW 8 0 512 vl8_o rfl rfl (by decide) rfl (by decide) in_X2 q165 rfl dX2_serial_1 ?_
  refine lv_aload_n X.1 X.2.1 dX2_serial_4 rfl (lv_at hl 0 rfl) ?_
  refine wg (v := .int (oI (gI σ 513 o))) X hT hW 8 1 513 vl8_o rfl rfl (by decide) rfl (by decide) in_X2 q168 rfl dX2_serial_5 ?_
  refine lv_bipush (v := oI 8) X.1 X.2.1 dX2_serial_8 (by decide) ?_
  refine w_iadd X dX2_serial_10 ?_
  refine wr_J (rSN (As := [.ref (wad w 512 o), .int (oI (w32 ((gI σ 513 o) + 8)))]) (rest := []) X hT hW hS (met_House_getLong l (w := w) 512 o (w32 ((gI σ 513 o) + 8)) _ σ vl512_o (by decide) rfl (w32_r _) h) ⟨va_cnB 2 X.2.2.2.2 (lw_meth q1224) rfl rfl rfl (hT.2.1 _ (List.mem_of_getElem? (i := 15) rfl)) (X.2.2.2.2 _ q131) (by decide +kernel) ⟨Nat.le_of_ble_eq_true rfl, Nat.le_of_ble_eq_true rfl⟩, X.2.2.2.2 _ q1223, trivial⟩ rfl hl.1 rfl (by first | exact Nat.le_of_ble_eq_true rfl | simp [catK, catI, catR, catL]) dX2_serial_11 ⟨Nat.le_refl _, Nat.le_refl _⟩) hS (fun r_3 σ_4 H locs rr_3 rkσ_4 h hWσ_4 hS => ?_)
  have h := h rr_3 rkσ_4
  exact wret_J X hr hlk hWσ_4 hS rr_3 h dX2_serial_14
