/-! Writer.open(I)V -/
set_option maxHeartbeats 4000000 in
set_option maxRecDepth 100000 in
theorem met_Writer_open (l : Launch) {w : Wp} (hV : Hvl w) (o : Int) (x1 : Int) (Q : St → Prop) (σ : St) (ho : 0 ≤ o ∧ o < 6) (rx1 : rI x1) (h : wp_Writer_open (wc w) (wtv w) o x1 Q σ) : Met l yX10_open (ws_ yX10_open cX10_open 2 none) rm_Writer_open (PcW w σ [.ref (wad w 7 o), .int (oI x1)]) (QcV w Q) 0 0 (wA w) := by
  refine Met.ofW (cc := cX10_open) (maxL := 2) (ret := none) (by decide) rfl ?_
  intro p e st m args below meth c s₁ B hml hv
  obtain ⟨hargs, hW, hT⟩ := hv
  have X : CallFix p m c cX10_open 2 st _ lw_all RX10 := ⟨B.exec, B.bytes, hml, findClass_of_methodNamed B.named, fun w h => atoms_spec (ws := ws_ yX10_open cX10_open 2 none) B.pre w (List.mem_cons_of_mem _ h)⟩
  have hr := B.returns
  have hlk := B.notSynchronized
  have hS : va_S (wA w) st.heap st.heap [] := va_S.rf
  have vl7_o : vl w 7 o := hV.hv 7 rfl ⟨by omega, by show _ < (6 : Int); omega⟩
  have hl := lv_entry ([.ref (wad w 7 o), .int (oI x1)]) (n := 2) (Nat.le_of_ble_eq_true rfl)
  have hfr := lg_entry_eq m ([.ref (wad w 7 o), .int (oI x1)]) 2
  rw [← hargs] at hfr
  rw [hfr]
  generalize (lg_sl ([.ref (wad w 7 o), .int (oI x1)]) ++ List.replicate (2 - (lg_sl ([.ref (wad w 7 o), .int (oI x1)])).length) Slot.unset).toArray = ls at hl ⊢
  have hl : lv_has ls 2 [(0, .ref (wad w 7 o)), (1, .int (oI x1))] := hl
  unfold wp_Writer_open at h
  refine lv_aload_n X.1 X.2.1 dX10_open_0 rfl (lv_at hl 0 rfl) ?_
  refine lv_iload_n X.1 X.2.1 dX10_open_1 rfl (lv_at hl 1 rfl) ?_
  refine wput (z := x1) X hT hW hS 7 3 451 vl7_o rfl rfl (by decide) rfl (by decide) in_X10 tyX10 tyX10_ok nmX10 q508 rfl rfl rx1 (fv0 w rfl) rfl rfl dX10_open_2 (fun H locs hN hS => ?_)
  obtain ⟨σ_3, eσ_3⟩ : ∃ x, x = sI σ 451 o x1 := ⟨_, rfl⟩
  have hWσ_3 : Wo w σ_3 H := eσ_3 ▸ hN
  have h := h σ_3 eσ_3
  clear hN
  refine lv_aload_n X.1 X.2.1 dX10_open_5 rfl (lv_at hl 0 rfl) ?_
  refine lv_iconst (v := oI 0) X.1 X.2.1 dX10_open_6 rfl ?_
  refine wput (z := 0) X hT hWσ_3 hS 7 4 452 vl7_o rfl rfl (by decide) rfl (by decide) in_X10 tyX10 tyX10_ok nmX10 q510 rfl rfl rZ_0.i (fv0 w rfl) rfl rfl dX10_open_7 (fun H locs hN hS => ?_)
  obtain ⟨σ_4, eσ_4⟩ : ∃ x, x = sI σ_3 452 o 0 := ⟨_, rfl⟩
  have hWσ_4 : Wo w σ_4 H := eσ_4 ▸ hN
  have h := h σ_4 eσ_4
  clear hN
  exact wret_V X hr hlk hWσ_4 hS h dX10_open_10
/-! Blocks.endMove()V -/
set_option maxHeartbeats 4000000 in
set_option maxRecDepth 100000 in
theorem met_Blocks_endMove (l : Launch) {w : Wp} (hV : Hvl w) (o : Int) (Q : St → Prop) (σ : St) (ho : 0 ≤ o ∧ o < 2) (h : wp_Blocks_endMove (wc w) (wtv w) o Q σ) : Met l yX6_endMove (ws_ yX6_endMove cX6_endMove 1 none) rm_Blocks_endMove (PcW w σ [.ref (wad w 4 o)]) (QcV w Q) 0 0 (wA w) := by
  refine Met.ofW (cc := cX6_endMove) (maxL := 1) (ret := none) (by decide) rfl ?_
  intro p e st m args below meth c s₁ B hml hv
  obtain ⟨hargs, hW, hT⟩ := hv
  have X : CallFix p m c cX6_endMove 1 st _ lw_all RX6 := ⟨B.exec, B.bytes, hml, findClass_of_methodNamed B.named, fun w h => atoms_spec (ws := ws_ yX6_endMove cX6_endMove 1 none) B.pre w (List.mem_cons_of_mem _ h)⟩
  have hr := B.returns
  have hlk := B.notSynchronized
  have hS : va_S (wA w) st.heap st.heap [] := va_S.rf
  have vl258_o : vl w 258 o := hV.hv 258 rfl ⟨by omega, by show _ < (2 : Int); omega⟩
  have vl259_o : vl w 259 o := hV.hv 259 rfl ⟨by omega, by show _ < (2 : Int); omega⟩
  have vl4_o : vl w 4 o := hV.hv 4 rfl ⟨by omega, by show _ < (2 : Int); omega⟩
  have hl := lv_entry ([.ref (wad w 4 o)]) (n := 1) (Nat.le_of_ble_eq_true rfl)
  have hfr := lg_entry_eq m ([.ref (wad w 4 o)]) 1
  rw [← hargs] at hfr
  rw [hfr]
  generalize (lg_sl ([.ref (wad w 4 o)]) ++ List.replicate (1 - (lg_sl ([.ref (wad w 4 o)])).length) Slot.unset).toArray = ls at hl ⊢
  have hl : lv_has ls 1 [(0, .ref (wad w 4 o))] := hl
  unfold wp_Blocks_endMove at h
  refine lv_aload_n X.1 X.2.1 dX6_endMove_0 rfl (lv_at hl 0 rfl) ?_
  refine wg (v := .ref (wad w 259 o)) X hT hW 4 3 259 vl4_o rfl rfl (by decide) rfl (by decide) in_X6 q274 rfl dX6_endMove_1 ?_
  refine lv_aload_n X.1 X.2.1 dX6_endMove_4 rfl (lv_at hl 0 rfl) ?_
  refine wg (v := .ref (wad w 258 o)) X hT hW 4 2 258 vl4_o rfl rfl (by decide) rfl (by decide) in_X6 q273 rfl dX6_endMove_5 ?_
  refine lv_aload_n X.1 X.2.1 dX6_endMove_8 rfl (lv_at hl 0 rfl) ?_
  refine wg (v := .int (oI (gI σ 265 o))) X hT hW 4 9 265 vl4_o rfl rfl (by decide) rfl (by decide) in_X6 q280 rfl dX6_endMove_9 ?_
  obtain ⟨bi, h⟩ := h
  refine w_iald (n := ((wc w).1 - 6)) X hT hW 258 vl258_o (by decide) rfl rfl bi dX6_endMove_12 ?_
  refine lv_bipush (v := oI (-2)) X.1 X.2.1 dX6_endMove_13 (by decide) ?_
  obtain ⟨bi, h⟩ := h
  refine w_iast (n := (wc w).1) X hT hW hS 259 vl259_o (by decide) rfl rfl bi ((rB_lit (-2) (by decide)).i) dX6_endMove_15 (fun H locs hN hS => ?_)
  obtain ⟨σ_5, eσ_5⟩ : ∃ x, x = sA σ 259 o (gA σ 258 o (gI σ 265 o)) (-2) := ⟨_, rfl⟩
  have hWσ_5 : Wo w σ_5 H := eσ_5 ▸ hN
  have h := h σ_5 eσ_5
  clear hN
  refine lv_aload_n X.1 X.2.1 dX6_endMove_16 rfl (lv_at hl 0 rfl) ?_
  refine wg (v := .ref (wad w 259 o)) X hT hWσ_5 4 3 259 vl4_o rfl rfl (by decide) rfl (by decide) in_X6 q274 rfl dX6_endMove_17 ?_
  refine lv_aload_n X.1 X.2.1 dX6_endMove_20 rfl (lv_at hl 0 rfl) ?_
  refine wg (v := .int (oI (gI σ_5 266 o))) X hT hWσ_5 4 10 266 vl4_o rfl rfl (by decide) rfl (by decide) in_X6 q281 rfl dX6_endMove_21 ?_
  refine lv_aload_n X.1 X.2.1 dX6_endMove_24 rfl (lv_at hl 0 rfl) ?_
  refine wg (v := .int (oI (gI σ_5 265 o))) X hT hWσ_5 4 9 265 vl4_o rfl rfl (by decide) rfl (by decide) in_X6 q280 rfl dX6_endMove_25 ?_
  obtain ⟨bi, h⟩ := h
  refine w_iast (n := (wc w).1) X hT hWσ_5 hS 259 vl259_o (by decide) rfl rfl bi (hWσ_5.r.i 265 o rfl) dX6_endMove_28 (fun H locs hN hS => ?_)
  obtain ⟨σ_6, eσ_6⟩ : ∃ x, x = sA σ_5 259 o (gI σ_5 266 o) (gI σ_5 265 o) := ⟨_, rfl⟩
  have hWσ_6 : Wo w σ_6 H := eσ_6 ▸ hN
  have h := h σ_6 eσ_6
  clear hN
  refine lv_aload_n X.1 X.2.1 dX6_endMove_29 rfl (lv_at hl 0 rfl) ?_
  refine wg (v := .ref (wad w 258 o)) X hT hWσ_6 4 2 258 vl4_o rfl rfl (by decide) rfl (by decide) in_X6 q273 rfl dX6_endMove_30 ?_
  refine lv_aload_n X.1 X.2.1 dX6_endMove_33 rfl (lv_at hl 0 rfl) ?_
  refine wg (v := .int (oI (gI σ_6 265 o))) X hT hWσ_6 4 9 265 vl4_o rfl rfl (by decide) rfl (by decide) in_X6 q280 rfl dX6_endMove_34 ?_
  refine lv_aload_n X.1 X.2.1 dX6_endMove_37 rfl (lv_at hl 0 rfl) ?_
  refine wg (v := .int (oI (gI σ_6 266 o))) X hT hWσ_6 4 10 266 vl4_o rfl rfl (by decide) rfl (by decide) in_X6 q281 rfl dX6_endMove_38 ?_
  obtain ⟨bi, h⟩ := h
  refine w_iast (n := ((wc w).1 - 6)) X hT hWσ_6 hS 258 vl258_o (by decide) rfl rfl bi (hWσ_6.r.i 266 o rfl) dX6_endMove_41 (fun H locs hN hS => ?_)
  obtain ⟨σ_7, eσ_7⟩ : ∃ x, x = sA σ_6 258 o (gI σ_6 265 o) (gI σ_6 266 o) := ⟨_, rfl⟩
  have hWσ_7 : Wo w σ_7 H := eσ_7 ▸ hN
  have h := h σ_7 eσ_7
  clear hN
  refine lv_aload_n X.1 X.2.1 dX6_endMove_42 rfl (lv_at hl 0 rfl) ?_
  refine lv_iconst (v := oI (-1)) X.1 X.2.1 dX6_endMove_43 rfl ?_
  refine wput (z := (-1)) X hT hWσ_7 hS 4 9 265 vl4_o rfl rfl (by decide) rfl (by decide) in_X6 tyX6 tyX6_ok nmX6 q280 rfl rfl ((rB_lit (-1) (by decide)).i) (fv0 w rfl) rfl rfl dX6_endMove_44 (fun H locs hN hS => ?_)
  obtain ⟨σ_8, eσ_8⟩ : ∃ x, x = sI σ_7 265 o (-1) := ⟨_, rfl⟩
  have hWσ_8 : Wo w σ_8 H := eσ_8 ▸ hN
  have h := h σ_8 eσ_8
  clear hN
  exact wret_V X hr hlk hWσ_8 hS h dX6_endMove_47
/-! Blocks.stopMove(I)V -/
set_option maxHeartbeats 4000000 in
set_option maxRecDepth 100000 in
theorem met_Blocks_stopMove (l : Launch) {w : Wp} (hV : Hvl w) (o : Int) (x1 : Int) (Q : St → Prop) (σ : St) (ho : 0 ≤ o ∧ o < 2) (rx1 : rI x1) (h : wp_Blocks_stopMove (wc w) (wtv w) o x1 Q σ) : Met l yX6_stopMove (ws_ yX6_stopMove cX6_stopMove 2 none) rm_Blocks_stopMove (PcW w σ [.ref (wad w 4 o), .int (oI x1)]) (QcV w Q) 0 0 (wA w) := by
  refine Met.ofW (cc := cX6_stopMove) (maxL := 2) (ret := none) (by decide) rfl ?_
  intro p e st m args below meth c s₁ B hml hv
  obtain ⟨hargs, hW, hT⟩ := hv
  have X : CallFix p m c cX6_stopMove 2 st _ lw_all RX6 := ⟨B.exec, B.bytes, hml, findClass_of_methodNamed B.named, fun w h => atoms_spec (ws := ws_ yX6_stopMove cX6_stopMove 2 none) B.pre w (List.mem_cons_of_mem _ h)⟩
  have hr := B.returns
  have hlk := B.notSynchronized
  have hS : va_S (wA w) st.heap st.heap [] := va_S.rf
  have vl259_o : vl w 259 o := hV.hv 259 rfl ⟨by omega, by show _ < (2 : Int); omega⟩
  have vl4_o : vl w 4 o := hV.hv 4 rfl ⟨by omega, by show _ < (2 : Int); omega⟩
  have hl := lv_entry ([.ref (wad w 4 o), .int (oI x1)]) (n := 2) (Nat.le_of_ble_eq_true rfl)
  have hfr := lg_entry_eq m ([.ref (wad w 4 o), .int (oI x1)]) 2
  rw [← hargs] at hfr
  rw [hfr]
  generalize (lg_sl ([.ref (wad w 4 o), .int (oI x1)]) ++ List.replicate (2 - (lg_sl ([.ref (wad w 4 o), .int (oI x1)])).length) Slot.unset).toArray = ls at hl ⊢
  have hl : lv_has ls 2 [(0, .ref (wad w 4 o)), (1, .int (oI x1))] := hl
  unfold wp_Blocks_stopMove at h
  refine lv_aload_n X.1 X.2.1 dX6_stopMove_0 rfl (lv_at hl 0 rfl) ?_
  refine wg (v := .int (oI (gI σ 265 o))) X hT hW 4 9 265 vl4_o rfl rfl (by decide) rfl (by decide) in_X6 q280 rfl dX6_stopMove_1 ?_
  refine lv_iload_n X.1 X.2.1 dX6_stopMove_4 rfl (lv_at hl 1 rfl) ?_
  refine w_icmp_ne (tgt := 16) X (hW.r.i 265 o rfl) rx1 dX6_stopMove_5 (by decide) (fun hc => ?_) (fun hc => ?_)
  · have h := h.1 hc
    exact wret_V X hr hlk hW hS h dX6_stopMove_16
  · have h := h.2 hc
    refine lv_aload_n X.1 X.2.1 dX6_stopMove_8 rfl (lv_at hl 0 rfl) ?_
    refine wg (v := .int (oI (gI σ 265 o))) X hT hW 4 9 265 vl4_o rfl rfl (by decide) rfl (by decide) in_X6 q280 rfl dX6_stopMove_9 ?_
    refine lv_iconst (v := oI (-1)) X.1 X.2.1 dX6_stopMove_12 rfl ?_
    refine w_icmp_ne (tgt := 17) X (hW.r.i 265 o rfl) ((rB_lit (-1) (by decide)).i) dX6_stopMove_13 (by decide) (fun hc => ?_) (fun hc => ?_)
    · have h := h.1 hc
      refine lv_aload_n X.1 X.2.1 dX6_stopMove_17 rfl (lv_at hl 0 rfl) ?_
      refine wg (v := .int (oI (gI σ 267 o))) X hT hW 4 11 267 vl4_o rfl rfl (by decide) rfl (by decide) in_X6 q282 rfl dX6_stopMove_18 ?_
      refine lv_aload_n X.1 X.2.1 dX6_stopMove_21 rfl (lv_at hl 0 rfl) ?_
      refine wg (v := .int (oI (gI σ 268 o))) X hT hW 4 12 268 vl4_o rfl rfl (by decide) rfl (by decide) in_X6 q283 rfl dX6_stopMove_22 ?_
      refine w_icmp_ne (tgt := 33) X (hW.r.i 267 o rfl) (hW.r.i 268 o rfl) dX6_stopMove_25 (by decide) (fun hc => ?_) (fun hc => ?_)
      · have h := h.1 hc
        refine lv_aload_n X.1 X.2.1 dX6_stopMove_33 rfl (lv_at hl 0 rfl) ?_
        refine wg (v := .ref (wad w 259 o)) X hT hW 4 3 259 vl4_o rfl rfl (by decide) rfl (by decide) in_X6 q274 rfl dX6_stopMove_34 ?_
        refine lv_aload_n X.1 X.2.1 dX6_stopMove_37 rfl (lv_at hl 0 rfl) ?_
        refine wg (v := .int (oI (gI σ 266 o))) X hT hW 4 10 266 vl4_o rfl rfl (by decide) rfl (by decide) in_X6 q281 rfl dX6_stopMove_38 ?_
        refine lv_bipush (v := oI (-2)) X.1 X.2.1 dX6_stopMove_41 (by decide) ?_
        obtain ⟨bi, h⟩ := h
        refine w_iast (n := (wc w).1) X hT hW hS 259 vl259_o (by decide) rfl rfl bi ((rB_lit (-2) (by decide)).i) dX6_stopMove_43 (fun H locs hN hS => ?_)
        obtain ⟨σ_5, eσ_5⟩ : ∃ x, x = sA σ 259 o (gI σ 266 o) (-2) := ⟨_, rfl⟩
        have hWσ_5 : Wo w σ_5 H := eσ_5 ▸ hN
        have h := h σ_5 eσ_5
        clear hN
        refine lv_aload_n X.1 X.2.1 dX6_stopMove_44 rfl (lv_at hl 0 rfl) ?_
        refine lv_iconst (v := oI (-1)) X.1 X.2.1 dX6_stopMove_45 rfl ?_
        refine wput (z := (-1)) X hT hWσ_5 hS 4 9 265 vl4_o rfl rfl (by decide) rfl (by decide) in_X6 tyX6 tyX6_ok nmX6 q280 rfl rfl ((rB_lit (-1) (by decide)).i) (fv0 w rfl) rfl rfl dX6_stopMove_46 (fun H locs hN hS => ?_)
        obtain ⟨σ_6, eσ_6⟩ : ∃ x, x = sI σ_5 265 o (-1) := ⟨_, rfl⟩
        have hWσ_6 : Wo w σ_6 H := eσ_6 ▸ hN
        have h := h σ_6 eσ_6
        clear hN
        exact wret_V X hr hlk hWσ_6 hS h dX6_stopMove_49
      · have h := h.2 hc
        refine lv_aload_n X.1 X.2.1 dX6_stopMove_28 rfl (lv_at hl 0 rfl) ?_
        refine wr_V (rV (As := []) (rest := []) X hT hW hS (met_Blocks_endMove l (w := w) hV o _ σ (by omega) h) (cwV 0 X.2.2.2.2 (lw_V q783 q785 qs8 q137 q786) rfl rfl rfl (by decide +kernel) ⟨Nat.le_of_ble_eq_true rfl, Nat.le_of_ble_eq_true rfl⟩) vl4_o (by decide) rfl rfl hl.1 rfl (by first | exact Nat.le_of_ble_eq_true rfl | simp [catK, catI, catR, catL]) dX6_stopMove_29 ⟨Nat.le_refl _, Nat.le_refl _⟩) hS (fun σ_8 H locs rkσ_8 h hWσ_8 hS => ?_)
        have h := h rkσ_8
        exact wret_V X hr hlk hWσ_8 hS h dX6_stopMove_32
    · have h := h.2 hc
      exact wret_V X hr hlk hW hS h dX6_stopMove_16
/-! Blocks.freeOne(Z)I -/
set_option maxHeartbeats 4000000 in
set_option maxRecDepth 100000 in
theorem wk_Blocks_freeOne_b67 {p : Program} {l : Launch} {e : Env} {st : State} {m : MethodId} {args : Array Value} {below : List Frame} {meth : Method} {c : Code} {w : Wp} {o : Int} {x1 : Int} {Q : Int → St → Prop} (X : CallFix p m c cX6_freeOne 4 st args lw_all RX6) (hr : meth.sig.returnType = (some .int)) (hlk : meth.locks = false) (hT : Tb w st) (hV : Hvl w) (ho : 0 ≤ o ∧ o < 2) (rx1 : rZ x1) (K69 : Int → Int → St → Prop) (hK69 : ∀ (y2 y3 : Int) (σ : St) (H : Heap) (locs : List Loc) (ls : Array Slot), rI y2 → rI y3 → lv_has ls 4 [(0, .ref (wad w 4 o)), (1, .int (oI x1)), (2, .int (oI y2)), (3, .int (oI y3))] → Wo w σ H → va_S (wA w) st.heap H locs → K69 y2 y3 σ → W p l e (headSpec (ws_ yX6_freeOne cX6_freeOne 4 (some .int)) rm_Blocks_freeOne).room st m args below meth c H locs 0 0 (MQ below (QcI w Q) args st 0 0 (wA w)) (F0 m 69 ls [])) : ∀ (y3 : Int) (σ : St) (H : Heap) (locs : List Loc) (ls : Array Slot), rI y3 → lv_has ls 4 [(0, .ref (wad w 4 o)), (1, .int (oI x1)), (3, .int (oI y3))] → Wo w σ H → va_S (wA w) st.heap H locs → wp_Blocks_freeOne_b67 (wc w) (wtv w) o x1 Q K69 y3 σ → W p l e (headSpec (ws_ yX6_freeOne cX6_freeOne 4 (some .int)) rm_Blocks_freeOne).room st m args below meth c H locs 0 0 (MQ below (QcI w Q) args st 0 0 (wA w)) (F0 m 67 ls []) := by

  intro y3 σ H locs ls ry3 hl hW hS h
  unfold wp_Blocks_freeOne_b67 at h
  refine lv_iload_n X.1 X.2.1 dX6_freeOne_67 rfl (lv_at hl 2 rfl) ?_
  refine lv_istore_n (i := 2) (lv' := [(2, .int (oI y3)), (0, .ref (wad w 4 o)), (1, .int (oI x1)), (3, .int (oI y3))]) X.1 X.2.1 dX6_freeOne_68 rfl hl (by decide) (by first | rfl | simp [catK, catI, catR, catL]) (fun ls hl => ?_)
  exact hK69 y3 y3 σ _ _ _ ry3 ry3 (lv_sub hl [1, 2, 0, 3] rfl) hW hS h
set_option maxHeartbeats 4000000 in
set_option maxRecDepth 100000 in
theorem wk_Blocks_freeOne_b69 {p : Program} {l : Launch} {e : Env} {st : State} {m : MethodId} {args : Array Value} {below : List Frame} {meth : Method} {c : Code} {w : Wp} {o : Int} {x1 : Int} {Q : Int → St → Prop} (X : CallFix p m c cX6_freeOne 4 st args lw_all RX6) (hr : meth.sig.returnType = (some .int)) (hlk : meth.locks = false) (hT : Tb w st) (hV : Hvl w) (ho : 0 ≤ o ∧ o < 2) (rx1 : rZ x1) (K4 : Int → Int → St → Prop) (hK4 : ∀ (y2 y3 : Int) (σ : St) (H : Heap) (locs : List Loc) (ls : Array Slot), rI y2 → rI y3 → lv_has ls 4 [(0, .ref (wad w 4 o)), (1, .int (oI x1)), (2, .int (oI y2)), (3, .int (oI y3))] → Wo w σ H → va_S (wA w) st.heap H locs → K4 y2 y3 σ → W p l e (headSpec (ws_ yX6_freeOne cX6_freeOne 4 (some .int)) rm_Blocks_freeOne).room st m args below meth c H locs 0 0 (MQ below (QcI w Q) args st 0 0 (wA w)) (F0 m 4 ls [])) : ∀ (y2 y3 : Int) (σ : St) (H : Heap) (locs : List Loc) (ls : Array Slot), rI y2 → rI y3 → lv_has ls 4 [(0, .ref (wad w 4 o)), (1, .int (oI x1)), (2, .int (oI y2)), (3, .int (oI y3))] → Wo w σ H → va_S (wA w) st.heap H locs → wp_Blocks_freeOne_b69 (wc w) (wtv w) o x1 Q K4 y2 y3 σ → W p l e (headSpec (ws_ yX6_freeOne cX6_freeOne 4 (some .int)) rm_Blocks_freeOne).room st m args below meth c H locs 0 0 (MQ below (QcI w Q) args st 0 0 (wA w)) (F0 m 69 ls []) := by

  intro y2 y3 σ H locs ls ry2 ry3 hl hW hS h
  unfold wp_Blocks_freeOne_b69 at h
  obtain ⟨y3_5, ey3_5⟩ : ∃ y : Int, y = w32 (y3 + 1) := ⟨_, rfl⟩
  have h := h y3_5 ey3_5
  have ry3_5 : rI y3_5 := by rw [ey3_5]; exact w32_r _
  refine lv_iinc (v := oI y3_5) (lv' := [(3, .int (oI y3_5)), (0, .ref (wad w 4 o)), (1, .int (oI x1)), (2, .int (oI y2))]) X.1 X.2.1 dX6_freeOne_69 hl (k := 3) rfl (by rw [ey3_5]; exact oI_add _ _) (by decide) (by first | rfl | simp [catK, catI, catR, catL]) (fun ls hl => ?_)
  refine lv_goto (tgt := 4) X.1 X.2.1 dX6_freeOne_72 (by decide) ?_
  exact hK4 y2 y3_5 σ _ _ _ ry2 ry3_5 (lv_sub hl [1, 2, 3, 0] rfl) hW hS h
set_option maxHeartbeats 4000000 in
set_option maxRecDepth 100000 in
theorem wk_Blocks_freeOne_L4B {p : Program} {l : Launch} {e : Env} {st : State} {m : MethodId} {args : Array Value} {below : List Frame} {meth : Method} {c : Code} {w : Wp} {o : Int} {x1 : Int} {Q : Int → St → Prop} (X : CallFix p m c cX6_freeOne 4 st args lw_all RX6) (hr : meth.sig.returnType = (some .int)) (hlk : meth.locks = false) (hT : Tb w st) (hV : Hvl w) (ho : 0 ≤ o ∧ o < 2) (rx1 : rZ x1) (K4 : Int → Int → St → Prop) (hK4 : ∀ (y2 y3 : Int) (σ : St) (H : Heap) (locs : List Loc) (ls : Array Slot), rI y2 → rI y3 → lv_has ls 4 [(0, .ref (wad w 4 o)), (1, .int (oI x1)), (2, .int (oI y2)), (3, .int (oI y3))] → Wo w σ H → va_S (wA w) st.heap H locs → K4 y2 y3 σ → W p l e (headSpec (ws_ yX6_freeOne cX6_freeOne 4 (some .int)) rm_Blocks_freeOne).room st m args below meth c H locs 0 0 (MQ below (QcI w Q) args st 0 0 (wA w)) (F0 m 4 ls [])) : ∀ (y2 y3 : Int) (σ : St) (H : Heap) (locs : List Loc) (ls : Array Slot), rI y2 → rI y3 → lv_has ls 4 [(0, .ref (wad w 4 o)), (1, .int (oI x1)), (2, .int (oI y2)), (3, .int (oI y3))] → Wo w σ H → va_S (wA w) st.heap H locs → wp_Blocks_freeOne_L4 (wc w) (wtv w) o x1 Q K4 y2 y3 σ → W p l e (headSpec (ws_ yX6_freeOne cX6_freeOne 4 (some .int)) rm_Blocks_freeOne).room st m args below meth c H locs 0 0 (MQ below (QcI w Q) args st 0 0 (wA w)) (F0 m 4 ls []) := by
  have vl2_0 : vl w 2 0 := hV.hv 2 rfl ⟨by omega, by show _ < (1 : Int); omega⟩
  have vl259_o : vl w 259 o := hV.hv 259 rfl ⟨by omega, by show _ < (2 : Int); omega⟩
  have vl260_o : vl w 260 o := hV.hv 260 rfl ⟨by omega, by show _ < (2 : Int); omega⟩
  have vl4_o : vl w 4 o := hV.hv 4 rfl ⟨by omega, by show _ < (2 : Int); omega⟩
  intro y2 y3 σ H locs ls ry2 ry3 hl hW hS h
  unfold wp_Blocks_freeOne_L4 at h
  refine lv_iload_n X.1 X.2.1 dX6_freeOne_4 rfl (lv_at hl 3 rfl) ?_
  refine lv_aload_n X.1 X.2.1 dX6_freeOne_5 rfl (lv_at hl 0 rfl) ?_
  refine wg (v := .ref (wad w 2 0)) X hT hW 4 0 256 vl4_o rfl rfl (by decide) rfl (by decide) in_X6 q269 rfl dX6_freeOne_6 ?_
  refine wg (v := .int (oI (wc w).1)) X hT hW 2 0 128 vl2_0 rfl rfl (by decide) rfl (by decide) in_X4 q221 rfl dX6_freeOne_9 ?_
  refine w_icmp_ge (tgt := 75) X ry3 (cin_r hT.c 128) dX6_freeOne_12 (by decide) (fun hc => ?_) (fun hc => ?_)
  · have h := h.1 hc
    refine lv_iload_n X.1 X.2.1 dX6_freeOne_75 rfl (lv_at hl 2 rfl) ?_
    exact wret_I X hr hlk hW hS ry2 h dX6_freeOne_76
  · have h := h.2 hc
    refine lv_aload_n X.1 X.2.1 dX6_freeOne_15 rfl (lv_at hl 0 rfl) ?_
    refine wg (v := .ref (wad w 259 o)) X hT hW 4 3 259 vl4_o rfl rfl (by decide) rfl (by decide) in_X6 q274 rfl dX6_freeOne_16 ?_
    refine lv_iload_n X.1 X.2.1 dX6_freeOne_19 rfl (lv_at hl 3 rfl) ?_
    obtain ⟨bi, h⟩ := h
    refine w_iald (n := (wc w).1) X hT hW 259 vl259_o (by decide) rfl rfl bi dX6_freeOne_20 ?_
    refine lv_iconst (v := oI (-1)) X.1 X.2.1 dX6_freeOne_21 rfl ?_
    refine w_icmp_ne (tgt := 69) X (hW.r.ai 259 o y3 rfl) ((rB_lit (-1) (by decide)).i) dX6_freeOne_22 (by decide) (fun hc => ?_) (fun hc => ?_)
    · have h := h.1 hc
      exact wk_Blocks_freeOne_b69 X hr hlk hT hV ho rx1 K4 hK4 y2 y3 σ _ _ _ ry2 ry3 (lv_sub hl [0, 1, 2, 3] rfl) hW hS h
    · have h := h.2 hc
      refine lv_iload_n X.1 X.2.1 dX6_freeOne_25 rfl (lv_at hl 2 rfl) ?_
      refine lv_iconst (v := oI (-1)) X.1 X.2.1 dX6_freeOne_26 rfl ?_
      refine w_icmp_eq (tgt := 67) X ry2 ((rB_lit (-1) (by decide)).i) dX6_freeOne_27 (by decide) (fun hc => ?_) (fun hc => ?_)
      · have h := h.1 hc
        exact wk_Blocks_freeOne_b67 X hr hlk hT hV ho rx1 (wp_Blocks_freeOne_b69 (wc w) (wtv w) o x1 Q K4) (wk_Blocks_freeOne_b69 X hr hlk hT hV ho rx1 K4 hK4) y3 σ _ _ _ ry3 (lv_sub hl [0, 1, 3] rfl) hW hS h
      · have h := h.2 hc
        refine lv_iload_n X.1 X.2.1 dX6_freeOne_30 rfl (lv_at hl 1 rfl) ?_
        refine w_if_eq (tgt := 52) X rx1.i dX6_freeOne_31 (by decide) (fun hc => ?_) (fun hc => ?_)
        · have h := h.1 hc
          refine lv_aload_n X.1 X.2.1 dX6_freeOne_52 rfl (lv_at hl 0 rfl) ?_
          refine wg (v := .ref (wad w 260 o)) X hT hW 4 4 260 vl4_o rfl rfl (by decide) rfl (by decide) in_X6 q275 rfl dX6_freeOne_53 ?_
          refine lv_iload_n X.1 X.2.1 dX6_freeOne_56 rfl (lv_at hl 3 rfl) ?_
          obtain ⟨bi, h⟩ := h
          refine w_iald (n := (wc w).1) X hT hW 260 vl260_o (by decide) rfl rfl bi dX6_freeOne_57 ?_
          refine lv_aload_n X.1 X.2.1 dX6_freeOne_58 rfl (lv_at hl 0 rfl) ?_
          refine wg (v := .ref (wad w 260 o)) X hT hW 4 4 260 vl4_o rfl rfl (by decide) rfl (by decide) in_X6 q275 rfl dX6_freeOne_59 ?_
          refine lv_iload_n X.1 X.2.1 dX6_freeOne_62 rfl (lv_at hl 2 rfl) ?_
          obtain ⟨bi, h⟩ := h
          refine w_iald (n := (wc w).1) X hT hW 260 vl260_o (by decide) rfl rfl bi dX6_freeOne_63 ?_
          refine w_icmp_ge (tgt := 69) X (hW.r.ai 260 o y3 rfl) (hW.r.ai 260 o y2 rfl) dX6_freeOne_64 (by decide) (fun hc => ?_) (fun hc => ?_)
          · have h := h.1 hc
            exact wk_Blocks_freeOne_b69 X hr hlk hT hV ho rx1 K4 hK4 y2 y3 σ _ _ _ ry2 ry3 (lv_sub hl [0, 1, 2, 3] rfl) hW hS h
          · have h := h.2 hc
            exact wk_Blocks_freeOne_b67 X hr hlk hT hV ho rx1 (wp_Blocks_freeOne_b69 (wc w) (wtv w) o x1 Q K4) (wk_Blocks_freeOne_b69 X hr hlk hT hV ho rx1 K4 hK4) y3 σ _ _ _ ry3 (lv_sub hl [0, 1, 3] rfl) hW hS h
        · have h := h.2 hc
          refine lv_aload_n X.1 X.2.1 dX6_freeOne_34 rfl (lv_at hl 0 rfl) ?_
          refine wg (v := .ref (wad w 260 o)) X hT hW 4 4 260 vl4_o rfl rfl (by decide) rfl (by decide) in_X6 q275 rfl dX6_freeOne_35 ?_
          refine lv_iload_n X.1 X.2.1 dX6_freeOne_38 rfl (lv_at hl 3 rfl) ?_
          obtain ⟨bi, h⟩ := h
          refine w_iald (n := (wc w).1) X hT hW 260 vl260_o (by decide) rfl rfl bi dX6_freeOne_39 ?_
          refine lv_aload_n X.1 X.2.1 dX6_freeOne_40 rfl (lv_at hl 0 rfl) ?_
          refine wg (v := .ref (wad w 260 o)) X hT hW 4 4 260 vl4_o rfl rfl (by decide) rfl (by decide) in_X6 q275 rfl dX6_freeOne_41 ?_
          refine lv_iload_n X.1 X.2.1 dX6_freeOne_44 rfl (lv_at hl 2 rfl) ?_
          obtain ⟨bi, h⟩ := h
          refine w_iald (n := (wc w).1) X hT hW 260 vl260_o (by decide) rfl rfl bi dX6_freeOne_45 ?_
          refine w_icmp_le (tgt := 69) X (hW.r.ai 260 o y3 rfl) (hW.r.ai 260 o y2 rfl) dX6_freeOne_46 (by decide) (fun hc => ?_) (fun hc => ?_)
          · have h := h.1 hc
            exact wk_Blocks_freeOne_b69 X hr hlk hT hV ho rx1 K4 hK4 y2 y3 σ _ _ _ ry2 ry3 (lv_sub hl [0, 1, 2, 3] rfl) hW hS h
          · have h := h.2 hc
            refine lv_goto (tgt := 67) X.1 X.2.1 dX6_freeOne_49 (by decide) ?_
            exact wk_Blocks_freeOne_b67 X hr hlk hT hV ho rx1 (wp_Blocks_freeOne_b69 (wc w) (wtv w) o x1 Q K4) (wk_Blocks_freeOne_b69 X hr hlk hT hV ho rx1 K4 hK4) y3 σ _ _ _ ry3 (lv_sub hl [0, 1, 3] rfl) hW hS h
theorem wk_Blocks_freeOne_L4 {p : Program} {l : Launch} {e : Env} {st : State} {m : MethodId} {args : Array Value} {below : List Frame} {meth : Method} {c : Code} {w : Wp} {o : Int} {x1 : Int} {Q : Int → St → Prop} (X : CallFix p m c cX6_freeOne 4 st args lw_all RX6) (hr : meth.sig.returnType = (some .int)) (hlk : meth.locks = false) (hT : Tb w st) (hV : Hvl w) (ho : 0 ≤ o ∧ o < 2) (rx1 : rZ x1) : ∀ (y2 y3 : Int) (σ : St) (H : Heap) (locs : List Loc) (ls : Array Slot), rI y2 → rI y3 → lv_has ls 4 [(0, .ref (wad w 4 o)), (1, .int (oI x1)), (2, .int (oI y2)), (3, .int (oI y3))] → Wo w σ H → va_S (wA w) st.heap H locs → lQ2 (wp_Blocks_freeOne_L4 (wc w) (wtv w) o x1 Q) y2 y3 σ → W p l e (headSpec (ws_ yX6_freeOne cX6_freeOne 4 (some .int)) rm_Blocks_freeOne).room st m args below meth c H locs 0 0 (MQ below (QcI w Q) args st 0 0 (wA w)) (F0 m 4 ls []) := by
  intro y2 y3 σ H locs ls ry2 ry3 hl hW hS h
  obtain ⟨fu, h⟩ := h
  induction fu generalizing y2 y3 σ H locs ls with
  | zero => exact h.elim
  | succ fu ih =>
    exact wk_Blocks_freeOne_L4B X hr hlk hT hV ho rx1 (lq2 (wp_Blocks_freeOne_L4 (wc w) (wtv w) o x1 Q) fu) (fun y2 y3 σ H locs ls ry2 ry3 hl hW hS h => ih y2 y3 σ H locs ls ry2 ry3 hl hW hS h) y2 y3 σ H locs ls ry2 ry3 hl hW hS h
set_option maxHeartbeats 4000000 in
set_option maxRecDepth 100000 in
theorem met_Blocks_freeOne (l : Launch) {w : Wp} (hV : Hvl w) (o : Int) (x1 : Int) (Q : Int → St → Prop) (σ : St) (ho : 0 ≤ o ∧ o < 2) (rx1 : rZ x1) (h : wp_Blocks_freeOne (wc w) (wtv w) o x1 Q σ) : Met l yX6_freeOne (ws_ yX6_freeOne cX6_freeOne 4 (some .int)) rm_Blocks_freeOne (PcW w σ [.ref (wad w 4 o), .int (oI x1)]) (QcI w Q) 0 0 (wA w) := by
  refine Met.ofW (cc := cX6_freeOne) (maxL := 4) (ret := (some .int)) (by decide) rfl ?_
  intro p e st m args below meth c s₁ B hml hv
  obtain ⟨hargs, hW, hT⟩ := hv
  have X : CallFix p m c cX6_freeOne 4 st _ lw_all RX6 := ⟨B.exec, B.bytes, hml, findClass_of_methodNamed B.named, fun w h => atoms_spec (ws := ws_ yX6_freeOne cX6_freeOne 4 (some .int)) B.pre w (List.mem_cons_of_mem _ h)⟩
  have hr := B.returns
  have hlk := B.notSynchronized
  have hS : va_S (wA w) st.heap st.heap [] := va_S.rf
  have vl4_o : vl w 4 o := hV.hv 4 rfl ⟨by omega, by show _ < (2 : Int); omega⟩
  have hl := lv_entry ([.ref (wad w 4 o), .int (oI x1)]) (n := 4) (Nat.le_of_ble_eq_true rfl)
  have hfr := lg_entry_eq m ([.ref (wad w 4 o), .int (oI x1)]) 4
  rw [← hargs] at hfr
  rw [hfr]
  generalize (lg_sl ([.ref (wad w 4 o), .int (oI x1)]) ++ List.replicate (4 - (lg_sl ([.ref (wad w 4 o), .int (oI x1)])).length) Slot.unset).toArray = ls at hl ⊢
  have hl : lv_has ls 4 [(0, .ref (wad w 4 o)), (1, .int (oI x1))] := hl
  unfold wp_Blocks_freeOne at h
  refine lv_iconst (v := oI (-1)) X.1 X.2.1 dX6_freeOne_0 rfl ?_
  refine lv_istore_n (i := 2) (lv' := [(2, .int (oI (-1))), (0, .ref (wad w 4 o)), (1, .int (oI x1))]) X.1 X.2.1 dX6_freeOne_1 rfl hl (by decide) (by first | rfl | simp [catK, catI, catR, catL]) (fun ls hl => ?_)
  refine lv_iconst (v := oI 0) X.1 X.2.1 dX6_freeOne_2 rfl ?_
  refine lv_istore_n (i := 3) (lv' := [(3, .int (oI 0)), (2, .int (oI (-1))), (0, .ref (wad w 4 o)), (1, .int (oI x1))]) X.1 X.2.1 dX6_freeOne_3 rfl hl (by decide) (by first | rfl | simp [catK, catI, catR, catL]) (fun ls hl => ?_)
  exact wk_Blocks_freeOne_L4 X hr hlk hT hV ho rx1 (-1) 0 σ _ _ _ ((rB_lit (-1) (by decide)).i) rZ_0.i (lv_sub hl [2, 3, 1, 0] rfl) hW hS h
/-! Blocks.writeErased(I)Z -/
set_option maxHeartbeats 4000000 in
set_option maxRecDepth 100000 in
theorem met_Blocks_writeErased (l : Launch) {w : Wp} (hV : Hvl w) (o : Int) (x1 : Int) (Q : Int → St → Prop) (σ : St) (ho : 0 ≤ o ∧ o < 2) (rx1 : rI x1) (h : wp_Blocks_writeErased (wc w) (wtv w) o x1 Q σ) : Met l yX6_writeErased (ws_ yX6_writeErased cX6_writeErased 2 (some .boolean)) rm_Blocks_writeErased (PcW w σ [.ref (wad w 4 o), .int (oI x1)]) (QcZ w Q) 0 0 (wA w) := by
  refine Met.ofW (cc := cX6_writeErased) (maxL := 2) (ret := (some .boolean)) (by decide) rfl ?_
  intro p e st m args below meth c s₁ B hml hv
  obtain ⟨hargs, hW, hT⟩ := hv
  have X : CallFix p m c cX6_writeErased 2 st _ lw_all RX6 := ⟨B.exec, B.bytes, hml, findClass_of_methodNamed B.named, fun w h => atoms_spec (ws := ws_ yX6_writeErased cX6_writeErased 2 (some .boolean)) B.pre w (List.mem_cons_of_mem _ h)⟩
  have hr := B.returns
  have hlk := B.notSynchronized
  have hS : va_S (wA w) st.heap st.heap [] := va_S.rf
  have vl2_0 : vl w 2 0 := hV.hv 2 rfl ⟨by omega, by show _ < (1 : Int); omega⟩
  have vl260_o : vl w 260 o := hV.hv 260 rfl ⟨by omega, by show _ < (2 : Int); omega⟩
  have vl262_o : vl w 262 o := hV.hv 262 rfl ⟨by omega, by show _ < (2 : Int); omega⟩
  have vl4_o : vl w 4 o := hV.hv 4 rfl ⟨by omega, by show _ < (2 : Int); omega⟩
  have hl := lv_entry ([.ref (wad w 4 o), .int (oI x1)]) (n := 2) (Nat.le_of_ble_eq_true rfl)
  have hfr := lg_entry_eq m ([.ref (wad w 4 o), .int (oI x1)]) 2
  rw [← hargs] at hfr
  rw [hfr]
  generalize (lg_sl ([.ref (wad w 4 o), .int (oI x1)]) ++ List.replicate (2 - (lg_sl ([.ref (wad w 4 o), .int (oI x1)])).length) Slot.unset).toArray = ls at hl ⊢
  have hl : lv_has ls 2 [(0, .ref (wad w 4 o)), (1, .int (oI x1))] := hl
  unfold wp_Blocks_writeErased at h
  refine lv_aload_n X.1 X.2.1 dX6_writeErased_0 rfl (lv_at hl 0 rfl) ?_
  refine wg (v := .ref (wad w 262 o)) X hT hW 4 6 262 vl4_o rfl rfl (by decide) rfl (by decide) in_X6 q277 rfl dX6_writeErased_1 ?_
  refine lv_iconst (v := oI 0) X.1 X.2.1 dX6_writeErased_4 rfl ?_
  refine wr_V (rS (As := [.ref (wad w 262 o), .int (oI 0)]) (rest := []) X hT hW hS (met_Arrays_fill l (w := w) 262 o 0 _ σ vl262_o (by decide) rfl (rZ.b rZ_0) h) (va_cwS 2 X.2.2.2.2 (lw_S q683 q218 q135 q219) rfl rfl rfl (by decide +kernel) ⟨Nat.le_of_ble_eq_true rfl, Nat.le_of_ble_eq_true rfl⟩) rfl hl.1 rfl (by first | exact Nat.le_of_ble_eq_true rfl | simp [catK, catI, catR, catL]) dX6_writeErased_5 ⟨Nat.le_refl _, Nat.le_refl _⟩) hS (fun σ_14 H locs rkσ_14 h hWσ_14 hS => ?_)
  have h := h rkσ_14
  refine lv_aload_n X.1 X.2.1 dX6_writeErased_8 rfl (lv_at hl 0 rfl) ?_
  refine wg (v := .ref (wad w 262 o)) X hT hWσ_14 4 6 262 vl4_o rfl rfl (by decide) rfl (by decide) in_X6 q277 rfl dX6_writeErased_9 ?_
  refine lv_iconst (v := oI 0) X.1 X.2.1 dX6_writeErased_12 rfl ?_
  refine w_ldc X (z := 1263288881) q684 (by decide) dX6_writeErased_13 ?_
  refine wr_V (rSN (As := [.ref (wad w 262 o), .int (oI 0), .int (oI 1263288881)]) (rest := []) X hT hWσ_14 hS (met_House_putInt l (w := w) 262 o 0 1263288881 _ σ_14 vl262_o (by decide) rfl rZ_0.i (rI_lit 1263288881 (by decide)) h) ⟨va_cnB 3 X.2.2.2.2 (lw_meth q687) rfl rfl rfl (hT.2.1 _ (List.mem_of_getElem? (i := 6) rfl)) (X.2.2.2.2 _ q131) (by decide +kernel) ⟨Nat.le_of_ble_eq_true rfl, Nat.le_of_ble_eq_true rfl⟩, X.2.2.2.2 _ q686, trivial⟩ rfl hl.1 rfl (by first | exact Nat.le_of_ble_eq_true rfl | simp [catK, catI, catR, catL]) dX6_writeErased_15 ⟨Nat.le_refl _, Nat.le_refl _⟩) hS (fun σ_16 H locs rkσ_16 h hWσ_16 hS => ?_)
  have h := h rkσ_16
  refine lv_aload_n X.1 X.2.1 dX6_writeErased_18 rfl (lv_at hl 0 rfl) ?_
  refine wg (v := .ref (wad w 262 o)) X hT hWσ_16 4 6 262 vl4_o rfl rfl (by decide) rfl (by decide) in_X6 q277 rfl dX6_writeErased_19 ?_
  refine lv_iconst (v := oI 4) X.1 X.2.1 dX6_writeErased_22 rfl ?_
  refine lv_aload_n X.1 X.2.1 dX6_writeErased_23 rfl (lv_at hl 0 rfl) ?_
  refine wg (v := .ref (wad w 260 o)) X hT hWσ_16 4 4 260 vl4_o rfl rfl (by decide) rfl (by decide) in_X6 q275 rfl dX6_writeErased_24 ?_
  refine lv_iload_n X.1 X.2.1 dX6_writeErased_27 rfl (lv_at hl 1 rfl) ?_
  obtain ⟨bi, h⟩ := h
  refine w_iald (n := (wc w).1) X hT hWσ_16 260 vl260_o (by decide) rfl rfl bi dX6_writeErased_28 ?_
  refine wr_V (rSN (As := [.ref (wad w 262 o), .int (oI 4), .int (oI (gA σ_16 260 o x1))]) (rest := []) X hT hWσ_16 hS (met_House_putInt l (w := w) 262 o 4 (gA σ_16 260 o x1) _ σ_16 vl262_o (by decide) rfl ((rB_lit 4 (by decide)).i) (hWσ_16.r.ai 260 o x1 rfl) h) ⟨va_cnB 3 X.2.2.2.2 (lw_meth q687) rfl rfl rfl (hT.2.1 _ (List.mem_of_getElem? (i := 6) rfl)) (X.2.2.2.2 _ q131) (by decide +kernel) ⟨Nat.le_of_ble_eq_true rfl, Nat.le_of_ble_eq_true rfl⟩, X.2.2.2.2 _ q686, trivial⟩ rfl hl.1 rfl (by first | exact Nat.le_of_ble_eq_true rfl | simp [catK, catI, catR, catL]) dX6_writeErased_29 ⟨Nat.le_refl _, Nat.le_refl _⟩) hS (fun σ_18 H locs rkσ_18 h hWσ_18 hS => ?_)
  have h := h rkσ_18
  refine lv_aload_n X.1 X.2.1 dX6_writeErased_32 rfl (lv_at hl 0 rfl) ?_
  refine wg (v := .ref (wad w 262 o)) X hT hWσ_18 4 6 262 vl4_o rfl rfl (by decide) rfl (by decide) in_X6 q277 rfl dX6_writeErased_33 ?_
  refine lv_bipush (v := oI 8) X.1 X.2.1 dX6_writeErased_36 (by decide) ?_
  refine lv_iconst (v := oI (-1)) X.1 X.2.1 dX6_writeErased_38 rfl ?_
  refine lv_aload_n X.1 X.2.1 dX6_writeErased_39 rfl (lv_at hl 0 rfl) ?_
  refine wg (v := .ref (wad w 262 o)) X hT hWσ_18 4 6 262 vl4_o rfl rfl (by decide) rfl (by decide) in_X6 q277 rfl dX6_writeErased_40 ?_
  refine lv_iconst (v := oI 0) X.1 X.2.1 dX6_writeErased_43 rfl ?_
  refine lv_bipush (v := oI 8) X.1 X.2.1 dX6_writeErased_44 (by decide) ?_
  refine wr_I (rSN (As := [.int (oI (-1)), .ref (wad w 262 o), .int (oI 0), .int (oI 8)]) (rest := [.int (oI 8), .ref (wad w 262 o)]) X hT hWσ_18 hS (met_House_check l (w := w) (-1) 262 o 0 8 _ σ_18 ((rB_lit (-1) (by decide)).i) vl262_o (by decide) rfl rZ_0.i ((rB_lit 8 (by decide)).i) h) ⟨va_cnB 4 X.2.2.2.2 (lw_meth q690) rfl rfl rfl (hT.2.1 _ (List.mem_of_getElem? (i := 7) rfl)) (X.2.2.2.2 _ q131) (by decide +kernel) ⟨Nat.le_of_ble_eq_true rfl, Nat.le_of_ble_eq_true rfl⟩, X.2.2.2.2 _ q689, trivial⟩ rfl hl.1 rfl (by first | exact Nat.le_of_ble_eq_true rfl | simp [catK, catI, catR, catL]) dX6_writeErased_46 ⟨Nat.le_refl _, Nat.le_refl _⟩) hS (fun r_19 σ_20 H locs rr_19 rkσ_20 h hWσ_20 hS => ?_)
  have h := h rr_19 rkσ_20
  refine wr_V (rSN (As := [.ref (wad w 262 o), .int (oI 8), .int (oI r_19)]) (rest := []) X hT hWσ_20 hS (met_House_putInt l (w := w) 262 o 8 r_19 _ σ_20 vl262_o (by decide) rfl ((rB_lit 8 (by decide)).i) rr_19 h) ⟨va_cnB 3 X.2.2.2.2 (lw_meth q687) rfl rfl rfl (hT.2.1 _ (List.mem_of_getElem? (i := 6) rfl)) (X.2.2.2.2 _ q131) (by decide +kernel) ⟨Nat.le_of_ble_eq_true rfl, Nat.le_of_ble_eq_true rfl⟩, X.2.2.2.2 _ q686, trivial⟩ rfl hl.1 rfl (by first | exact Nat.le_of_ble_eq_true rfl | simp [catK, catI, catR, catL]) dX6_writeErased_49 ⟨Nat.le_refl _, Nat.le_refl _⟩) hS (fun σ_22 H locs rkσ_22 h hWσ_22 hS => ?_)
  have h := h rkσ_22
  refine lv_aload_n X.1 X.2.1 dX6_writeErased_52 rfl (lv_at hl 0 rfl) ?_
  refine wg (v := .ref (wad w 2 0)) X hT hWσ_22 4 0 256 vl4_o rfl rfl (by decide) rfl (by decide) in_X6 q269 rfl dX6_writeErased_53 ?_
  refine lv_iload_n X.1 X.2.1 dX6_writeErased_56 rfl (lv_at hl 1 rfl) ?_
  refine lv_iconst (v := oI 0) X.1 X.2.1 dX6_writeErased_57 rfl ?_
  refine lv_aload_n X.1 X.2.1 dX6_writeErased_58 rfl (lv_at hl 0 rfl) ?_
  refine wg (v := .ref (wad w 262 o)) X hT hWσ_22 4 6 262 vl4_o rfl rfl (by decide) rfl (by decide) in_X6 q277 rfl dX6_writeErased_59 ?_
  refine lv_iconst (v := oI 0) X.1 X.2.1 dX6_writeErased_62 rfl ?_
  refine wr_Z (rV (As := [.int (oI x1), .int (oI 0), .ref (wad w 262 o), .int (oI 0)]) (rest := []) X hT hWσ_22 hS (met_Flash_write l (w := w) hV x1 0 262 o 0 _ σ_22 rx1 rZ_0.i vl262_o (by decide) rfl rZ_0.i h) (cwV 4 X.2.2.2.2 (lw_V q693 q694 q695 q134 q696) rfl rfl rfl (by decide +kernel) ⟨Nat.le_of_ble_eq_true rfl, Nat.le_of_ble_eq_true rfl⟩) vl2_0 (by decide) rfl rfl hl.1 rfl (by first | exact Nat.le_of_ble_eq_true rfl | simp [catK, catI, catR, catL]) dX6_writeErased_63 ⟨Nat.le_refl _, Nat.le_refl _⟩) hS (fun r_23 σ_24 H locs rr_23 rkσ_24 h hWσ_24 hS => ?_)
  have h := h rr_23 rkσ_24
  exact wret_Z X hr hlk hWσ_24 hS rr_23 h dX6_writeErased_66
/-! Blocks.lose(I)V -/
set_option maxHeartbeats 4000000 in
set_option maxRecDepth 100000 in
theorem met_Blocks_lose (l : Launch) {w : Wp} (hV : Hvl w) (o : Int) (x1 : Int) (Q : St → Prop) (σ : St) (ho : 0 ≤ o ∧ o < 2) (rx1 : rI x1) (h : wp_Blocks_lose (wc w) (wtv w) o x1 Q σ) : Met l yX6_lose (ws_ yX6_lose cX6_lose 2 none) rm_Blocks_lose (PcW w σ [.ref (wad w 4 o), .int (oI x1)]) (QcV w Q) 0 0 (wA w) := by
  refine Met.ofW (cc := cX6_lose) (maxL := 2) (ret := none) (by decide) rfl ?_
  intro p e st m args below meth c s₁ B hml hv
  obtain ⟨hargs, hW, hT⟩ := hv
  have X : CallFix p m c cX6_lose 2 st _ lw_all RX6 := ⟨B.exec, B.bytes, hml, findClass_of_methodNamed B.named, fun w h => atoms_spec (ws := ws_ yX6_lose cX6_lose 2 none) B.pre w (List.mem_cons_of_mem _ h)⟩
  have hr := B.returns
  have hlk := B.notSynchronized
  have hS : va_S (wA w) st.heap st.heap [] := va_S.rf
  have vl2_0 : vl w 2 0 := hV.hv 2 rfl ⟨by omega, by show _ < (1 : Int); omega⟩
  have vl259_o : vl w 259 o := hV.hv 259 rfl ⟨by omega, by show _ < (2 : Int); omega⟩
  have vl4_o : vl w 4 o := hV.hv 4 rfl ⟨by omega, by show _ < (2 : Int); omega⟩
  have hl := lv_entry ([.ref (wad w 4 o), .int (oI x1)]) (n := 2) (Nat.le_of_ble_eq_true rfl)
  have hfr := lg_entry_eq m ([.ref (wad w 4 o), .int (oI x1)]) 2
  rw [← hargs] at hfr
  rw [hfr]
  generalize (lg_sl ([.ref (wad w 4 o), .int (oI x1)]) ++ List.replicate (2 - (lg_sl ([.ref (wad w 4 o), .int (oI x1)])).length) Slot.unset).toArray = ls at hl ⊢
  have hl : lv_has ls 2 [(0, .ref (wad w 4 o)), (1, .int (oI x1))] := hl
  unfold wp_Blocks_lose at h
  refine lv_aload_n X.1 X.2.1 dX6_lose_0 rfl (lv_at hl 0 rfl) ?_
  refine wg (v := .ref (wad w 259 o)) X hT hW 4 3 259 vl4_o rfl rfl (by decide) rfl (by decide) in_X6 q274 rfl dX6_lose_1 ?_
  refine lv_iload_n X.1 X.2.1 dX6_lose_4 rfl (lv_at hl 1 rfl) ?_
  refine lv_bipush (v := oI (-3)) X.1 X.2.1 dX6_lose_5 (by decide) ?_
  obtain ⟨bi, h⟩ := h
  refine w_iast (n := (wc w).1) X hT hW hS 259 vl259_o (by decide) rfl rfl bi ((rB_lit (-3) (by decide)).i) dX6_lose_7 (fun H locs hN hS => ?_)
  obtain ⟨σ_4, eσ_4⟩ : ∃ x, x = sA σ 259 o x1 (-3) := ⟨_, rfl⟩
  have hWσ_4 : Wo w σ_4 H := eσ_4 ▸ hN
  have h := h σ_4 eσ_4
  clear hN
  refine lv_aload_n X.1 X.2.1 dX6_lose_8 rfl (lv_at hl 0 rfl) ?_
  refine wg (v := .ref (wad w 2 0)) X hT hWσ_4 4 0 256 vl4_o rfl rfl (by decide) rfl (by decide) in_X6 q269 rfl dX6_lose_9 ?_
  refine lv_iload_n X.1 X.2.1 dX6_lose_12 rfl (lv_at hl 1 rfl) ?_
  refine wr_V (rV (As := [.int (oI x1)]) (rest := []) X hT hWσ_4 hS (met_Flash_giveUp l (w := w) hV x1 _ σ_4 rx1 h) (cwV 1 X.2.2.2.2 (lw_V q708 q709 q710 q134 q711) rfl rfl rfl (by decide +kernel) ⟨Nat.le_of_ble_eq_true rfl, Nat.le_of_ble_eq_true rfl⟩) vl2_0 (by decide) rfl rfl hl.1 rfl (by first | exact Nat.le_of_ble_eq_true rfl | simp [catK, catI, catR, catL]) dX6_lose_13 ⟨Nat.le_refl _, Nat.le_refl _⟩) hS (fun σ_6 H locs rkσ_6 h hWσ_6 hS => ?_)
  have h := h rkσ_6
  exact wret_V X hr hlk hWσ_6 hS h dX6_lose_16
/-! Blocks.erase(I)V -/
set_option maxHeartbeats 4000000 in
set_option maxRecDepth 100000 in
theorem wk_Blocks_erase_b39 {p : Program} {l : Launch} {e : Env} {st : State} {m : MethodId} {args : Array Value} {below : List Frame} {meth : Method} {c : Code} {w : Wp} {o : Int} {x1 : Int} {Q : St → Prop} (X : CallFix p m c cX6_erase 2 st args lw_all RX6) (hr : meth.sig.returnType = none) (hlk : meth.locks = false) (hT : Tb w st) (hV : Hvl w) (ho : 0 ≤ o ∧ o < 2) (rx1 : rI x1) : ∀ (σ : St) (H : Heap) (locs : List Loc) (ls : Array Slot), lv_has ls 2 [(0, .ref (wad w 4 o)), (1, .int (oI x1))] → Wo w σ H → va_S (wA w) st.heap H locs → wp_Blocks_erase_b39 (wc w) (wtv w) o x1 Q σ → W p l e (headSpec (ws_ yX6_erase cX6_erase 2 none) rm_Blocks_erase).room st m args below meth c H locs 0 0 (MQ below (QcV w Q) args st 0 0 (wA w)) (F0 m 39 ls []) := by
  have vl4_o : vl w 4 o := hV.hv 4 rfl ⟨by omega, by show _ < (2 : Int); omega⟩
  intro σ H locs ls hl hW hS h
  unfold wp_Blocks_erase_b39 at h
  refine lv_aload_n X.1 X.2.1 dX6_erase_39 rfl (lv_at hl 0 rfl) ?_
  refine lv_iload_n X.1 X.2.1 dX6_erase_40 rfl (lv_at hl 1 rfl) ?_
  refine wr_V (rV (As := [.int (oI x1)]) (rest := []) X hT hW hS (met_Blocks_lose l (w := w) hV o x1 _ σ (by omega) rx1 h) (cwV 1 X.2.2.2.2 (lw_V q704 q706 qs5 q137 q707) rfl rfl rfl (by decide +kernel) ⟨Nat.le_of_ble_eq_true rfl, Nat.le_of_ble_eq_true rfl⟩) vl4_o (by decide) rfl rfl hl.1 rfl (by first | exact Nat.le_of_ble_eq_true rfl | simp [catK, catI, catR, catL]) dX6_erase_41 ⟨Nat.le_refl _, Nat.le_refl _⟩) hS (fun σ_10 H locs rkσ_10 h hWσ_10 hS => ?_)
  have h := h rkσ_10
  exact wret_V X hr hlk hWσ_10 hS h dX6_erase_44
set_option maxHeartbeats 4000000 in
set_option maxRecDepth 100000 in
theorem met_Blocks_erase (l : Launch) {w : Wp} (hV : Hvl w) (o : Int) (x1 : Int) (Q : St → Prop) (σ : St) (ho : 0 ≤ o ∧ o < 2) (rx1 : rI x1) (h : wp_Blocks_erase (wc w) (wtv w) o x1 Q σ) : Met l yX6_erase (ws_ yX6_erase cX6_erase 2 none) rm_Blocks_erase (PcW w σ [.ref (wad w 4 o), .int (oI x1)]) (QcV w Q) 0 0 (wA w) := by
  refine Met.ofW (cc := cX6_erase) (maxL := 2) (ret := none) (by decide) rfl ?_
  intro p e st m args below meth c s₁ B hml hv
  obtain ⟨hargs, hW, hT⟩ := hv
  have X : CallFix p m c cX6_erase 2 st _ lw_all RX6 := ⟨B.exec, B.bytes, hml, findClass_of_methodNamed B.named, fun w h => atoms_spec (ws := ws_ yX6_erase cX6_erase 2 none) B.pre w (List.mem_cons_of_mem _ h)⟩
  have hr := B.returns
  have hlk := B.notSynchronized
  have hS : va_S (wA w) st.heap st.heap [] := va_S.rf
  have vl2_0 : vl w 2 0 := hV.hv 2 rfl ⟨by omega, by show _ < (1 : Int); omega⟩
  have vl259_o : vl w 259 o := hV.hv 259 rfl ⟨by omega, by show _ < (2 : Int); omega⟩
  have vl260_o : vl w 260 o := hV.hv 260 rfl ⟨by omega, by show _ < (2 : Int); omega⟩
  have vl4_o : vl w 4 o := hV.hv 4 rfl ⟨by omega, by show _ < (2 : Int); omega⟩
  have hl := lv_entry ([.ref (wad w 4 o), .int (oI x1)]) (n := 2) (Nat.le_of_ble_eq_true rfl)
  have hfr := lg_entry_eq m ([.ref (wad w 4 o), .int (oI x1)]) 2
  rw [← hargs] at hfr
  rw [hfr]
  generalize (lg_sl ([.ref (wad w 4 o), .int (oI x1)]) ++ List.replicate (2 - (lg_sl ([.ref (wad w 4 o), .int (oI x1)])).length) Slot.unset).toArray = ls at hl ⊢
  have hl : lv_has ls 2 [(0, .ref (wad w 4 o)), (1, .int (oI x1))] := hl
  unfold wp_Blocks_erase at h
  refine lv_aload_n X.1 X.2.1 dX6_erase_0 rfl (lv_at hl 0 rfl) ?_
  refine wg (v := .ref (wad w 260 o)) X hT hW 4 4 260 vl4_o rfl rfl (by decide) rfl (by decide) in_X6 q275 rfl dX6_erase_1 ?_
  refine lv_iload_n X.1 X.2.1 dX6_erase_4 rfl (lv_at hl 1 rfl) ?_
  refine lv_dup2_11 X.1 X.2.1 dX6_erase_5 rfl rfl ?_
  obtain ⟨bi, h⟩ := h
  refine w_iald (n := (wc w).1) X hT hW 260 vl260_o (by decide) rfl rfl bi dX6_erase_6 ?_
  refine lv_iconst (v := oI 1) X.1 X.2.1 dX6_erase_7 rfl ?_
  refine w_iadd X dX6_erase_8 ?_
  obtain ⟨bi, h⟩ := h
  refine w_iast (n := (wc w).1) X hT hW hS 260 vl260_o (by decide) rfl rfl bi (w32_r _) dX6_erase_9 (fun H locs hN hS => ?_)
  obtain ⟨σ_11, eσ_11⟩ : ∃ x, x = sA σ 260 o x1 (w32 ((gA σ 260 o x1) + 1)) := ⟨_, rfl⟩
  have hWσ_11 : Wo w σ_11 H := eσ_11 ▸ hN
  have h := h σ_11 eσ_11
  clear hN
  refine lv_aload_n X.1 X.2.1 dX6_erase_10 rfl (lv_at hl 0 rfl) ?_
  refine wg (v := .ref (wad w 2 0)) X hT hWσ_11 4 0 256 vl4_o rfl rfl (by decide) rfl (by decide) in_X6 q269 rfl dX6_erase_11 ?_
  refine lv_iload_n X.1 X.2.1 dX6_erase_14 rfl (lv_at hl 1 rfl) ?_
  refine wr_Z (rV (As := [.int (oI x1)]) (rest := []) X hT hWσ_11 hS (met_Flash_erase l (w := w) hV x1 _ σ_11 rx1 h) (cwV 1 X.2.2.2.2 (lw_V q659 q660 q661 q134 q662) rfl rfl rfl (by decide +kernel) ⟨Nat.le_of_ble_eq_true rfl, Nat.le_of_ble_eq_true rfl⟩) vl2_0 (by decide) rfl rfl hl.1 rfl (by first | exact Nat.le_of_ble_eq_true rfl | simp [catK, catI, catR, catL]) dX6_erase_15 ⟨Nat.le_refl _, Nat.le_refl _⟩) hS (fun r_12 σ_13 H locs rr_12 rkσ_13 h hWσ_13 hS => ?_)
  have h := h rr_12 rkσ_13
  refine w_if_eq (tgt := 39) X rr_12.i dX6_erase_18 (by decide) (fun hc => ?_) (fun hc => ?_)
  · have h := h.1 hc
    exact wk_Blocks_erase_b39 X hr hlk hT hV ho rx1 σ_13 _ _ _ (lv_sub hl [0, 1] rfl) hWσ_13 hS h
  · have h := h.2 hc
    refine lv_aload_n X.1 X.2.1 dX6_erase_21 rfl (lv_at hl 0 rfl) ?_
    refine lv_iload_n X.1 X.2.1 dX6_erase_22 rfl (lv_at hl 1 rfl) ?_
    refine wr_Z (rV (As := [.int (oI x1)]) (rest := []) X hT hWσ_13 hS (met_Blocks_writeErased l (w := w) hV o x1 _ σ_13 (by omega) rx1 h) (cwV 1 X.2.2.2.2 (lw_V q679 q681 qs3 q137 q682) rfl rfl rfl (by decide +kernel) ⟨Nat.le_of_ble_eq_true rfl, Nat.le_of_ble_eq_true rfl⟩) vl4_o (by decide) rfl rfl hl.1 rfl (by first | exact Nat.le_of_ble_eq_true rfl | simp [catK, catI, catR, catL]) dX6_erase_23 ⟨Nat.le_refl _, Nat.le_refl _⟩) hS (fun r_14 σ_15 H locs rr_14 rkσ_15 h hWσ_15 hS => ?_)
    have h := h rr_14 rkσ_15
    refine w_if_eq (tgt := 39) X rr_14.i dX6_erase_26 (by decide) (fun hc => ?_) (fun hc => ?_)
    · have h := h.1 hc
      exact wk_Blocks_erase_b39 X hr hlk hT hV ho rx1 σ_15 _ _ _ (lv_sub hl [0, 1] rfl) hWσ_15 hS h
    · have h := h.2 hc
      refine lv_aload_n X.1 X.2.1 dX6_erase_29 rfl (lv_at hl 0 rfl) ?_
      refine wg (v := .ref (wad w 259 o)) X hT hWσ_15 4 3 259 vl4_o rfl rfl (by decide) rfl (by decide) in_X6 q274 rfl dX6_erase_30 ?_
      refine lv_iload_n X.1 X.2.1 dX6_erase_33 rfl (lv_at hl 1 rfl) ?_
      refine lv_iconst (v := oI (-1)) X.1 X.2.1 dX6_erase_34 rfl ?_
      obtain ⟨bi, h⟩ := h
      refine w_iast (n := (wc w).1) X hT hWσ_15 hS 259 vl259_o (by decide) rfl rfl bi ((rB_lit (-1) (by decide)).i) dX6_erase_35 (fun H locs hN hS => ?_)
      obtain ⟨σ_16, eσ_16⟩ : ∃ x, x = sA σ_15 259 o x1 (-1) := ⟨_, rfl⟩
      have hWσ_16 : Wo w σ_16 H := eσ_16 ▸ hN
      have h := h σ_16 eσ_16
      clear hN
      refine lv_goto (tgt := 44) X.1 X.2.1 dX6_erase_36 (by decide) ?_
      exact wret_V X hr hlk hWσ_16 hS h dX6_erase_44
/-! Blocks.eraseOne()Z -/
set_option maxHeartbeats 4000000 in
set_option maxRecDepth 100000 in
theorem wk_Blocks_eraseOne_L2B {p : Program} {l : Launch} {e : Env} {st : State} {m : MethodId} {args : Array Value} {below : List Frame} {meth : Method} {c : Code} {w : Wp} {o : Int} {Q : Int → St → Prop} (X : CallFix p m c cX6_eraseOne 2 st args lw_all RX6) (hr : meth.sig.returnType = (some .boolean)) (hlk : meth.locks = false) (hT : Tb w st) (hV : Hvl w) (ho : 0 ≤ o ∧ o < 2) (K2 : Int → St → Prop) (hK2 : ∀ (y1 : Int) (σ : St) (H : Heap) (locs : List Loc) (ls : Array Slot), rI y1 → lv_has ls 2 [(0, .ref (wad w 4 o)), (1, .int (oI y1))] → Wo w σ H → va_S (wA w) st.heap H locs → K2 y1 σ → W p l e (headSpec (ws_ yX6_eraseOne cX6_eraseOne 2 (some .boolean)) rm_Blocks_eraseOne).room st m args below meth c H locs 0 0 (MQ below (QcZ w Q) args st 0 0 (wA w)) (F0 m 2 ls [])) : ∀ (y1 : Int) (σ : St) (H : Heap) (locs : List Loc) (ls : Array Slot), rI y1 → lv_has ls 2 [(0, .ref (wad w 4 o)), (1, .int (oI y1))] → Wo w σ H → va_S (wA w) st.heap H locs → wp_Blocks_eraseOne_L2 (wc w) (wtv w) o Q K2 y1 σ → W p l e (headSpec (ws_ yX6_eraseOne cX6_eraseOne 2 (some .boolean)) rm_Blocks_eraseOne).room st m args below meth c H locs 0 0 (MQ below (QcZ w Q) args st 0 0 (wA w)) (F0 m 2 ls []) := by
  have vl2_0 : vl w 2 0 := hV.hv 2 rfl ⟨by omega, by show _ < (1 : Int); omega⟩
  have vl259_o : vl w 259 o := hV.hv 259 rfl ⟨by omega, by show _ < (2 : Int); omega⟩
  have vl4_o : vl w 4 o := hV.hv 4 rfl ⟨by omega, by show _ < (2 : Int); omega⟩
  intro y1 σ H locs ls ry1 hl hW hS h
  unfold wp_Blocks_eraseOne_L2 at h
  refine lv_iload_n X.1 X.2.1 dX6_eraseOne_2 rfl (lv_at hl 1 rfl) ?_
  refine lv_aload_n X.1 X.2.1 dX6_eraseOne_3 rfl (lv_at hl 0 rfl) ?_
  refine wg (v := .ref (wad w 2 0)) X hT hW 4 0 256 vl4_o rfl rfl (by decide) rfl (by decide) in_X6 q269 rfl dX6_eraseOne_4 ?_
  refine wg (v := .int (oI (wc w).1)) X hT hW 2 0 128 vl2_0 rfl rfl (by decide) rfl (by decide) in_X4 q221 rfl dX6_eraseOne_7 ?_
  refine w_icmp_ge (tgt := 37) X ry1 (cin_r hT.c 128) dX6_eraseOne_10 (by decide) (fun hc => ?_) (fun hc => ?_)
  · have h := h.1 hc
    refine lv_iconst (v := oI 0) X.1 X.2.1 dX6_eraseOne_37 rfl ?_
    exact wret_Z X hr hlk hW hS rZ_0 h dX6_eraseOne_38
  · have h := h.2 hc
    refine lv_aload_n X.1 X.2.1 dX6_eraseOne_13 rfl (lv_at hl 0 rfl) ?_
    refine wg (v := .ref (wad w 259 o)) X hT hW 4 3 259 vl4_o rfl rfl (by decide) rfl (by decide) in_X6 q274 rfl dX6_eraseOne_14 ?_
    refine lv_iload_n X.1 X.2.1 dX6_eraseOne_17 rfl (lv_at hl 1 rfl) ?_
    obtain ⟨bi, h⟩ := h
    refine w_iald (n := (wc w).1) X hT hW 259 vl259_o (by decide) rfl rfl bi dX6_eraseOne_18 ?_
    refine lv_bipush (v := oI (-2)) X.1 X.2.1 dX6_eraseOne_19 (by decide) ?_
    refine w_icmp_ne (tgt := 31) X (hW.r.ai 259 o y1 rfl) ((rB_lit (-2) (by decide)).i) dX6_eraseOne_21 (by decide) (fun hc => ?_) (fun hc => ?_)
    · have h := h.1 hc
      obtain ⟨y1_7, ey1_7⟩ : ∃ y : Int, y = w32 (y1 + 1) := ⟨_, rfl⟩
      have h := h y1_7 ey1_7
      have ry1_7 : rI y1_7 := by rw [ey1_7]; exact w32_r _
      refine lv_iinc (v := oI y1_7) (lv' := [(1, .int (oI y1_7)), (0, .ref (wad w 4 o))]) X.1 X.2.1 dX6_eraseOne_31 hl (k := 1) rfl (by rw [ey1_7]; exact oI_add _ _) (by decide) (by first | rfl | simp [catK, catI, catR, catL]) (fun ls hl => ?_)
      refine lv_goto (tgt := 2) X.1 X.2.1 dX6_eraseOne_34 (by decide) ?_
      exact hK2 y1_7 σ _ _ _ ry1_7 (lv_sub hl [1, 0] rfl) hW hS h
    · have h := h.2 hc
      refine lv_aload_n X.1 X.2.1 dX6_eraseOne_24 rfl (lv_at hl 0 rfl) ?_
      refine lv_iload_n X.1 X.2.1 dX6_eraseOne_25 rfl (lv_at hl 1 rfl) ?_
      refine wr_V (rV (As := [.int (oI y1)]) (rest := []) X hT hW hS (met_Blocks_erase l (w := w) hV o y1 _ σ (by omega) ry1 h) (cwV 1 X.2.2.2.2 (lw_V q655 q657 qs1 q137 q658) rfl rfl rfl (by decide +kernel) ⟨Nat.le_of_ble_eq_true rfl, Nat.le_of_ble_eq_true rfl⟩) vl4_o (by decide) rfl rfl hl.1 rfl (by first | exact Nat.le_of_ble_eq_true rfl | simp [catK, catI, catR, catL]) dX6_eraseOne_26 ⟨Nat.le_refl _, Nat.le_refl _⟩) hS (fun σ_9 H locs rkσ_9 h hWσ_9 hS => ?_)
      have h := h rkσ_9
      refine lv_iconst (v := oI 1) X.1 X.2.1 dX6_eraseOne_29 rfl ?_
      exact wret_Z X hr hlk hWσ_9 hS rZ_1 h dX6_eraseOne_30
theorem wk_Blocks_eraseOne_L2 {p : Program} {l : Launch} {e : Env} {st : State} {m : MethodId} {args : Array Value} {below : List Frame} {meth : Method} {c : Code} {w : Wp} {o : Int} {Q : Int → St → Prop} (X : CallFix p m c cX6_eraseOne 2 st args lw_all RX6) (hr : meth.sig.returnType = (some .boolean)) (hlk : meth.locks = false) (hT : Tb w st) (hV : Hvl w) (ho : 0 ≤ o ∧ o < 2) : ∀ (y1 : Int) (σ : St) (H : Heap) (locs : List Loc) (ls : Array Slot), rI y1 → lv_has ls 2 [(0, .ref (wad w 4 o)), (1, .int (oI y1))] → Wo w σ H → va_S (wA w) st.heap H locs → lQ1 (wp_Blocks_eraseOne_L2 (wc w) (wtv w) o Q) y1 σ → W p l e (headSpec (ws_ yX6_eraseOne cX6_eraseOne 2 (some .boolean)) rm_Blocks_eraseOne).room st m args below meth c H locs 0 0 (MQ below (QcZ w Q) args st 0 0 (wA w)) (F0 m 2 ls []) := by
  intro y1 σ H locs ls ry1 hl hW hS h
  obtain ⟨fu, h⟩ := h
  induction fu generalizing y1 σ H locs ls with
  | zero => exact h.elim
  | succ fu ih =>
    exact wk_Blocks_eraseOne_L2B X hr hlk hT hV ho (lq1 (wp_Blocks_eraseOne_L2 (wc w) (wtv w) o Q) fu) (fun y1 σ H locs ls ry1 hl hW hS h => ih y1 σ H locs ls ry1 hl hW hS h) y1 σ H locs ls ry1 hl hW hS h
set_option maxHeartbeats 4000000 in
set_option maxRecDepth 100000 in
theorem met_Blocks_eraseOne (l : Launch) {w : Wp} (hV : Hvl w) (o : Int) (Q : Int → St → Prop) (σ : St) (ho : 0 ≤ o ∧ o < 2) (h : wp_Blocks_eraseOne (wc w) (wtv w) o Q σ) : Met l yX6_eraseOne (ws_ yX6_eraseOne cX6_eraseOne 2 (some .boolean)) rm_Blocks_eraseOne (PcW w σ [.ref (wad w 4 o)]) (QcZ w Q) 0 0 (wA w) := by
  refine Met.ofW (cc := cX6_eraseOne) (maxL := 2) (ret := (some .boolean)) (by decide) rfl ?_
  intro p e st m args below meth c s₁ B hml hv
  obtain ⟨hargs, hW, hT⟩ := hv
  have X : CallFix p m c cX6_eraseOne 2 st _ lw_all RX6 := ⟨B.exec, B.bytes, hml, findClass_of_methodNamed B.named, fun w h => atoms_spec (ws := ws_ yX6_eraseOne cX6_eraseOne 2 (some .boolean)) B.pre w (List.mem_cons_of_mem _ h)⟩
  have hr := B.returns
  have hlk := B.notSynchronized
  have hS : va_S (wA w) st.heap st.heap [] := va_S.rf
  have vl4_o : vl w 4 o := hV.hv 4 rfl ⟨by omega, by show _ < (2 : Int); omega⟩
  have hl := lv_entry ([.ref (wad w 4 o)]) (n := 2) (Nat.le_of_ble_eq_true rfl)
  have hfr := lg_entry_eq m ([.ref (wad w 4 o)]) 2
  rw [← hargs] at hfr
  rw [hfr]
  generalize (lg_sl ([.ref (wad w 4 o)]) ++ List.replicate (2 - (lg_sl ([.ref (wad w 4 o)])).length) Slot.unset).toArray = ls at hl ⊢
  have hl : lv_has ls 2 [(0, .ref (wad w 4 o))] := hl
  unfold wp_Blocks_eraseOne at h
  refine lv_iconst (v := oI 0) X.1 X.2.1 dX6_eraseOne_0 rfl ?_
  refine lv_istore_n (i := 1) (lv' := [(1, .int (oI 0)), (0, .ref (wad w 4 o))]) X.1 X.2.1 dX6_eraseOne_1 rfl hl (by decide) (by first | rfl | simp [catK, catI, catR, catL]) (fun ls hl => ?_)
  exact wk_Blocks_eraseOne_L2 X hr hlk hT hV ho 0 σ _ _ _ rZ_0.i (lv_sub hl [1, 0] rfl) hW hS h
/-! Blocks.fetch()I -/
set_option maxHeartbeats 4000000 in
set_option maxRecDepth 100000 in
theorem wk_Blocks_fetch_L6B {p : Program} {l : Launch} {e : Env} {st : State} {m : MethodId} {args : Array Value} {below : List Frame} {meth : Method} {c : Code} {w : Wp} {o : Int} {Q : Int → St → Prop} (X : CallFix p m c cX6_fetch 2 st args lw_all RX6) (hr : meth.sig.returnType = (some .int)) (hlk : meth.locks = false) (hT : Tb w st) (hV : Hvl w) (ho : 0 ≤ o ∧ o < 2) (K6 : Int → St → Prop) (hK6 : ∀ (y1 : Int) (σ : St) (H : Heap) (locs : List Loc) (ls : Array Slot), rI y1 → lv_has ls 2 [(0, .ref (wad w 4 o)), (1, .int (oI y1))] → Wo w σ H → va_S (wA w) st.heap H locs → K6 y1 σ → W p l e (headSpec (ws_ yX6_fetch cX6_fetch 2 (some .int)) rm_Blocks_fetch).room st m args below meth c H locs 0 0 (MQ below (QcI w Q) args st 0 0 (wA w)) (F0 m 6 ls [])) : ∀ (y1 : Int) (σ : St) (H : Heap) (locs : List Loc) (ls : Array Slot), rI y1 → lv_has ls 2 [(0, .ref (wad w 4 o)), (1, .int (oI y1))] → Wo w σ H → va_S (wA w) st.heap H locs → wp_Blocks_fetch_L6 (wc w) (wtv w) o Q K6 y1 σ → W p l e (headSpec (ws_ yX6_fetch cX6_fetch 2 (some .int)) rm_Blocks_fetch).room st m args below meth c H locs 0 0 (MQ below (QcI w Q) args st 0 0 (wA w)) (F0 m 6 ls []) := by
  have vl4_o : vl w 4 o := hV.hv 4 rfl ⟨by omega, by show _ < (2 : Int); omega⟩
  intro y1 σ H locs ls ry1 hl hW hS h
  unfold wp_Blocks_fetch_L6 at h
  refine lv_iload_n X.1 X.2.1 dX6_fetch_6 rfl (lv_at hl 1 rfl) ?_
  refine lv_iconst (v := oI (-1)) X.1 X.2.1 dX6_fetch_7 rfl ?_
  refine w_icmp_ne (tgt := 27) X ry1 ((rB_lit (-1) (by decide)).i) dX6_fetch_8 (by decide) (fun hc => ?_) (fun hc => ?_)
  · have h := h.1 hc
    refine lv_iload_n X.1 X.2.1 dX6_fetch_27 rfl (lv_at hl 1 rfl) ?_
    exact wret_I X hr hlk hW hS ry1 h dX6_fetch_28
  · have h := h.2 hc
    refine lv_aload_n X.1 X.2.1 dX6_fetch_11 rfl (lv_at hl 0 rfl) ?_
    refine wr_Z (rV (As := []) (rest := []) X hT hW hS (met_Blocks_eraseOne l (w := w) hV o _ σ (by omega) h) (cwV 0 X.2.2.2.2 (lw_V q876 q877 q878 q137 q879) rfl rfl rfl (by decide +kernel) ⟨Nat.le_of_ble_eq_true rfl, Nat.le_of_ble_eq_true rfl⟩) vl4_o (by decide) rfl rfl hl.1 rfl (by first | exact Nat.le_of_ble_eq_true rfl | simp [catK, catI, catR, catL]) dX6_fetch_12 ⟨Nat.le_refl _, Nat.le_refl _⟩) hS (fun r_7 σ_8 H locs rr_7 rkσ_8 h hWσ_8 hS => ?_)
    have h := h rr_7 rkσ_8
    refine w_if_eq (tgt := 27) X rr_7.i dX6_fetch_15 (by decide) (fun hc => ?_) (fun hc => ?_)
    · have h := h.1 hc
      refine lv_iload_n X.1 X.2.1 dX6_fetch_27 rfl (lv_at hl 1 rfl) ?_
      exact wret_I X hr hlk hWσ_8 hS ry1 h dX6_fetch_28
    · have h := h.2 hc
      refine lv_aload_n X.1 X.2.1 dX6_fetch_18 rfl (lv_at hl 0 rfl) ?_
      refine lv_iconst (v := oI 0) X.1 X.2.1 dX6_fetch_19 rfl ?_
      refine wr_I (rV (As := [.int (oI 0)]) (rest := []) X hT hWσ_8 hS (met_Blocks_freeOne l (w := w) hV o 0 _ σ_8 (by omega) rZ_0 h) (cwV 1 X.2.2.2.2 (lw_V q872 q874 qs12 q137 q875) rfl rfl rfl (by decide +kernel) ⟨Nat.le_of_ble_eq_true rfl, Nat.le_of_ble_eq_true rfl⟩) vl4_o (by decide) rfl rfl hl.1 rfl (by first | exact Nat.le_of_ble_eq_true rfl | simp [catK, catI, catR, catL]) dX6_fetch_20 ⟨Nat.le_refl _, Nat.le_refl _⟩) hS (fun r_9 σ_10 H locs rr_9 rkσ_10 h hWσ_10 hS => ?_)
      have h := h rr_9 rkσ_10
      refine lv_istore_n (i := 1) (lv' := [(1, .int (oI r_9)), (0, .ref (wad w 4 o))]) X.1 X.2.1 dX6_fetch_23 rfl hl (by decide) (by first | rfl | simp [catK, catI, catR, catL]) (fun ls hl => ?_)
      refine lv_goto (tgt := 6) X.1 X.2.1 dX6_fetch_24 (by decide) ?_
      exact hK6 r_9 σ_10 _ _ _ rr_9 (lv_sub hl [1, 0] rfl) hWσ_10 hS h
theorem wk_Blocks_fetch_L6 {p : Program} {l : Launch} {e : Env} {st : State} {m : MethodId} {args : Array Value} {below : List Frame} {meth : Method} {c : Code} {w : Wp} {o : Int} {Q : Int → St → Prop} (X : CallFix p m c cX6_fetch 2 st args lw_all RX6) (hr : meth.sig.returnType = (some .int)) (hlk : meth.locks = false) (hT : Tb w st) (hV : Hvl w) (ho : 0 ≤ o ∧ o < 2) : ∀ (y1 : Int) (σ : St) (H : Heap) (locs : List Loc) (ls : Array Slot), rI y1 → lv_has ls 2 [(0, .ref (wad w 4 o)), (1, .int (oI y1))] → Wo w σ H → va_S (wA w) st.heap H locs → lQ1 (wp_Blocks_fetch_L6 (wc w) (wtv w) o Q) y1 σ → W p l e (headSpec (ws_ yX6_fetch cX6_fetch 2 (some .int)) rm_Blocks_fetch).room st m args below meth c H locs 0 0 (MQ below (QcI w Q) args st 0 0 (wA w)) (F0 m 6 ls []) := by
  intro y1 σ H locs ls ry1 hl hW hS h
  obtain ⟨fu, h⟩ := h
  induction fu generalizing y1 σ H locs ls with
  | zero => exact h.elim
  | succ fu ih =>
    exact wk_Blocks_fetch_L6B X hr hlk hT hV ho (lq1 (wp_Blocks_fetch_L6 (wc w) (wtv w) o Q) fu) (fun y1 σ H locs ls ry1 hl hW hS h => ih y1 σ H locs ls ry1 hl hW hS h) y1 σ H locs ls ry1 hl hW hS h
set_option maxHeartbeats 4000000 in
set_option maxRecDepth 100000 in
theorem met_Blocks_fetch (l : Launch) {w : Wp} (hV : Hvl w) (o : Int) (Q : Int → St → Prop) (σ : St) (ho : 0 ≤ o ∧ o < 2) (h : wp_Blocks_fetch (wc w) (wtv w) o Q σ) : Met l yX6_fetch (ws_ yX6_fetch cX6_fetch 2 (some .int)) rm_Blocks_fetch (PcW w σ [.ref (wad w 4 o)]) (QcI w Q) 0 0 (wA w) := by
  refine Met.ofW (cc := cX6_fetch) (maxL := 2) (ret := (some .int)) (by decide) rfl ?_
  intro p e st m args below meth c s₁ B hml hv
  obtain ⟨hargs, hW, hT⟩ := hv
  have X : CallFix p m c cX6_fetch 2 st _ lw_all RX6 := ⟨B.exec, B.bytes, hml, findClass_of_methodNamed B.named, fun w h => atoms_spec (ws := ws_ yX6_fetch cX6_fetch 2 (some .int)) B.pre w (List.mem_cons_of_mem _ h)⟩
  have hr := B.returns
  have hlk := B.notSynchronized
  have hS : va_S (wA w) st.heap st.heap [] := va_S.rf
  have vl4_o : vl w 4 o := hV.hv 4 rfl ⟨by omega, by show _ < (2 : Int); omega⟩
  have hl := lv_entry ([.ref (wad w 4 o)]) (n := 2) (Nat.le_of_ble_eq_true rfl)
  have hfr := lg_entry_eq m ([.ref (wad w 4 o)]) 2
  rw [← hargs] at hfr
  rw [hfr]
  generalize (lg_sl ([.ref (wad w 4 o)]) ++ List.replicate (2 - (lg_sl ([.ref (wad w 4 o)])).length) Slot.unset).toArray = ls at hl ⊢
  have hl : lv_has ls 2 [(0, .ref (wad w 4 o))] := hl
  unfold wp_Blocks_fetch at h
  refine lv_aload_n X.1 X.2.1 dX6_fetch_0 rfl (lv_at hl 0 rfl) ?_
  refine lv_iconst (v := oI 0) X.1 X.2.1 dX6_fetch_1 rfl ?_
  refine wr_I (rV (As := [.int (oI 0)]) (rest := []) X hT hW hS (met_Blocks_freeOne l (w := w) hV o 0 _ σ (by omega) rZ_0 h) (cwV 1 X.2.2.2.2 (lw_V q872 q874 qs12 q137 q875) rfl rfl rfl (by decide +kernel) ⟨Nat.le_of_ble_eq_true rfl, Nat.le_of_ble_eq_true rfl⟩) vl4_o (by decide) rfl rfl hl.1 rfl (by first | exact Nat.le_of_ble_eq_true rfl | simp [catK, catI, catR, catL]) dX6_fetch_2 ⟨Nat.le_refl _, Nat.le_refl _⟩) hS (fun r_11 σ_12 H locs rr_11 rkσ_12 h hWσ_12 hS => ?_)
  have h := h rr_11 rkσ_12
  refine lv_istore_n (i := 1) (lv' := [(1, .int (oI r_11)), (0, .ref (wad w 4 o))]) X.1 X.2.1 dX6_fetch_5 rfl hl (by decide) (by first | rfl | simp [catK, catI, catR, catL]) (fun ls hl => ?_)
  exact wk_Blocks_fetch_L6 X hr hlk hT hV ho r_11 σ_12 _ _ _ rr_11 (lv_sub hl [1, 0] rfl) hWσ_12 hS h
/-! Blocks.writeHead(IIZII)Z -/
set_option maxHeartbeats 4000000 in
set_option maxRecDepth 100000 in
theorem met_Blocks_writeHead (l : Launch) {w : Wp} (hV : Hvl w) (o : Int) (x1 : Int) (x2 : Int) (x3 : Int) (x4 : Int) (x5 : Int) (Q : Int → St → Prop) (σ : St) (ho : 0 ≤ o ∧ o < 2) (rx1 : rI x1) (rx2 : rI x2) (rx3 : rZ x3) (rx4 : rI x4) (rx5 : rI x5) (h : wp_Blocks_writeHead (wc w) (wtv w) o x1 x2 x3 x4 x5 Q σ) : Met l yX6_writeHead (ws_ yX6_writeHead cX6_writeHead 6 (some .boolean)) rm_Blocks_writeHead (PcW w σ [.ref (wad w 4 o), .int (oI x1), .int (oI x2), .int (oI x3), .int (oI x4), .int (oI x5)]) (QcZ w Q) 0 0 (wA w) := by
  refine Met.ofW (cc := cX6_writeHead) (maxL := 6) (ret := (some .boolean)) (by decide) rfl ?_
  intro p e st m args below meth c s₁ B hml hv
  obtain ⟨hargs, hW, hT⟩ := hv
  have X : CallFix p m c cX6_writeHead 6 st _ lw_all RX6 := ⟨B.exec, B.bytes, hml, findClass_of_methodNamed B.named, fun w h => atoms_spec (ws := ws_ yX6_writeHead cX6_writeHead 6 (some .boolean)) B.pre w (List.mem_cons_of_mem _ h)⟩
  have hr := B.returns
  have hlk := B.notSynchronized
  have hS : va_S (wA w) st.heap st.heap [] := va_S.rf
  have vl2_0 : vl w 2 0 := hV.hv 2 rfl ⟨by omega, by show _ < (1 : Int); omega⟩
  have vl262_o : vl w 262 o := hV.hv 262 rfl ⟨by omega, by show _ < (2 : Int); omega⟩
  have vl4_o : vl w 4 o := hV.hv 4 rfl ⟨by omega, by show _ < (2 : Int); omega⟩
  have hl := lv_entry ([.ref (wad w 4 o), .int (oI x1), .int (oI x2), .int (oI x3), .int (oI x4), .int (oI x5)]) (n := 6) (Nat.le_of_ble_eq_true rfl)
  have hfr := lg_entry_eq m ([.ref (wad w 4 o), .int (oI x1), .int (oI x2), .int (oI x3), .int (oI x4), .int (oI x5)]) 6
  rw [← hargs] at hfr
  rw [hfr]
  generalize (lg_sl ([.ref (wad w 4 o), .int (oI x1), .int (oI x2), .int (oI x3), .int (oI x4), .int (oI x5)]) ++ List.replicate (6 - (lg_sl ([.ref (wad w 4 o), .int (oI x1), .int (oI x2), .int (oI x3), .int (oI x4), .int (oI x5)])).length) Slot.unset).toArray = ls at hl ⊢
  have hl : lv_has ls 6 [(0, .ref (wad w 4 o)), (1, .int (oI x1)), (2, .int (oI x2)), (3, .int (oI x3)), (4, .int (oI x4)), (5, .int (oI x5))] := hl
  unfold wp_Blocks_writeHead at h
  refine lv_aload_n X.1 X.2.1 dX6_writeHead_0 rfl (lv_at hl 0 rfl) ?_
  refine wg (v := .ref (wad w 262 o)) X hT hW 4 6 262 vl4_o rfl rfl (by decide) rfl (by decide) in_X6 q277 rfl dX6_writeHead_1 ?_
  refine lv_iconst (v := oI 0) X.1 X.2.1 dX6_writeHead_4 rfl ?_
  refine wr_V (rS (As := [.ref (wad w 262 o), .int (oI 0)]) (rest := []) X hT hW hS (met_Arrays_fill l (w := w) 262 o 0 _ σ vl262_o (by decide) rfl (rZ.b rZ_0) h) (va_cwS 2 X.2.2.2.2 (lw_S q683 q218 q135 q219) rfl rfl rfl (by decide +kernel) ⟨Nat.le_of_ble_eq_true rfl, Nat.le_of_ble_eq_true rfl⟩) rfl hl.1 rfl (by first | exact Nat.le_of_ble_eq_true rfl | simp [catK, catI, catR, catL]) dX6_writeHead_5 ⟨Nat.le_refl _, Nat.le_refl _⟩) hS (fun σ_23 H locs rkσ_23 h hWσ_23 hS => ?_)
  have h := h rkσ_23
  refine lv_aload_n X.1 X.2.1 dX6_writeHead_8 rfl (lv_at hl 0 rfl) ?_
  refine wg (v := .ref (wad w 262 o)) X hT hWσ_23 4 6 262 vl4_o rfl rfl (by decide) rfl (by decide) in_X6 q277 rfl dX6_writeHead_9 ?_
  refine lv_iconst (v := oI 0) X.1 X.2.1 dX6_writeHead_12 rfl ?_
  refine w_ldc X (z := 1263289138) q887 (by decide) dX6_writeHead_13 ?_
  refine wr_V (rSN (As := [.ref (wad w 262 o), .int (oI 0), .int (oI 1263289138)]) (rest := []) X hT hWσ_23 hS (met_House_putInt l (w := w) 262 o 0 1263289138 _ σ_23 vl262_o (by decide) rfl rZ_0.i (rI_lit 1263289138 (by decide)) h) ⟨va_cnB 3 X.2.2.2.2 (lw_meth q687) rfl rfl rfl (hT.2.1 _ (List.mem_of_getElem? (i := 6) rfl)) (X.2.2.2.2 _ q131) (by decide +kernel) ⟨Nat.le_of_ble_eq_true rfl, Nat.le_of_ble_eq_true rfl⟩, X.2.2.2.2 _ q686, trivial⟩ rfl hl.1 rfl (by first | exact Nat.le_of_ble_eq_true rfl | simp [catK, catI, catR, catL]) dX6_writeHead_15 ⟨Nat.le_refl _, Nat.le_refl _⟩) hS (fun σ_25 H locs rkσ_25 h hWσ_25 hS => ?_)
  have h := h rkσ_25
  refine lv_aload_n X.1 X.2.1 dX6_writeHead_18 rfl (lv_at hl 0 rfl) ?_
  refine wg (v := .ref (wad w 262 o)) X hT hWσ_25 4 6 262 vl4_o rfl rfl (by decide) rfl (by decide) in_X6 q277 rfl dX6_writeHead_19 ?_
  refine lv_iconst (v := oI 4) X.1 X.2.1 dX6_writeHead_22 rfl ?_
  refine lv_iload_n X.1 X.2.1 dX6_writeHead_23 rfl (lv_at hl 2 rfl) ?_
  refine wr_V (rSN (As := [.ref (wad w 262 o), .int (oI 4), .int (oI x2)]) (rest := []) X hT hWσ_25 hS (met_House_putInt l (w := w) 262 o 4 x2 _ σ_25 vl262_o (by decide) rfl ((rB_lit 4 (by decide)).i) rx2 h) ⟨va_cnB 3 X.2.2.2.2 (lw_meth q687) rfl rfl rfl (hT.2.1 _ (List.mem_of_getElem? (i := 6) rfl)) (X.2.2.2.2 _ q131) (by decide +kernel) ⟨Nat.le_of_ble_eq_true rfl, Nat.le_of_ble_eq_true rfl⟩, X.2.2.2.2 _ q686, trivial⟩ rfl hl.1 rfl (by first | exact Nat.le_of_ble_eq_true rfl | simp [catK, catI, catR, catL]) dX6_writeHead_24 ⟨Nat.le_refl _, Nat.le_refl _⟩) hS (fun σ_27 H locs rkσ_27 h hWσ_27 hS => ?_)
  have h := h rkσ_27
  refine lv_aload_n X.1 X.2.1 dX6_writeHead_27 rfl (lv_at hl 0 rfl) ?_
  refine wg (v := .ref (wad w 262 o)) X hT hWσ_27 4 6 262 vl4_o rfl rfl (by decide) rfl (by decide) in_X6 q277 rfl dX6_writeHead_28 ?_
  refine lv_bipush (v := oI 8) X.1 X.2.1 dX6_writeHead_31 (by decide) ?_
  refine lv_aload_n X.1 X.2.1 dX6_writeHead_33 rfl (lv_at hl 0 rfl) ?_
  refine lv_dup X.1 X.2.1 dX6_writeHead_34 rfl ?_
  refine wg (v := .long (oL (gI σ_27 261 o))) X hT hWσ_27 4 5 261 vl4_o rfl rfl (by decide) rfl (by decide) in_X6 q276 rfl dX6_writeHead_35 ?_
  refine lv_lconst (v := oL 1) X.1 X.2.1 dX6_writeHead_38 (by decide) ?_
  refine w_ladd X dX6_writeHead_39 ?_
  refine lv_dup2_x1_2 X.1 X.2.1 dX6_writeHead_40 rfl rfl ?_
  refine wput (z := w64 ((gI σ_27 261 o) + 1)) X hT hWσ_27 hS 4 5 261 vl4_o rfl rfl (by decide) rfl (by decide) in_X6 tyX6 tyX6_ok nmX6 q276 rfl rfl (w64_r _) (fv1 w rfl) rfl rfl dX6_writeHead_41 (fun H locs hN hS => ?_)
  obtain ⟨σ_28, eσ_28⟩ : ∃ x, x = sI σ_27 261 o (w64 ((gI σ_27 261 o) + 1)) := ⟨_, rfl⟩
  have hWσ_28 : Wo w σ_28 H := eσ_28 ▸ hN
  have h := h σ_28 eσ_28
  clear hN
  refine wr_V (rSN (As := [.ref (wad w 262 o), .int (oI 8), .long (oL (w64 ((gI σ_27 261 o) + 1)))]) (rest := []) X hT hWσ_28 hS (met_House_putLong l (w := w) 262 o 8 (w64 ((gI σ_27 261 o) + 1)) _ σ_28 vl262_o (by decide) rfl ((rB_lit 8 (by decide)).i) (w64_r _) h) ⟨va_cnB 3 X.2.2.2.2 (lw_meth q761) rfl rfl rfl (hT.2.1 _ (List.mem_of_getElem? (i := 12) rfl)) (X.2.2.2.2 _ q131) (by decide +kernel) ⟨Nat.le_of_ble_eq_true rfl, Nat.le_of_ble_eq_true rfl⟩, X.2.2.2.2 _ q760, trivial⟩ rfl hl.1 rfl (by first | exact Nat.le_of_ble_eq_true rfl | simp [catK, catI, catR, catL]) dX6_writeHead_44 ⟨Nat.le_refl _, Nat.le_refl _⟩) hS (fun σ_30 H locs rkσ_30 h hWσ_30 hS => ?_)
  have h := h rkσ_30
  refine lv_aload_n X.1 X.2.1 dX6_writeHead_47 rfl (lv_at hl 0 rfl) ?_
  refine wg (v := .ref (wad w 262 o)) X hT hWσ_30 4 6 262 vl4_o rfl rfl (by decide) rfl (by decide) in_X6 q277 rfl dX6_writeHead_48 ?_
  refine lv_bipush (v := oI 16) X.1 X.2.1 dX6_writeHead_51 (by decide) ?_
  refine lv_iload_n X.1 X.2.1 dX6_writeHead_53 rfl (lv_at hl 3 rfl) ?_
  refine w_cut (pc2 := 62) (st2 := [.int (oI (if x3 = 0 then (0 : Int) else (1 : Int))), .int (oI 16), .ref (wad w 262 o)]) (fun hj => ?_) ?_
  · refine w_if_eq (tgt := 61) X rx3.i dX6_writeHead_54 (by decide) (fun hc => ?_) (fun hc => ?_)
    · refine lv_iconst (v := oI 0) X.1 X.2.1 dX6_writeHead_61 rfl ?_
      rw [if_pos hc] at hj; exact hj
    · refine lv_iconst (v := oI 1) X.1 X.2.1 dX6_writeHead_57 rfl ?_
      refine lv_goto (tgt := 62) X.1 X.2.1 dX6_writeHead_58 (by decide) ?_
      rw [if_neg hc] at hj; exact hj
  refine wr_V (rSN (As := [.ref (wad w 262 o), .int (oI 16), .int (oI (if x3 = 0 then (0 : Int) else (1 : Int)))]) (rest := []) X hT hWσ_30 hS (met_House_putInt l (w := w) 262 o 16 (if x3 = 0 then (0 : Int) else (1 : Int)) _ σ_30 vl262_o (by decide) rfl ((rB_lit 16 (by decide)).i) ((ite_rZ rZ_0 rZ_1).i) h) ⟨va_cnB 3 X.2.2.2.2 (lw_meth q687) rfl rfl rfl (hT.2.1 _ (List.mem_of_getElem? (i := 6) rfl)) (X.2.2.2.2 _ q131) (by decide +kernel) ⟨Nat.le_of_ble_eq_true rfl, Nat.le_of_ble_eq_true rfl⟩, X.2.2.2.2 _ q686, trivial⟩ rfl hl.1 rfl (by first | exact Nat.le_of_ble_eq_true rfl | simp [catK, catI, catR, catL]) dX6_writeHead_62 ⟨Nat.le_refl _, Nat.le_refl _⟩) hS (fun σ_32 H locs rkσ_32 h hWσ_32 hS => ?_)
  have h := h rkσ_32
  refine lv_aload_n X.1 X.2.1 dX6_writeHead_65 rfl (lv_at hl 0 rfl) ?_
  refine wg (v := .ref (wad w 262 o)) X hT hWσ_32 4 6 262 vl4_o rfl rfl (by decide) rfl (by decide) in_X6 q277 rfl dX6_writeHead_66 ?_
  refine lv_bipush (v := oI 20) X.1 X.2.1 dX6_writeHead_69 (by decide) ?_
  refine lv_iload X.1 X.2.1 dX6_writeHead_71 (lv_at hl 4 rfl) ?_
  refine wr_V (rSN (As := [.ref (wad w 262 o), .int (oI 20), .int (oI x4)]) (rest := []) X hT hWσ_32 hS (met_House_putInt l (w := w) 262 o 20 x4 _ σ_32 vl262_o (by decide) rfl ((rB_lit 20 (by decide)).i) rx4 h) ⟨va_cnB 3 X.2.2.2.2 (lw_meth q687) rfl rfl rfl (hT.2.1 _ (List.mem_of_getElem? (i := 6) rfl)) (X.2.2.2.2 _ q131) (by decide +kernel) ⟨Nat.le_of_ble_eq_true rfl, Nat.le_of_ble_eq_true rfl⟩, X.2.2.2.2 _ q686, trivial⟩ rfl hl.1 rfl (by first | exact Nat.le_of_ble_eq_true rfl | simp [catK, catI, catR, catL]) dX6_writeHead_73 ⟨Nat.le_refl _, Nat.le_refl _⟩) hS (fun σ_34 H locs rkσ_34 h hWσ_34 hS => ?_)
  have h := h rkσ_34
  refine lv_aload_n X.1 X.2.1 dX6_writeHead_76 rfl (lv_at hl 0 rfl) ?_
  refine wg (v := .ref (wad w 262 o)) X hT hWσ_34 4 6 262 vl4_o rfl rfl (by decide) rfl (by decide) in_X6 q277 rfl dX6_writeHead_77 ?_
  refine lv_bipush (v := oI 24) X.1 X.2.1 dX6_writeHead_80 (by decide) ?_
  refine lv_iload X.1 X.2.1 dX6_writeHead_82 (lv_at hl 5 rfl) ?_
  refine wr_V (rSN (As := [.ref (wad w 262 o), .int (oI 24), .int (oI x5)]) (rest := []) X hT hWσ_34 hS (met_House_putInt l (w := w) 262 o 24 x5 _ σ_34 vl262_o (by decide) rfl ((rB_lit 24 (by decide)).i) rx5 h) ⟨va_cnB 3 X.2.2.2.2 (lw_meth q687) rfl rfl rfl (hT.2.1 _ (List.mem_of_getElem? (i := 6) rfl)) (X.2.2.2.2 _ q131) (by decide +kernel) ⟨Nat.le_of_ble_eq_true rfl, Nat.le_of_ble_eq_true rfl⟩, X.2.2.2.2 _ q686, trivial⟩ rfl hl.1 rfl (by first | exact Nat.le_of_ble_eq_true rfl | simp [catK, catI, catR, catL]) dX6_writeHead_84 ⟨Nat.le_refl _, Nat.le_refl _⟩) hS (fun σ_36 H locs rkσ_36 h hWσ_36 hS => ?_)
  have h := h rkσ_36
  refine lv_aload_n X.1 X.2.1 dX6_writeHead_87 rfl (lv_at hl 0 rfl) ?_
  refine wg (v := .ref (wad w 262 o)) X hT hWσ_36 4 6 262 vl4_o rfl rfl (by decide) rfl (by decide) in_X6 q277 rfl dX6_writeHead_88 ?_
  refine lv_bipush (v := oI 28) X.1 X.2.1 dX6_writeHead_91 (by decide) ?_
  refine lv_iconst (v := oI (-1)) X.1 X.2.1 dX6_writeHead_93 rfl ?_
  refine lv_aload_n X.1 X.2.1 dX6_writeHead_94 rfl (lv_at hl 0 rfl) ?_
  refine wg (v := .ref (wad w 262 o)) X hT hWσ_36 4 6 262 vl4_o rfl rfl (by decide) rfl (by decide) in_X6 q277 rfl dX6_writeHead_95 ?_
  refine lv_iconst (v := oI 0) X.1 X.2.1 dX6_writeHead_98 rfl ?_
  refine lv_bipush (v := oI 28) X.1 X.2.1 dX6_writeHead_99 (by decide) ?_
  refine wr_I (rSN (As := [.int (oI (-1)), .ref (wad w 262 o), .int (oI 0), .int (oI 28)]) (rest := [.int (oI 28), .ref (wad w 262 o)]) X hT hWσ_36 hS (met_House_check l (w := w) (-1) 262 o 0 28 _ σ_36 ((rB_lit (-1) (by decide)).i) vl262_o (by decide) rfl rZ_0.i ((rB_lit 28 (by decide)).i) h) ⟨va_cnB 4 X.2.2.2.2 (lw_meth q690) rfl rfl rfl (hT.2.1 _ (List.mem_of_getElem? (i := 7) rfl)) (X.2.2.2.2 _ q131) (by decide +kernel) ⟨Nat.le_of_ble_eq_true rfl, Nat.le_of_ble_eq_true rfl⟩, X.2.2.2.2 _ q689, trivial⟩ rfl hl.1 rfl (by first | exact Nat.le_of_ble_eq_true rfl | simp [catK, catI, catR, catL]) dX6_writeHead_101 ⟨Nat.le_refl _, Nat.le_refl _⟩) hS (fun r_37 σ_38 H locs rr_37 rkσ_38 h hWσ_38 hS => ?_)
  have h := h rr_37 rkσ_38
  refine wr_V (rSN (As := [.ref (wad w 262 o), .int (oI 28), .int (oI r_37)]) (rest := []) X hT hWσ_38 hS (met_House_putInt l (w := w) 262 o 28 r_37 _ σ_38 vl262_o (by decide) rfl ((rB_lit 28 (by decide)).i) rr_37 h) ⟨va_cnB 3 X.2.2.2.2 (lw_meth q687) rfl rfl rfl (hT.2.1 _ (List.mem_of_getElem? (i := 6) rfl)) (X.2.2.2.2 _ q131) (by decide +kernel) ⟨Nat.le_of_ble_eq_true rfl, Nat.le_of_ble_eq_true rfl⟩, X.2.2.2.2 _ q686, trivial⟩ rfl hl.1 rfl (by first | exact Nat.le_of_ble_eq_true rfl | simp [catK, catI, catR, catL]) dX6_writeHead_104 ⟨Nat.le_refl _, Nat.le_refl _⟩) hS (fun σ_40 H locs rkσ_40 h hWσ_40 hS => ?_)
  have h := h rkσ_40
  refine lv_aload_n X.1 X.2.1 dX6_writeHead_107 rfl (lv_at hl 0 rfl) ?_
  refine wg (v := .ref (wad w 2 0)) X hT hWσ_40 4 0 256 vl4_o rfl rfl (by decide) rfl (by decide) in_X6 q269 rfl dX6_writeHead_108 ?_
  refine lv_iload_n X.1 X.2.1 dX6_writeHead_111 rfl (lv_at hl 1 rfl) ?_
  refine lv_iconst (v := oI 1) X.1 X.2.1 dX6_writeHead_112 rfl ?_
  refine lv_aload_n X.1 X.2.1 dX6_writeHead_113 rfl (lv_at hl 0 rfl) ?_
  refine wg (v := .ref (wad w 262 o)) X hT hWσ_40 4 6 262 vl4_o rfl rfl (by decide) rfl (by decide) in_X6 q277 rfl dX6_writeHead_114 ?_
  refine lv_iconst (v := oI 0) X.1 X.2.1 dX6_writeHead_117 rfl ?_
  refine wr_Z (rV (As := [.int (oI x1), .int (oI 1), .ref (wad w 262 o), .int (oI 0)]) (rest := []) X hT hWσ_40 hS (met_Flash_write l (w := w) hV x1 1 262 o 0 _ σ_40 rx1 rZ_1.i vl262_o (by decide) rfl rZ_0.i h) (cwV 4 X.2.2.2.2 (lw_V q693 q694 q695 q134 q696) rfl rfl rfl (by decide +kernel) ⟨Nat.le_of_ble_eq_true rfl, Nat.le_of_ble_eq_true rfl⟩) vl2_0 (by decide) rfl rfl hl.1 rfl (by first | exact Nat.le_of_ble_eq_true rfl | simp [catK, catI, catR, catL]) dX6_writeHead_118 ⟨Nat.le_refl _, Nat.le_refl _⟩) hS (fun r_41 σ_42 H locs rr_41 rkσ_42 h hWσ_42 hS => ?_)
  have h := h rr_41 rkσ_42
  exact wret_Z X hr hlk hWσ_42 hS rr_41 h dX6_writeHead_121
/-! Blocks.carry(III)V -/
set_option maxHeartbeats 4000000 in
set_option maxRecDepth 100000 in
theorem wk_Blocks_carry_b129 {p : Program} {l : Launch} {e : Env} {st : State} {m : MethodId} {args : Array Value} {below : List Frame} {meth : Method} {c : Code} {w : Wp} {o : Int} {x1 : Int} {x2 : Int} {x3 : Int} {Q : St → Prop} (X : CallFix p m c cX6_carry 7 st args lw_all RX6) (hr : meth.sig.returnType = none) (hlk : meth.locks = false) (hT : Tb w st) (hV : Hvl w) (ho : 0 ≤ o ∧ o < 2) (rx1 : rI x1) (rx2 : rI x2) (rx3 : rI x3) (K3 : Int → St → Prop) (hK3 : ∀ (y4 : Int) (σ : St) (H : Heap) (locs : List Loc) (ls : Array Slot), rZ y4 → lv_has ls 7 [(0, .ref (wad w 4 o)), (1, .int (oI x1)), (2, .int (oI x2)), (3, .int (oI x3)), (4, .int (oI y4))] → Wo w σ H → va_S (wA w) st.heap H locs → K3 y4 σ → W p l e (headSpec (ws_ yX6_carry cX6_carry 7 none) rm_Blocks_carry).room st m args below meth c H locs 0 0 (MQ below (QcV w Q) args st 0 0 (wA w)) (F0 m 3 ls [])) : ∀ (y4 : Int) (σ : St) (H : Heap) (locs : List Loc) (ls : Array Slot), rZ y4 → lv_has ls 7 [(0, .ref (wad w 4 o)), (1, .int (oI x1)), (2, .int (oI x2)), (3, .int (oI x3)), (4, .int (oI y4))] → Wo w σ H → va_S (wA w) st.heap H locs → wp_Blocks_carry_b129 (wc w) (wtv w) o x1 x2 x3 Q K3 y4 σ → W p l e (headSpec (ws_ yX6_carry cX6_carry 7 none) rm_Blocks_carry).room st m args below meth c H locs 0 0 (MQ below (QcV w Q) args st 0 0 (wA w)) (F0 m 129 ls []) := by

  intro y4 σ H locs ls ry4 hl hW hS h
  unfold wp_Blocks_carry_b129 at h
  refine lv_goto (tgt := 3) X.1 X.2.1 dX6_carry_129 (by decide) ?_
  exact hK3 y4 σ _ _ _ ry4 (lv_sub hl [0, 1, 2, 3, 4] rfl) hW hS h
set_option maxHeartbeats 4000000 in
set_option maxRecDepth 100000 in
theorem wk_Blocks_carry_b99 {p : Program} {l : Launch} {e : Env} {st : State} {m : MethodId} {args : Array Value} {below : List Frame} {meth : Method} {c : Code} {w : Wp} {o : Int} {x1 : Int} {x2 : Int} {x3 : Int} {Q : St → Prop} (X : CallFix p m c cX6_carry 7 st args lw_all RX6) (hr : meth.sig.returnType = none) (hlk : meth.locks = false) (hT : Tb w st) (hV : Hvl w) (ho : 0 ≤ o ∧ o < 2) (rx1 : rI x1) (rx2 : rI x2) (rx3 : rI x3) (K3 : Int → St → Prop) (hK3 : ∀ (y4 : Int) (σ : St) (H : Heap) (locs : List Loc) (ls : Array Slot), rZ y4 → lv_has ls 7 [(0, .ref (wad w 4 o)), (1, .int (oI x1)), (2, .int (oI x2)), (3, .int (oI x3)), (4, .int (oI y4))] → Wo w σ H → va_S (wA w) st.heap H locs → K3 y4 σ → W p l e (headSpec (ws_ yX6_carry cX6_carry 7 none) rm_Blocks_carry).room st m args below meth c H locs 0 0 (MQ below (QcV w Q) args st 0 0 (wA w)) (F0 m 3 ls [])) : ∀ (y4 y5 : Int) (σ : St) (H : Heap) (locs : List Loc) (ls : Array Slot), rZ y4 → rI y5 → lv_has ls 7 [(0, .ref (wad w 4 o)), (1, .int (oI x1)), (2, .int (oI x2)), (3, .int (oI x3)), (4, .int (oI y4)), (5, .int (oI y5))] → Wo w σ H → va_S (wA w) st.heap H locs → wp_Blocks_carry_b99 (wc w) (wtv w) o x1 x2 x3 Q K3 y4 y5 σ → W p l e (headSpec (ws_ yX6_carry cX6_carry 7 none) rm_Blocks_carry).room st m args below meth c H locs 0 0 (MQ below (QcV w Q) args st 0 0 (wA w)) (F0 m 99 ls []) := by
  have vl258_o : vl w 258 o := hV.hv 258 rfl ⟨by omega, by show _ < (2 : Int); omega⟩
  have vl259_o : vl w 259 o := hV.hv 259 rfl ⟨by omega, by show _ < (2 : Int); omega⟩
  have vl4_o : vl w 4 o := hV.hv 4 rfl ⟨by omega, by show _ < (2 : Int); omega⟩
  intro y4 y5 σ H locs ls ry4 ry5 hl hW hS h
  unfold wp_Blocks_carry_b99 at h
  refine lv_iload X.1 X.2.1 dX6_carry_99 (lv_at hl 4 rfl) ?_
  refine w_if_eq (tgt := 123) X ry4.i dX6_carry_101 (by decide) (fun hc => ?_) (fun hc => ?_)
  · have h := h.1 hc
    refine lv_aload_n X.1 X.2.1 dX6_carry_123 rfl (lv_at hl 0 rfl) ?_
    refine lv_iload X.1 X.2.1 dX6_carry_124 (lv_at hl 5 rfl) ?_
    refine wr_V (rV (As := [.int (oI y5)]) (rest := []) X hT hW hS (met_Blocks_lose l (w := w) hV o y5 _ σ (by omega) ry5 h) (cwV 1 X.2.2.2.2 (lw_V q704 q706 qs5 q137 q707) rfl rfl rfl (by decide +kernel) ⟨Nat.le_of_ble_eq_true rfl, Nat.le_of_ble_eq_true rfl⟩) vl4_o (by decide) rfl rfl hl.1 rfl (by first | exact Nat.le_of_ble_eq_true rfl | simp [catK, catI, catR, catL]) dX6_carry_126 ⟨Nat.le_refl _, Nat.le_refl _⟩) hS (fun σ_28 H locs rkσ_28 h hWσ_28 hS => ?_)
    have h := h rkσ_28
    exact wk_Blocks_carry_b129 X hr hlk hT hV ho rx1 rx2 rx3 K3 hK3 y4 σ_28 _ _ _ ry4 (lv_sub hl [0, 1, 2, 3, 4] rfl) hWσ_28 hS h
  · have h := h.2 hc
    refine lv_aload_n X.1 X.2.1 dX6_carry_104 rfl (lv_at hl 0 rfl) ?_
    refine wg (v := .ref (wad w 259 o)) X hT hW 4 3 259 vl4_o rfl rfl (by decide) rfl (by decide) in_X6 q274 rfl dX6_carry_105 ?_
    refine lv_iload X.1 X.2.1 dX6_carry_108 (lv_at hl 5 rfl) ?_
    refine lv_iload_n X.1 X.2.1 dX6_carry_110 rfl (lv_at hl 1 rfl) ?_
    obtain ⟨bi, h⟩ := h
    refine w_iast (n := (wc w).1) X hT hW hS 259 vl259_o (by decide) rfl rfl bi rx1 dX6_carry_111 (fun H locs hN hS => ?_)
    obtain ⟨σ_29, eσ_29⟩ : ∃ x, x = sA σ 259 o y5 x1 := ⟨_, rfl⟩
    have hWσ_29 : Wo w σ_29 H := eσ_29 ▸ hN
    have h := h σ_29 eσ_29
    clear hN
    refine lv_aload_n X.1 X.2.1 dX6_carry_112 rfl (lv_at hl 0 rfl) ?_
    refine wg (v := .ref (wad w 258 o)) X hT hWσ_29 4 2 258 vl4_o rfl rfl (by decide) rfl (by decide) in_X6 q273 rfl dX6_carry_113 ?_
    refine lv_iload_n X.1 X.2.1 dX6_carry_116 rfl (lv_at hl 1 rfl) ?_
    refine lv_iload X.1 X.2.1 dX6_carry_117 (lv_at hl 5 rfl) ?_
    obtain ⟨bi, h⟩ := h
    refine w_iast (n := ((wc w).1 - 6)) X hT hWσ_29 hS 258 vl258_o (by decide) rfl rfl bi ry5 dX6_carry_119 (fun H locs hN hS => ?_)
    obtain ⟨σ_30, eσ_30⟩ : ∃ x, x = sA σ_29 258 o x1 y5 := ⟨_, rfl⟩
    have hWσ_30 : Wo w σ_30 H := eσ_30 ▸ hN
    have h := h σ_30 eσ_30
    clear hN
    refine lv_goto (tgt := 129) X.1 X.2.1 dX6_carry_120 (by decide) ?_
    exact wk_Blocks_carry_b129 X hr hlk hT hV ho rx1 rx2 rx3 K3 hK3 y4 σ_30 _ _ _ ry4 (lv_sub hl [0, 1, 2, 3, 4] rfl) hWσ_30 hS h
set_option maxHeartbeats 4000000 in
set_option maxRecDepth 100000 in
theorem wk_Blocks_carry_L45B {p : Program} {l : Launch} {e : Env} {st : State} {m : MethodId} {args : Array Value} {below : List Frame} {meth : Method} {c : Code} {w : Wp} {o : Int} {x1 : Int} {x2 : Int} {x3 : Int} {Q : St → Prop} (X : CallFix p m c cX6_carry 7 st args lw_all RX6) (hr : meth.sig.returnType = none) (hlk : meth.locks = false) (hT : Tb w st) (hV : Hvl w) (ho : 0 ≤ o ∧ o < 2) (rx1 : rI x1) (rx2 : rI x2) (rx3 : rI x3) (K3 : Int → St → Prop) (K45 : Int → Int → Int → St → Prop) (hK3 : ∀ (y4 : Int) (σ : St) (H : Heap) (locs : List Loc) (ls : Array Slot), rZ y4 → lv_has ls 7 [(0, .ref (wad w 4 o)), (1, .int (oI x1)), (2, .int (oI x2)), (3, .int (oI x3)), (4, .int (oI y4))] → Wo w σ H → va_S (wA w) st.heap H locs → K3 y4 σ → W p l e (headSpec (ws_ yX6_carry cX6_carry 7 none) rm_Blocks_carry).room st m args below meth c H locs 0 0 (MQ below (QcV w Q) args st 0 0 (wA w)) (F0 m 3 ls [])) (hK45 : ∀ (y4 y5 y6 : Int) (σ : St) (H : Heap) (locs : List Loc) (ls : Array Slot), rZ y4 → rI y5 → rI y6 → lv_has ls 7 [(0, .ref (wad w 4 o)), (1, .int (oI x1)), (2, .int (oI x2)), (3, .int (oI x3)), (4, .int (oI y4)), (5, .int (oI y5)), (6, .int (oI y6))] → Wo w σ H → va_S (wA w) st.heap H locs → K45 y4 y5 y6 σ → W p l e (headSpec (ws_ yX6_carry cX6_carry 7 none) rm_Blocks_carry).room st m args below meth c H locs 0 0 (MQ below (QcV w Q) args st 0 0 (wA w)) (F0 m 45 ls [])) : ∀ (y4 y5 y6 : Int) (σ : St) (H : Heap) (locs : List Loc) (ls : Array Slot), rZ y4 → rI y5 → rI y6 → lv_has ls 7 [(0, .ref (wad w 4 o)), (1, .int (oI x1)), (2, .int (oI x2)), (3, .int (oI x3)), (4, .int (oI y4)), (5, .int (oI y5)), (6, .int (oI y6))] → Wo w σ H → va_S (wA w) st.heap H locs → wp_Blocks_carry_L45 (wc w) (wtv w) o x1 x2 x3 Q K3 K45 y4 y5 y6 σ → W p l e (headSpec (ws_ yX6_carry cX6_carry 7 none) rm_Blocks_carry).room st m args below meth c H locs 0 0 (MQ below (QcV w Q) args st 0 0 (wA w)) (F0 m 45 ls []) := by
  have vl2_0 : vl w 2 0 := hV.hv 2 rfl ⟨by omega, by show _ < (1 : Int); omega⟩
  have vl263_o : vl w 263 o := hV.hv 263 rfl ⟨by omega, by show _ < (2 : Int); omega⟩
  have vl4_o : vl w 4 o := hV.hv 4 rfl ⟨by omega, by show _ < (2 : Int); omega⟩
  intro y4 y5 y6 σ H locs ls ry4 ry5 ry6 hl hW hS h
  unfold wp_Blocks_carry_L45 at h
  refine lv_iload X.1 X.2.1 dX6_carry_45 (lv_at hl 6 rfl) ?_
  refine lv_iload_n X.1 X.2.1 dX6_carry_47 rfl (lv_at hl 3 rfl) ?_
  refine w_icmp_ge (tgt := 99) X ry6 rx3 dX6_carry_48 (by decide) (fun hc => ?_) (fun hc => ?_)
  · have h := h.1 hc
    exact wk_Blocks_carry_b99 X hr hlk hT hV ho rx1 rx2 rx3 K3 hK3 y4 y5 σ _ _ _ ry4 ry5 (lv_sub hl [0, 1, 2, 3, 4, 5] rfl) hW hS h
  · have h := h.2 hc
    refine lv_iload X.1 X.2.1 dX6_carry_51 (lv_at hl 4 rfl) ?_
    refine w_if_eq (tgt := 99) X ry4.i dX6_carry_53 (by decide) (fun hc => ?_) (fun hc => ?_)
    · have h := h.1 hc
      exact wk_Blocks_carry_b99 X hr hlk hT hV ho rx1 rx2 rx3 K3 hK3 y4 y5 σ _ _ _ ry4 ry5 (lv_sub hl [0, 1, 2, 3, 4, 5] rfl) hW hS h
    · have h := h.2 hc
      refine lv_aload_n X.1 X.2.1 dX6_carry_56 rfl (lv_at hl 0 rfl) ?_
      refine wg (v := .ref (wad w 2 0)) X hT hW 4 0 256 vl4_o rfl rfl (by decide) rfl (by decide) in_X6 q269 rfl dX6_carry_57 ?_
      refine lv_iload_n X.1 X.2.1 dX6_carry_60 rfl (lv_at hl 2 rfl) ?_
      refine lv_iconst (v := oI 2) X.1 X.2.1 dX6_carry_61 rfl ?_
      refine lv_iload X.1 X.2.1 dX6_carry_62 (lv_at hl 6 rfl) ?_
      refine w_iadd X dX6_carry_64 ?_
      refine lv_aload_n X.1 X.2.1 dX6_carry_65 rfl (lv_at hl 0 rfl) ?_
      refine wg (v := .ref (wad w 263 o)) X hT hW 4 7 263 vl4_o rfl rfl (by decide) rfl (by decide) in_X6 q278 rfl dX6_carry_66 ?_
      refine lv_iconst (v := oI 0) X.1 X.2.1 dX6_carry_69 rfl ?_
      refine wr_V (rV (As := [.int (oI x2), .int (oI (w32 (2 + y6))), .ref (wad w 263 o), .int (oI 0)]) (rest := []) X hT hW hS (met_Flash_read l (w := w) hV x2 (w32 (2 + y6)) 263 o 0 _ σ rx2 (w32_r _) vl263_o (by decide) rfl rZ_0.i h) (cwV 4 X.2.2.2.2 (lw_V q889 q890 q891 q134 q892) rfl rfl rfl (by decide +kernel) ⟨Nat.le_of_ble_eq_true rfl, Nat.le_of_ble_eq_true rfl⟩) vl2_0 (by decide) rfl rfl hl.1 rfl (by first | exact Nat.le_of_ble_eq_true rfl | simp [catK, catI, catR, catL]) dX6_carry_70 ⟨Nat.le_refl _, Nat.le_refl _⟩) hS (fun σ_32 H locs rkσ_32 h hWσ_32 hS => ?_)
      have h := h rkσ_32
      refine lv_aload_n X.1 X.2.1 dX6_carry_73 rfl (lv_at hl 0 rfl) ?_
      refine wg (v := .ref (wad w 2 0)) X hT hWσ_32 4 0 256 vl4_o rfl rfl (by decide) rfl (by decide) in_X6 q269 rfl dX6_carry_74 ?_
      refine lv_iload X.1 X.2.1 dX6_carry_77 (lv_at hl 5 rfl) ?_
      refine lv_iconst (v := oI 2) X.1 X.2.1 dX6_carry_79 rfl ?_
      refine lv_iload X.1 X.2.1 dX6_carry_80 (lv_at hl 6 rfl) ?_
      refine w_iadd X dX6_carry_82 ?_
      refine lv_aload_n X.1 X.2.1 dX6_carry_83 rfl (lv_at hl 0 rfl) ?_
      refine wg (v := .ref (wad w 263 o)) X hT hWσ_32 4 7 263 vl4_o rfl rfl (by decide) rfl (by decide) in_X6 q278 rfl dX6_carry_84 ?_
      refine lv_iconst (v := oI 0) X.1 X.2.1 dX6_carry_87 rfl ?_
      refine wr_Z (rV (As := [.int (oI y5), .int (oI (w32 (2 + y6))), .ref (wad w 263 o), .int (oI 0)]) (rest := []) X hT hWσ_32 hS (met_Flash_write l (w := w) hV y5 (w32 (2 + y6)) 263 o 0 _ σ_32 ry5 (w32_r _) vl263_o (by decide) rfl rZ_0.i h) (cwV 4 X.2.2.2.2 (lw_V q693 q694 q695 q134 q696) rfl rfl rfl (by decide +kernel) ⟨Nat.le_of_ble_eq_true rfl, Nat.le_of_ble_eq_true rfl⟩) vl2_0 (by decide) rfl rfl hl.1 rfl (by first | exact Nat.le_of_ble_eq_true rfl | simp [catK, catI, catR, catL]) dX6_carry_88 ⟨Nat.le_refl _, Nat.le_refl _⟩) hS (fun r_33 σ_34 H locs rr_33 rkσ_34 h hWσ_34 hS => ?_)
      have h := h rr_33 rkσ_34
      refine lv_istore (i := 4) (lv' := [(4, .int (oI r_33)), (0, .ref (wad w 4 o)), (1, .int (oI x1)), (2, .int (oI x2)), (3, .int (oI x3)), (5, .int (oI y5)), (6, .int (oI y6))]) X.1 X.2.1 dX6_carry_91 hl (by decide) (by first | rfl | simp [catK, catI, catR, catL]) (fun ls hl => ?_)
      obtain ⟨y6_35, ey6_35⟩ : ∃ y : Int, y = w32 (y6 + 1) := ⟨_, rfl⟩
      have h := h y6_35 ey6_35
      have ry6_35 : rI y6_35 := by rw [ey6_35]; exact w32_r _
      refine lv_iinc (v := oI y6_35) (lv' := [(6, .int (oI y6_35)), (4, .int (oI r_33)), (0, .ref (wad w 4 o)), (1, .int (oI x1)), (2, .int (oI x2)), (3, .int (oI x3)), (5, .int (oI y5))]) X.1 X.2.1 dX6_carry_93 hl (k := 6) rfl (by rw [ey6_35]; exact oI_add _ _) (by decide) (by first | rfl | simp [catK, catI, catR, catL]) (fun ls hl => ?_)
      refine lv_goto (tgt := 45) X.1 X.2.1 dX6_carry_96 (by decide) ?_
      exact hK45 r_33 y5 y6_35 σ_34 _ _ _ rr_33 ry5 ry6_35 (lv_sub hl [2, 3, 4, 5, 1, 6, 0] rfl) hWσ_34 hS h
theorem wk_Blocks_carry_L45 {p : Program} {l : Launch} {e : Env} {st : State} {m : MethodId} {args : Array Value} {below : List Frame} {meth : Method} {c : Code} {w : Wp} {o : Int} {x1 : Int} {x2 : Int} {x3 : Int} {Q : St → Prop} (X : CallFix p m c cX6_carry 7 st args lw_all RX6) (hr : meth.sig.returnType = none) (hlk : meth.locks = false) (hT : Tb w st) (hV : Hvl w) (ho : 0 ≤ o ∧ o < 2) (rx1 : rI x1) (rx2 : rI x2) (rx3 : rI x3) (K3 : Int → St → Prop) (hK3 : ∀ (y4 : Int) (σ : St) (H : Heap) (locs : List Loc) (ls : Array Slot), rZ y4 → lv_has ls 7 [(0, .ref (wad w 4 o)), (1, .int (oI x1)), (2, .int (oI x2)), (3, .int (oI x3)), (4, .int (oI y4))] → Wo w σ H → va_S (wA w) st.heap H locs → K3 y4 σ → W p l e (headSpec (ws_ yX6_carry cX6_carry 7 none) rm_Blocks_carry).room st m args below meth c H locs 0 0 (MQ below (QcV w Q) args st 0 0 (wA w)) (F0 m 3 ls [])) : ∀ (y4 y5 y6 : Int) (σ : St) (H : Heap) (locs : List Loc) (ls : Array Slot), rZ y4 → rI y5 → rI y6 → lv_has ls 7 [(0, .ref (wad w 4 o)), (1, .int (oI x1)), (2, .int (oI x2)), (3, .int (oI x3)), (4, .int (oI y4)), (5, .int (oI y5)), (6, .int (oI y6))] → Wo w σ H → va_S (wA w) st.heap H locs → lQ3 (wp_Blocks_carry_L45 (wc w) (wtv w) o x1 x2 x3 Q K3) y4 y5 y6 σ → W p l e (headSpec (ws_ yX6_carry cX6_carry 7 none) rm_Blocks_carry).room st m args below meth c H locs 0 0 (MQ below (QcV w Q) args st 0 0 (wA w)) (F0 m 45 ls []) := by
  intro y4 y5 y6 σ H locs ls ry4 ry5 ry6 hl hW hS h
  obtain ⟨fu, h⟩ := h
  induction fu generalizing y4 y5 y6 σ H locs ls with
  | zero => exact h.elim
  | succ fu ih =>
    exact wk_Blocks_carry_L45B X hr hlk hT hV ho rx1 rx2 rx3 K3 (lq3 (wp_Blocks_carry_L45 (wc w) (wtv w) o x1 x2 x3 Q K3) fu) hK3 (fun y4 y5 y6 σ H locs ls ry4 ry5 ry6 hl hW hS h => ih y4 y5 y6 σ H locs ls ry4 ry5 ry6 hl hW hS h) y4 y5 y6 σ H locs ls ry4 ry5 ry6 hl hW hS h
set_option maxHeartbeats 4000000 in
set_option maxRecDepth 100000 in
theorem wk_Blocks_carry_L3B {p : Program} {l : Launch} {e : Env} {st : State} {m : MethodId} {args : Array Value} {below : List Frame} {meth : Method} {c : Code} {w : Wp} {o : Int} {x1 : Int} {x2 : Int} {x3 : Int} {Q : St → Prop} (X : CallFix p m c cX6_carry 7 st args lw_all RX6) (hr : meth.sig.returnType = none) (hlk : meth.locks = false) (hT : Tb w st) (hV : Hvl w) (ho : 0 ≤ o ∧ o < 2) (rx1 : rI x1) (rx2 : rI x2) (rx3 : rI x3) (K3 : Int → St → Prop) (hK3 : ∀ (y4 : Int) (σ : St) (H : Heap) (locs : List Loc) (ls : Array Slot), rZ y4 → lv_has ls 7 [(0, .ref (wad w 4 o)), (1, .int (oI x1)), (2, .int (oI x2)), (3, .int (oI x3)), (4, .int (oI y4))] → Wo w σ H → va_S (wA w) st.heap H locs → K3 y4 σ → W p l e (headSpec (ws_ yX6_carry cX6_carry 7 none) rm_Blocks_carry).room st m args below meth c H locs 0 0 (MQ below (QcV w Q) args st 0 0 (wA w)) (F0 m 3 ls [])) : ∀ (y4 : Int) (σ : St) (H : Heap) (locs : List Loc) (ls : Array Slot), rZ y4 → lv_has ls 7 [(0, .ref (wad w 4 o)), (1, .int (oI x1)), (2, .int (oI x2)), (3, .int (oI x3)), (4, .int (oI y4))] → Wo w σ H → va_S (wA w) st.heap H locs → wp_Blocks_carry_L3 (wc w) (wtv w) o x1 x2 x3 Q K3 y4 σ → W p l e (headSpec (ws_ yX6_carry cX6_carry 7 none) rm_Blocks_carry).room st m args below meth c H locs 0 0 (MQ below (QcV w Q) args st 0 0 (wA w)) (F0 m 3 ls []) := by
  have vl4_o : vl w 4 o := hV.hv 4 rfl ⟨by omega, by show _ < (2 : Int); omega⟩
  intro y4 σ H locs ls ry4 hl hW hS h
  unfold wp_Blocks_carry_L3 at h
  refine lv_iload X.1 X.2.1 dX6_carry_3 (lv_at hl 4 rfl) ?_
  refine w_if_ne (tgt := 132) X ry4.i dX6_carry_5 (by decide) (fun hc => ?_) (fun hc => ?_)
  · have h := h.1 hc
    exact wret_V X hr hlk hW hS h dX6_carry_132
  · have h := h.2 hc
    refine lv_aload_n X.1 X.2.1 dX6_carry_8 rfl (lv_at hl 0 rfl) ?_
    refine wr_I (rV (As := []) (rest := []) X hT hW hS (met_Blocks_fetch l (w := w) hV o _ σ (by omega) h) (cwV 0 X.2.2.2.2 (lw_V q868 q870 qs11 q137 q871) rfl rfl rfl (by decide +kernel) ⟨Nat.le_of_ble_eq_true rfl, Nat.le_of_ble_eq_true rfl⟩) vl4_o (by decide) rfl rfl hl.1 rfl (by first | exact Nat.le_of_ble_eq_true rfl | simp [catK, catI, catR, catL]) dX6_carry_9 ⟨Nat.le_refl _, Nat.le_refl _⟩) hS (fun r_36 σ_37 H locs rr_36 rkσ_37 h hWσ_37 hS => ?_)
    have h := h rr_36 rkσ_37
    refine lv_istore (i := 5) (lv' := [(5, .int (oI r_36)), (0, .ref (wad w 4 o)), (1, .int (oI x1)), (2, .int (oI x2)), (3, .int (oI x3)), (4, .int (oI y4))]) X.1 X.2.1 dX6_carry_12 hl (by decide) (by first | rfl | simp [catK, catI, catR, catL]) (fun ls hl => ?_)
    refine lv_iload X.1 X.2.1 dX6_carry_14 (lv_at hl 0 rfl) ?_
    refine lv_iconst (v := oI (-1)) X.1 X.2.1 dX6_carry_16 rfl ?_
    refine w_icmp_ne (tgt := 30) X rr_36 ((rB_lit (-1) (by decide)).i) dX6_carry_17 (by decide) (fun hc => ?_) (fun hc => ?_)
    · have h := h.1 hc
      refine lv_aload_n X.1 X.2.1 dX6_carry_30 rfl (lv_at hl 1 rfl) ?_
      refine lv_iload X.1 X.2.1 dX6_carry_31 (lv_at hl 0 rfl) ?_
      refine lv_iload_n X.1 X.2.1 dX6_carry_33 rfl (lv_at hl 2 rfl) ?_
      refine lv_iconst (v := oI 0) X.1 X.2.1 dX6_carry_34 rfl ?_
      refine lv_iconst (v := oI 0) X.1 X.2.1 dX6_carry_35 rfl ?_
      refine lv_iconst (v := oI 0) X.1 X.2.1 dX6_carry_36 rfl ?_
      refine wr_Z (rV (As := [.int (oI r_36), .int (oI x1), .int (oI 0), .int (oI 0), .int (oI 0)]) (rest := []) X hT hWσ_37 hS (met_Blocks_writeHead l (w := w) hV o r_36 x1 0 0 0 _ σ_37 (by omega) rr_36 rx1 rZ_0 rZ_0.i rZ_0.i h) (cwV 5 X.2.2.2.2 (lw_V q883 q885 qs13 q137 q886) rfl rfl rfl (by decide +kernel) ⟨Nat.le_of_ble_eq_true rfl, Nat.le_of_ble_eq_true rfl⟩) vl4_o (by decide) rfl rfl hl.1 rfl (by first | exact Nat.le_of_ble_eq_true rfl | simp [catK, catI, catR, catL]) dX6_carry_37 ⟨Nat.le_refl _, Nat.le_refl _⟩) hS (fun r_38 σ_39 H locs rr_38 rkσ_39 h hWσ_39 hS => ?_)
      have h := h rr_38 rkσ_39
      refine lv_istore (i := 4) (lv' := [(4, .int (oI r_38)), (5, .int (oI r_36)), (0, .ref (wad w 4 o)), (1, .int (oI x1)), (2, .int (oI x2)), (3, .int (oI x3))]) X.1 X.2.1 dX6_carry_40 hl (by decide) (by first | rfl | simp [catK, catI, catR, catL]) (fun ls hl => ?_)
      refine lv_iconst (v := oI 0) X.1 X.2.1 dX6_carry_42 rfl ?_
      refine lv_istore (i := 6) (lv' := [(6, .int (oI 0)), (4, .int (oI r_38)), (5, .int (oI r_36)), (0, .ref (wad w 4 o)), (1, .int (oI x1)), (2, .int (oI x2)), (3, .int (oI x3))]) X.1 X.2.1 dX6_carry_43 hl (by decide) (by first | rfl | simp [catK, catI, catR, catL]) (fun ls hl => ?_)
      exact wk_Blocks_carry_L45 X hr hlk hT hV ho rx1 rx2 rx3 K3 hK3 r_38 r_36 0 σ_39 _ _ _ rr_38 rr_36 rZ_0.i (lv_sub hl [3, 4, 5, 6, 1, 2, 0] rfl) hWσ_39 hS h
    · have h := h.2 hc
      exact h.elim
theorem wk_Blocks_carry_L3 {p : Program} {l : Launch} {e : Env} {st : State} {m : MethodId} {args : Array Value} {below : List Frame} {meth : Method} {c : Code} {w : Wp} {o : Int} {x1 : Int} {x2 : Int} {x3 : Int} {Q : St → Prop} (X : CallFix p m c cX6_carry 7 st args lw_all RX6) (hr : meth.sig.returnType = none) (hlk : meth.locks = false) (hT : Tb w st) (hV : Hvl w) (ho : 0 ≤ o ∧ o < 2) (rx1 : rI x1) (rx2 : rI x2) (rx3 : rI x3) : ∀ (y4 : Int) (σ : St) (H : Heap) (locs : List Loc) (ls : Array Slot), rZ y4 → lv_has ls 7 [(0, .ref (wad w 4 o)), (1, .int (oI x1)), (2, .int (oI x2)), (3, .int (oI x3)), (4, .int (oI y4))] → Wo w σ H → va_S (wA w) st.heap H locs → lQ1 (wp_Blocks_carry_L3 (wc w) (wtv w) o x1 x2 x3 Q) y4 σ → W p l e (headSpec (ws_ yX6_carry cX6_carry 7 none) rm_Blocks_carry).room st m args below meth c H locs 0 0 (MQ below (QcV w Q) args st 0 0 (wA w)) (F0 m 3 ls []) := by
  intro y4 σ H locs ls ry4 hl hW hS h
  obtain ⟨fu, h⟩ := h
  induction fu generalizing y4 σ H locs ls with
  | zero => exact h.elim
  | succ fu ih =>
    exact wk_Blocks_carry_L3B X hr hlk hT hV ho rx1 rx2 rx3 (lq1 (wp_Blocks_carry_L3 (wc w) (wtv w) o x1 x2 x3 Q) fu) (fun y4 σ H locs ls ry4 hl hW hS h => ih y4 σ H locs ls ry4 hl hW hS h) y4 σ H locs ls ry4 hl hW hS h
set_option maxHeartbeats 4000000 in
set_option maxRecDepth 100000 in
theorem met_Blocks_carry (l : Launch) {w : Wp} (hV : Hvl w) (o : Int) (x1 : Int) (x2 : Int) (x3 : Int) (Q : St → Prop) (σ : St) (ho : 0 ≤ o ∧ o < 2) (rx1 : rI x1) (rx2 : rI x2) (rx3 : rI x3) (h : wp_Blocks_carry (wc w) (wtv w) o x1 x2 x3 Q σ) : Met l yX6_carry (ws_ yX6_carry cX6_carry 7 none) rm_Blocks_carry (PcW w σ [.ref (wad w 4 o), .int (oI x1), .int (oI x2), .int (oI x3)]) (QcV w Q) 0 0 (wA w) := by
  refine Met.ofW (cc := cX6_carry) (maxL := 7) (ret := none) (by decide) rfl ?_
  intro p e st m args below meth c s₁ B hml hv
  obtain ⟨hargs, hW, hT⟩ := hv
  have X : CallFix p m c cX6_carry 7 st _ lw_all RX6 := ⟨B.exec, B.bytes, hml, findClass_of_methodNamed B.named, fun w h => atoms_spec (ws := ws_ yX6_carry cX6_carry 7 none) B.pre w (List.mem_cons_of_mem _ h)⟩
  have hr := B.returns
  have hlk := B.notSynchronized
  have hS : va_S (wA w) st.heap st.heap [] := va_S.rf
  have vl4_o : vl w 4 o := hV.hv 4 rfl ⟨by omega, by show _ < (2 : Int); omega⟩
  have hl := lv_entry ([.ref (wad w 4 o), .int (oI x1), .int (oI x2), .int (oI x3)]) (n := 7) (Nat.le_of_ble_eq_true rfl)
  have hfr := lg_entry_eq m ([.ref (wad w 4 o), .int (oI x1), .int (oI x2), .int (oI x3)]) 7
  rw [← hargs] at hfr
  rw [hfr]
  generalize (lg_sl ([.ref (wad w 4 o), .int (oI x1), .int (oI x2), .int (oI x3)]) ++ List.replicate (7 - (lg_sl ([.ref (wad w 4 o), .int (oI x1), .int (oI x2), .int (oI x3)])).length) Slot.unset).toArray = ls at hl ⊢
  have hl : lv_has ls 7 [(0, .ref (wad w 4 o)), (1, .int (oI x1)), (2, .int (oI x2)), (3, .int (oI x3))] := hl
  unfold wp_Blocks_carry at h
  refine lv_iconst (v := oI 0) X.1 X.2.1 dX6_carry_0 rfl ?_
  refine lv_istore (i := 4) (lv' := [(4, .int (oI 0)), (0, .ref (wad w 4 o)), (1, .int (oI x1)), (2, .int (oI x2)), (3, .int (oI x3))]) X.1 X.2.1 dX6_carry_1 hl (by decide) (by first | rfl | simp [catK, catI, catR, catL]) (fun ls hl => ?_)
  exact wk_Blocks_carry_L3 X hr hlk hT hV ho rx1 rx2 rx3 0 σ _ _ _ rZ_0 (lv_sub hl [1, 2, 3, 4, 0] rfl) hW hS h
/-! Blocks.write(II[BI)V -/
set_option maxHeartbeats 4000000 in
set_option maxRecDepth 100000 in
theorem wk_Blocks_write_L22B {p : Program} {l : Launch} {e : Env} {st : State} {m : MethodId} {args : Array Value} {below : List Frame} {meth : Method} {c : Code} {w : Wp} {o : Int} {x1 : Int} {x2 : Int} {x3f : Nat} {x3o : Int} {x4 : Int} {Q : St → Prop} (X : CallFix p m c cX6_write 6 st args lw_all RX6) (hr : meth.sig.returnType = none) (hlk : meth.locks = false) (hT : Tb w st) (hV : Hvl w) (ho : 0 ≤ o ∧ o < 2) (rx1 : rI x1) (rx2 : rI x2) (vx3 : vl w x3f x3o) (nx3 : ¬ x3f < 64) (tx3 : aty x3f = 1) (rx4 : rI x4) (K22 : St → Prop) (hK22 : ∀ (σ : St) (H : Heap) (locs : List Loc) (ls : Array Slot), lv_has ls 6 [(0, .ref (wad w 4 o)), (1, .int (oI x1)), (2, .int (oI x2)), (3, .ref (wad w x3f x3o)), (4, .int (oI x4))] → Wo w σ H → va_S (wA w) st.heap H locs → K22 σ → W p l e (headSpec (ws_ yX6_write cX6_write 6 none) rm_Blocks_write).room st m args below meth c H locs 0 0 (MQ below (QcV w Q) args st 0 0 (wA w)) (F0 m 22 ls [])) : ∀ (σ : St) (H : Heap) (locs : List Loc) (ls : Array Slot), lv_has ls 6 [(0, .ref (wad w 4 o)), (1, .int (oI x1)), (2, .int (oI x2)), (3, .ref (wad w x3f x3o)), (4, .int (oI x4))] → Wo w σ H → va_S (wA w) st.heap H locs → wp_Blocks_write_L22 (wc w) (wtv w) o x1 x2 x3f x3o x4 Q K22 σ → W p l e (headSpec (ws_ yX6_write cX6_write 6 none) rm_Blocks_write).room st m args below meth c H locs 0 0 (MQ below (QcV w Q) args st 0 0 (wA w)) (F0 m 22 ls []) := by
  have vl2_0 : vl w 2 0 := hV.hv 2 rfl ⟨by omega, by show _ < (1 : Int); omega⟩
  have vl258_o : vl w 258 o := hV.hv 258 rfl ⟨by omega, by show _ < (2 : Int); omega⟩
  have vl4_o : vl w 4 o := hV.hv 4 rfl ⟨by omega, by show _ < (2 : Int); omega⟩
  intro σ H locs ls hl hW hS h
  unfold wp_Blocks_write_L22 at h
  refine lv_aload_n X.1 X.2.1 dX6_write_22 rfl (lv_at hl 0 rfl) ?_
  refine wg (v := .ref (wad w 2 0)) X hT hW 4 0 256 vl4_o rfl rfl (by decide) rfl (by decide) in_X6 q269 rfl dX6_write_23 ?_
  refine lv_aload_n X.1 X.2.1 dX6_write_26 rfl (lv_at hl 0 rfl) ?_
  refine wg (v := .ref (wad w 258 o)) X hT hW 4 2 258 vl4_o rfl rfl (by decide) rfl (by decide) in_X6 q273 rfl dX6_write_27 ?_
  refine lv_iload_n X.1 X.2.1 dX6_write_30 rfl (lv_at hl 1 rfl) ?_
  obtain ⟨bi, h⟩ := h
  refine w_iald (n := ((wc w).1 - 6)) X hT hW 258 vl258_o (by decide) rfl rfl bi dX6_write_31 ?_
  refine lv_iconst (v := oI 2) X.1 X.2.1 dX6_write_32 rfl ?_
  refine lv_iload_n X.1 X.2.1 dX6_write_33 rfl (lv_at hl 2 rfl) ?_
  refine w_iadd X dX6_write_34 ?_
  refine lv_aload_n X.1 X.2.1 dX6_write_35 rfl (lv_at hl 3 rfl) ?_
  refine lv_iload X.1 X.2.1 dX6_write_36 (lv_at hl 4 rfl) ?_
  refine wr_Z (rV (As := [.int (oI (gA σ 258 o x1)), .int (oI (w32 (2 + x2))), .ref (wad w x3f x3o), .int (oI x4)]) (rest := []) X hT hW hS (met_Flash_write l (w := w) hV (gA σ 258 o x1) (w32 (2 + x2)) x3f x3o x4 _ σ (hW.r.ai 258 o x1 rfl) (w32_r _) vx3 nx3 tx3 rx4 h) (cwV 4 X.2.2.2.2 (lw_V q693 q694 q695 q134 q696) rfl rfl rfl (by decide +kernel) ⟨Nat.le_of_ble_eq_true rfl, Nat.le_of_ble_eq_true rfl⟩) vl2_0 (by decide) rfl rfl hl.1 rfl (by first | exact Nat.le_of_ble_eq_true rfl | simp [catK, catI, catR, catL]) dX6_write_38 ⟨Nat.le_refl _, Nat.le_refl _⟩) hS (fun r_12 σ_13 H locs rr_12 rkσ_13 h hWσ_13 hS => ?_)
  have h := h rr_12 rkσ_13
  refine w_if_ne (tgt := 69) X rr_12.i dX6_write_41 (by decide) (fun hc => ?_) (fun hc => ?_)
  · have h := h.1 hc
    exact wret_V X hr hlk hWσ_13 hS h dX6_write_69
  · have h := h.2 hc
    refine lv_aload_n X.1 X.2.1 dX6_write_44 rfl (lv_at hl 0 rfl) ?_
    refine wg (v := .ref (wad w 258 o)) X hT hWσ_13 4 2 258 vl4_o rfl rfl (by decide) rfl (by decide) in_X6 q273 rfl dX6_write_45 ?_
    refine lv_iload_n X.1 X.2.1 dX6_write_48 rfl (lv_at hl 1 rfl) ?_
    obtain ⟨bi, h⟩ := h
    refine w_iald (n := ((wc w).1 - 6)) X hT hWσ_13 258 vl258_o (by decide) rfl rfl bi dX6_write_49 ?_
    refine w_top (fun y5_14 ey5_14 => ?_)
    have h := h y5_14 ey5_14
    have ry5_14 : rI y5_14 := by rw [ey5_14]; exact (hWσ_13.r.ai 258 o x1 rfl)
    refine lv_istore (i := 5) (lv' := [(5, .int (oI y5_14)), (0, .ref (wad w 4 o)), (1, .int (oI x1)), (2, .int (oI x2)), (3, .ref (wad w x3f x3o)), (4, .int (oI x4))]) X.1 X.2.1 dX6_write_50 hl (by decide) (by first | rfl | simp [catK, catI, catR, catL]) (fun ls hl => ?_)
    refine lv_aload_n X.1 X.2.1 dX6_write_52 rfl (lv_at hl 1 rfl) ?_
    refine lv_iload_n X.1 X.2.1 dX6_write_53 rfl (lv_at hl 2 rfl) ?_
    refine lv_iload X.1 X.2.1 dX6_write_54 (lv_at hl 0 rfl) ?_
    refine lv_iload_n X.1 X.2.1 dX6_write_56 rfl (lv_at hl 3 rfl) ?_
    refine wr_V (rV (As := [.int (oI x1), .int (oI y5_14), .int (oI x2)]) (rest := []) X hT hWσ_13 hS (met_Blocks_carry l (w := w) hV o x1 y5_14 x2 _ σ_13 (by omega) rx1 ry5_14 rx2 h) (cwV 3 X.2.2.2.2 (lw_V q864 q866 qs10 q137 q867) rfl rfl rfl (by decide +kernel) ⟨Nat.le_of_ble_eq_true rfl, Nat.le_of_ble_eq_true rfl⟩) vl4_o (by decide) rfl rfl hl.1 rfl (by first | exact Nat.le_of_ble_eq_true rfl | simp [catK, catI, catR, catL]) dX6_write_57 ⟨Nat.le_refl _, Nat.le_refl _⟩) hS (fun σ_16 H locs rkσ_16 h hWσ_16 hS => ?_)
    have h := h rkσ_16
    refine lv_aload_n X.1 X.2.1 dX6_write_60 rfl (lv_at hl 1 rfl) ?_
    refine lv_iload X.1 X.2.1 dX6_write_61 (lv_at hl 0 rfl) ?_
    refine wr_V (rV (As := [.int (oI y5_14)]) (rest := []) X hT hWσ_16 hS (met_Blocks_lose l (w := w) hV o y5_14 _ σ_16 (by omega) ry5_14 h) (cwV 1 X.2.2.2.2 (lw_V q704 q706 qs5 q137 q707) rfl rfl rfl (by decide +kernel) ⟨Nat.le_of_ble_eq_true rfl, Nat.le_of_ble_eq_true rfl⟩) vl4_o (by decide) rfl rfl hl.1 rfl (by first | exact Nat.le_of_ble_eq_true rfl | simp [catK, catI, catR, catL]) dX6_write_63 ⟨Nat.le_refl _, Nat.le_refl _⟩) hS (fun σ_18 H locs rkσ_18 h hWσ_18 hS => ?_)
    have h := h rkσ_18
    refine lv_goto (tgt := 22) X.1 X.2.1 dX6_write_66 (by decide) ?_
    exact hK22 σ_18 _ _ _ (lv_sub hl [1, 2, 3, 4, 5] rfl) hWσ_18 hS h
theorem wk_Blocks_write_L22 {p : Program} {l : Launch} {e : Env} {st : State} {m : MethodId} {args : Array Value} {below : List Frame} {meth : Method} {c : Code} {w : Wp} {o : Int} {x1 : Int} {x2 : Int} {x3f : Nat} {x3o : Int} {x4 : Int} {Q : St → Prop} (X : CallFix p m c cX6_write 6 st args lw_all RX6) (hr : meth.sig.returnType = none) (hlk : meth.locks = false) (hT : Tb w st) (hV : Hvl w) (ho : 0 ≤ o ∧ o < 2) (rx1 : rI x1) (rx2 : rI x2) (vx3 : vl w x3f x3o) (nx3 : ¬ x3f < 64) (tx3 : aty x3f = 1) (rx4 : rI x4) : ∀ (σ : St) (H : Heap) (locs : List Loc) (ls : Array Slot), lv_has ls 6 [(0, .ref (wad w 4 o)), (1, .int (oI x1)), (2, .int (oI x2)), (3, .ref (wad w x3f x3o)), (4, .int (oI x4))] → Wo w σ H → va_S (wA w) st.heap H locs → lQ0 (wp_Blocks_write_L22 (wc w) (wtv w) o x1 x2 x3f x3o x4 Q) σ → W p l e (headSpec (ws_ yX6_write cX6_write 6 none) rm_Blocks_write).room st m args below meth c H locs 0 0 (MQ below (QcV w Q) args st 0 0 (wA w)) (F0 m 22 ls []) := by
  intro σ H locs ls hl hW hS h
  obtain ⟨fu, h⟩ := h
  induction fu generalizing σ H locs ls with
  | zero => exact h.elim
  | succ fu ih =>
    exact wk_Blocks_write_L22B X hr hlk hT hV ho rx1 rx2 vx3 nx3 tx3 rx4 (lq0 (wp_Blocks_write_L22 (wc w) (wtv w) o x1 x2 x3f x3o x4 Q) fu) (fun σ H locs ls hl hW hS h => ih σ H locs ls hl hW hS h) σ H locs ls hl hW hS h
set_option maxHeartbeats 4000000 in
set_option maxRecDepth 100000 in
theorem met_Blocks_write (l : Launch) {w : Wp} (hV : Hvl w) (o : Int) (x1 : Int) (x2 : Int) (x3f : Nat) (x3o : Int) (x4 : Int) (Q : St → Prop) (σ : St) (ho : 0 ≤ o ∧ o < 2) (rx1 : rI x1) (rx2 : rI x2) (vx3 : vl w x3f x3o) (nx3 : ¬ x3f < 64) (tx3 : aty x3f = 1) (rx4 : rI x4) (h : wp_Blocks_write (wc w) (wtv w) o x1 x2 x3f x3o x4 Q σ) : Met l yX6_write (ws_ yX6_write cX6_write 6 none) rm_Blocks_write (PcW w σ [.ref (wad w 4 o), .int (oI x1), .int (oI x2), .ref (wad w x3f x3o), .int (oI x4)]) (QcV w Q) 0 0 (wA w) := by
  refine Met.ofW (cc := cX6_write) (maxL := 6) (ret := none) (by decide) rfl ?_
  intro p e st m args below meth c s₁ B hml hv
  obtain ⟨hargs, hW, hT⟩ := hv
  have X : CallFix p m c cX6_write 6 st _ lw_all RX6 := ⟨B.exec, B.bytes, hml, findClass_of_methodNamed B.named, fun w h => atoms_spec (ws := ws_ yX6_write cX6_write 6 none) B.pre w (List.mem_cons_of_mem _ h)⟩
  have hr := B.returns
  have hlk := B.notSynchronized
  have hS : va_S (wA w) st.heap st.heap [] := va_S.rf
  have vl258_o : vl w 258 o := hV.hv 258 rfl ⟨by omega, by show _ < (2 : Int); omega⟩
  have vl4_o : vl w 4 o := hV.hv 4 rfl ⟨by omega, by show _ < (2 : Int); omega⟩
  have hl := lv_entry ([.ref (wad w 4 o), .int (oI x1), .int (oI x2), .ref (wad w x3f x3o), .int (oI x4)]) (n := 6) (Nat.le_of_ble_eq_true rfl)
  have hfr := lg_entry_eq m ([.ref (wad w 4 o), .int (oI x1), .int (oI x2), .ref (wad w x3f x3o), .int (oI x4)]) 6
  rw [← hargs] at hfr
  rw [hfr]
  generalize (lg_sl ([.ref (wad w 4 o), .int (oI x1), .int (oI x2), .ref (wad w x3f x3o), .int (oI x4)]) ++ List.replicate (6 - (lg_sl ([.ref (wad w 4 o), .int (oI x1), .int (oI x2), .ref (wad w x3f x3o), .int (oI x4)])).length) Slot.unset).toArray = ls at hl ⊢
  have hl : lv_has ls 6 [(0, .ref (wad w 4 o)), (1, .int (oI x1)), (2, .int (oI x2)), (3, .ref (wad w x3f x3o)), (4, .int (oI x4))] := hl
  unfold wp_Blocks_write at h
  refine lv_aload_n X.1 X.2.1 dX6_write_0 rfl (lv_at hl 0 rfl) ?_
  refine lv_iload_n X.1 X.2.1 dX6_write_1 rfl (lv_at hl 1 rfl) ?_
  refine wr_V (rV (As := [.int (oI x1)]) (rest := []) X hT hW hS (met_Blocks_stopMove l (w := w) hV o x1 _ σ (by omega) rx1 h) (cwV 1 X.2.2.2.2 (lw_V q779 q781 qs7 q137 q782) rfl rfl rfl (by decide +kernel) ⟨Nat.le_of_ble_eq_true rfl, Nat.le_of_ble_eq_true rfl⟩) vl4_o (by decide) rfl rfl hl.1 rfl (by first | exact Nat.le_of_ble_eq_true rfl | simp [catK, catI, catR, catL]) dX6_write_2 ⟨Nat.le_refl _, Nat.le_refl _⟩) hS (fun σ_20 H locs rkσ_20 h hWσ_20 hS => ?_)
  have h := h rkσ_20
  refine lv_aload_n X.1 X.2.1 dX6_write_5 rfl (lv_at hl 0 rfl) ?_
  refine wg (v := .ref (wad w 258 o)) X hT hWσ_20 4 2 258 vl4_o rfl rfl (by decide) rfl (by decide) in_X6 q273 rfl dX6_write_6 ?_
  refine lv_iload_n X.1 X.2.1 dX6_write_9 rfl (lv_at hl 1 rfl) ?_
  obtain ⟨bi, h⟩ := h
  refine w_iald (n := ((wc w).1 - 6)) X hT hWσ_20 258 vl258_o (by decide) rfl rfl bi dX6_write_10 ?_
  refine lv_iconst (v := oI (-1)) X.1 X.2.1 dX6_write_11 rfl ?_
  refine w_icmp_ne (tgt := 22) X (hWσ_20.r.ai 258 o x1 rfl) ((rB_lit (-1) (by decide)).i) dX6_write_12 (by decide) (fun hc => ?_) (fun hc => ?_)
  · have h := h.1 hc
    exact wk_Blocks_write_L22 X hr hlk hT hV ho rx1 rx2 vx3 nx3 tx3 rx4 σ_20 _ _ _ (lv_sub hl [0, 1, 2, 3, 4] rfl) hWσ_20 hS h
  · have h := h.2 hc
    refine lv_aload_n X.1 X.2.1 dX6_write_15 rfl (lv_at hl 0 rfl) ?_
    refine lv_iload_n X.1 X.2.1 dX6_write_16 rfl (lv_at hl 1 rfl) ?_
    refine lv_iconst (v := oI (-1)) X.1 X.2.1 dX6_write_17 rfl ?_
    refine lv_iconst (v := oI 0) X.1 X.2.1 dX6_write_18 rfl ?_
    refine wr_V (rV (As := [.int (oI x1), .int (oI (-1)), .int (oI 0)]) (rest := []) X hT hWσ_20 hS (met_Blocks_carry l (w := w) hV o x1 (-1) 0 _ σ_20 (by omega) rx1 ((rB_lit (-1) (by decide)).i) rZ_0.i h) (cwV 3 X.2.2.2.2 (lw_V q864 q866 qs10 q137 q867) rfl rfl rfl (by decide +kernel) ⟨Nat.le_of_ble_eq_true rfl, Nat.le_of_ble_eq_true rfl⟩) vl4_o (by decide) rfl rfl hl.1 rfl (by first | exact Nat.le_of_ble_eq_true rfl | simp [catK, catI, catR, catL]) dX6_write_19 ⟨Nat.le_refl _, Nat.le_refl _⟩) hS (fun σ_22 H locs rkσ_22 h hWσ_22 hS => ?_)
    have h := h rkσ_22
    exact wk_Blocks_write_L22 X hr hlk hT hV ho rx1 rx2 vx3 nx3 tx3 rx4 σ_22 _ _ _ (lv_sub hl [0, 1, 2, 3, 4] rfl) hWσ_22 hS h
/-! Writer.put([BII)I -/
set_option maxHeartbeats 4000000 in
set_option maxRecDepth 100000 in
theorem wk_Writer_put_b81 {p : Program} {l : Launch} {e : Env} {st : State} {m : MethodId} {args : Array Value} {below : List Frame} {meth : Method} {c : Code} {w : Wp} {o : Int} {x1f : Nat} {x1o : Int} {x2 : Int} {x3 : Int} {Q : Int → St → Prop} (X : CallFix p m c cX10_put 6 st args lw_all RX10) (hr : meth.sig.returnType = (some .int)) (hlk : meth.locks = false) (hT : Tb w st) (hV : Hvl w) (ho : 0 ≤ o ∧ o < 6) (vx1 : vl w x1f x1o) (nx1 : ¬ x1f < 64) (tx1 : aty x1f = 1) (rx2 : rI x2) (rx3 : rI x3) (K9 : Int → Int → St → Prop) (hK9 : ∀ (y4 y5 : Int) (σ : St) (H : Heap) (locs : List Loc) (ls : Array Slot), rI y4 → rI y5 → lv_has ls 6 [(0, .ref (wad w 7 o)), (1, .ref (wad w x1f x1o)), (2, .int (oI x2)), (3, .int (oI x3)), (4, .int (oI y4)), (5, .int (oI y5))] → Wo w σ H → va_S (wA w) st.heap H locs → K9 y4 y5 σ → W p l e (headSpec (ws_ yX10_put cX10_put 6 (some .int)) rm_Writer_put).room st m args below meth c H locs 0 0 (MQ below (QcI w Q) args st 0 0 (wA w)) (F0 m 9 ls [])) : ∀ (y4 y5 : Int) (σ : St) (H : Heap) (locs : List Loc) (ls : Array Slot), rI y4 → rI y5 → lv_has ls 6 [(0, .ref (wad w 7 o)), (1, .ref (wad w x1f x1o)), (2, .int (oI x2)), (3, .int (oI x3)), (4, .int (oI y4)), (5, .int (oI y5))] → Wo w σ H → va_S (wA w) st.heap H locs → wp_Writer_put_b81 (wc w) (wtv w) o x1f x1o x2 x3 Q K9 y4 y5 σ → W p l e (headSpec (ws_ yX10_put cX10_put 6 (some .int)) rm_Writer_put).room st m args below meth c H locs 0 0 (MQ below (QcI w Q) args st 0 0 (wA w)) (F0 m 81 ls []) := by

  intro y4 y5 σ H locs ls ry4 ry5 hl hW hS h
  unfold wp_Writer_put_b81 at h
  obtain ⟨y5_19, ey5_19⟩ : ∃ y : Int, y = w32 (y5 + 1) := ⟨_, rfl⟩
  have h := h y5_19 ey5_19
  have ry5_19 : rI y5_19 := by rw [ey5_19]; exact w32_r _
  refine lv_iinc (v := oI y5_19) (lv' := [(5, .int (oI y5_19)), (0, .ref (wad w 7 o)), (1, .ref (wad w x1f x1o)), (2, .int (oI x2)), (3, .int (oI x3)), (4, .int (oI y4))]) X.1 X.2.1 dX10_put_81 hl (k := 5) rfl (by rw [ey5_19]; exact oI_add _ _) (by decide) (by first | rfl | simp [catK, catI, catR, catL]) (fun ls hl => ?_)
  refine lv_goto (tgt := 9) X.1 X.2.1 dX10_put_84 (by decide) ?_
  exact hK9 y4 y5_19 σ _ _ _ ry4 ry5_19 (lv_sub hl [1, 2, 3, 4, 5, 0] rfl) hW hS h
set_option maxHeartbeats 4000000 in
set_option maxRecDepth 100000 in
theorem wk_Writer_put_L9B {p : Program} {l : Launch} {e : Env} {st : State} {m : MethodId} {args : Array Value} {below : List Frame} {meth : Method} {c : Code} {w : Wp} {o : Int} {x1f : Nat} {x1o : Int} {x2 : Int} {x3 : Int} {Q : Int → St → Prop} (X : CallFix p m c cX10_put 6 st args lw_all RX10) (hr : meth.sig.returnType = (some .int)) (hlk : meth.locks = false) (hT : Tb w st) (hV : Hvl w) (ho : 0 ≤ o ∧ o < 6) (vx1 : vl w x1f x1o) (nx1 : ¬ x1f < 64) (tx1 : aty x1f = 1) (rx2 : rI x2) (rx3 : rI x3) (K9 : Int → Int → St → Prop) (hK9 : ∀ (y4 y5 : Int) (σ : St) (H : Heap) (locs : List Loc) (ls : Array Slot), rI y4 → rI y5 → lv_has ls 6 [(0, .ref (wad w 7 o)), (1, .ref (wad w x1f x1o)), (2, .int (oI x2)), (3, .int (oI x3)), (4, .int (oI y4)), (5, .int (oI y5))] → Wo w σ H → va_S (wA w) st.heap H locs → K9 y4 y5 σ → W p l e (headSpec (ws_ yX10_put cX10_put 6 (some .int)) rm_Writer_put).room st m args below meth c H locs 0 0 (MQ below (QcI w Q) args st 0 0 (wA w)) (F0 m 9 ls [])) : ∀ (y4 y5 : Int) (σ : St) (H : Heap) (locs : List Loc) (ls : Array Slot), rI y4 → rI y5 → lv_has ls 6 [(0, .ref (wad w 7 o)), (1, .ref (wad w x1f x1o)), (2, .int (oI x2)), (3, .int (oI x3)), (4, .int (oI y4)), (5, .int (oI y5))] → Wo w σ H → va_S (wA w) st.heap H locs → wp_Writer_put_L9 (wc w) (wtv w) o x1f x1o x2 x3 Q K9 y4 y5 σ → W p l e (headSpec (ws_ yX10_put cX10_put 6 (some .int)) rm_Writer_put).room st m args below meth c H locs 0 0 (MQ below (QcI w Q) args st 0 0 (wA w)) (F0 m 9 ls []) := by
  have vl4_o_2 : vl w 4 (o % 2) := hV.hv 4 rfl ⟨by omega, by show _ < (2 : Int); omega⟩
  have vl450_o : vl w 450 o := hV.hv 450 rfl ⟨by omega, by show _ < (6 : Int); omega⟩
  have vl7_o : vl w 7 o := hV.hv 7 rfl ⟨by omega, by show _ < (6 : Int); omega⟩
  intro y4 y5 σ H locs ls ry4 ry5 hl hW hS h
  unfold wp_Writer_put_L9 at h
  refine lv_iload X.1 X.2.1 dX10_put_9 (lv_at hl 5 rfl) ?_
  refine lv_iload_n X.1 X.2.1 dX10_put_11 rfl (lv_at hl 3 rfl) ?_
  refine w_icmp_ge (tgt := 87) X ry5 rx3 dX10_put_12 (by decide) (fun hc => ?_) (fun hc => ?_)
  · have h := h.1 hc
    refine lv_iload X.1 X.2.1 dX10_put_87 (lv_at hl 4 rfl) ?_
    exact wret_I X hr hlk hW hS ry4 h dX10_put_89
  · have h := h.2 hc
    refine lv_aload_n X.1 X.2.1 dX10_put_15 rfl (lv_at hl 0 rfl) ?_
    refine wg (v := .ref (wad w 450 o)) X hT hW 7 2 450 vl7_o rfl rfl (by decide) rfl (by decide) in_X10 q507 rfl dX10_put_16 ?_
    refine lv_aload_n X.1 X.2.1 dX10_put_19 rfl (lv_at hl 0 rfl) ?_
    refine wg (v := .int (oI (gI σ 452 o))) X hT hW 7 4 452 vl7_o rfl rfl (by decide) rfl (by decide) in_X10 q510 rfl dX10_put_20 ?_
    refine lv_sipush (v := oI 128) X.1 X.2.1 dX10_put_23 (by decide) ?_
    refine w_irem X (hW.r.i 452 o rfl) (rI_lit 128 (by decide)) (by decide) dX10_put_26 ?_
    refine lv_aload_n X.1 X.2.1 dX10_put_27 rfl (lv_at hl 1 rfl) ?_
    refine lv_iload_n X.1 X.2.1 dX10_put_28 rfl (lv_at hl 2 rfl) ?_
    refine lv_iload X.1 X.2.1 dX10_put_29 (lv_at hl 5 rfl) ?_
    refine w_iadd X dX10_put_31 ?_
    obtain ⟨bi, h⟩ := h
    refine w_bald (n := (aln (wc w) x1f x1o)) X hT hW x1f vx1 nx1 tx1 rfl bi dX10_put_32 ?_
    obtain ⟨bi, h⟩ := h
    refine w_bast (n := 128) X hT hW hS 450 vl450_o (by decide) rfl rfl bi (hW.r.ab x1f x1o (w32 (x2 + y5)) tx1) dX10_put_33 (fun H locs hN hS => ?_)
    obtain ⟨σ_20, eσ_20⟩ : ∃ x, x = sA σ 450 o (jrm (gI σ 452 o) 128) (gA σ x1f x1o (w32 (x2 + y5))) := ⟨_, rfl⟩
    have hWσ_20 : Wo w σ_20 H := eσ_20 ▸ hN
    have h := h σ_20 eσ_20
    clear hN
    refine lv_aload_n X.1 X.2.1 dX10_put_34 rfl (lv_at hl 0 rfl) ?_
    refine lv_dup X.1 X.2.1 dX10_put_35 rfl ?_
    refine wg (v := .int (oI (gI σ_20 452 o))) X hT hWσ_20 7 4 452 vl7_o rfl rfl (by decide) rfl (by decide) in_X10 q510 rfl dX10_put_36 ?_
    refine lv_iconst (v := oI 1) X.1 X.2.1 dX10_put_39 rfl ?_
    refine w_iadd X dX10_put_40 ?_
    refine wput (z := w32 ((gI σ_20 452 o) + 1)) X hT hWσ_20 hS 7 4 452 vl7_o rfl rfl (by decide) rfl (by decide) in_X10 tyX10 tyX10_ok nmX10 q510 rfl rfl (w32_r _) (fv0 w rfl) rfl rfl dX10_put_41 (fun H locs hN hS => ?_)
    obtain ⟨σ_21, eσ_21⟩ : ∃ x, x = sI σ_20 452 o (w32 ((gI σ_20 452 o) + 1)) := ⟨_, rfl⟩
    have hWσ_21 : Wo w σ_21 H := eσ_21 ▸ hN
    have h := h σ_21 eσ_21
    clear hN
    refine lv_aload_n X.1 X.2.1 dX10_put_44 rfl (lv_at hl 0 rfl) ?_
    refine wg (v := .int (oI (gI σ_21 452 o))) X hT hWσ_21 7 4 452 vl7_o rfl rfl (by decide) rfl (by decide) in_X10 q510 rfl dX10_put_45 ?_
    refine lv_sipush (v := oI 128) X.1 X.2.1 dX10_put_48 (by decide) ?_
    refine w_irem X (hWσ_21.r.i 452 o rfl) (rI_lit 128 (by decide)) (by decide) dX10_put_51 ?_
    refine w_if_ne (tgt := 81) X (jrm_r _ _) dX10_put_52 (by decide) (fun hc => ?_) (fun hc => ?_)
    · have h := h.1 hc
      exact wk_Writer_put_b81 X hr hlk hT hV ho vx1 nx1 tx1 rx2 rx3 K9 hK9 y4 y5 σ_21 _ _ _ ry4 ry5 (lv_sub hl [0, 1, 2, 3, 4, 5] rfl) hWσ_21 hS h
    · have h := h.2 hc
      refine lv_aload_n X.1 X.2.1 dX10_put_55 rfl (lv_at hl 0 rfl) ?_
      refine wg (v := .ref (wad w 4 (o % 2))) X hT hWσ_21 7 0 448 vl7_o rfl rfl (by decide) rfl (by decide) in_X10 q505 rfl dX10_put_56 ?_
      refine lv_aload_n X.1 X.2.1 dX10_put_59 rfl (lv_at hl 0 rfl) ?_
      refine wg (v := .int (oI (gI σ_21 451 o))) X hT hWσ_21 7 3 451 vl7_o rfl rfl (by decide) rfl (by decide) in_X10 q508 rfl dX10_put_60 ?_
      refine lv_aload_n X.1 X.2.1 dX10_put_63 rfl (lv_at hl 0 rfl) ?_
      refine wg (v := .int (oI (gI σ_21 452 o))) X hT hWσ_21 7 4 452 vl7_o rfl rfl (by decide) rfl (by decide) in_X10 q510 rfl dX10_put_64 ?_
      refine lv_sipush (v := oI 128) X.1 X.2.1 dX10_put_67 (by decide) ?_
      refine w_idiv X (hWσ_21.r.i 452 o rfl) (rI_lit 128 (by decide)) (by decide) dX10_put_70 ?_
      refine lv_iconst (v := oI 1) X.1 X.2.1 dX10_put_71 rfl ?_
      refine w_isub X dX10_put_72 ?_
      refine lv_aload_n X.1 X.2.1 dX10_put_73 rfl (lv_at hl 0 rfl) ?_
      refine wg (v := .ref (wad w 450 o)) X hT hWσ_21 7 2 450 vl7_o rfl rfl (by decide) rfl (by decide) in_X10 q507 rfl dX10_put_74 ?_
      refine lv_iconst (v := oI 0) X.1 X.2.1 dX10_put_77 rfl ?_
      refine wr_V (rV (As := [.int (oI (gI σ_21 451 o)), .int (oI (w32 ((jdv (gI σ_21 452 o) 128) - 1))), .ref (wad w 450 o), .int (oI 0)]) (rest := []) X hT hWσ_21 hS (met_Blocks_write l (w := w) hV (o % 2) (gI σ_21 451 o) (w32 ((jdv (gI σ_21 452 o) 128) - 1)) 450 o 0 _ σ_21 (by omega) (hWσ_21.r.i 451 o rfl) (w32_r _) vl450_o (by decide) rfl rZ_0.i h) (cwV 4 X.2.2.2.2 (lw_V q860 q861 q862 q137 q863) rfl rfl rfl (by decide +kernel) ⟨Nat.le_of_ble_eq_true rfl, Nat.le_of_ble_eq_true rfl⟩) vl4_o_2 (by decide) rfl rfl hl.1 rfl (by first | exact Nat.le_of_ble_eq_true rfl | simp [catK, catI, catR, catL]) dX10_put_78 ⟨Nat.le_refl _, Nat.le_refl _⟩) hS (fun σ_23 H locs rkσ_23 h hWσ_23 hS => ?_)
      have h := h rkσ_23
      exact wk_Writer_put_b81 X hr hlk hT hV ho vx1 nx1 tx1 rx2 rx3 K9 hK9 y4 y5 σ_23 _ _ _ ry4 ry5 (lv_sub hl [0, 1, 2, 3, 4, 5] rfl) hWσ_23 hS h
theorem wk_Writer_put_L9 {p : Program} {l : Launch} {e : Env} {st : State} {m : MethodId} {args : Array Value} {below : List Frame} {meth : Method} {c : Code} {w : Wp} {o : Int} {x1f : Nat} {x1o : Int} {x2 : Int} {x3 : Int} {Q : Int → St → Prop} (X : CallFix p m c cX10_put 6 st args lw_all RX10) (hr : meth.sig.returnType = (some .int)) (hlk : meth.locks = false) (hT : Tb w st) (hV : Hvl w) (ho : 0 ≤ o ∧ o < 6) (vx1 : vl w x1f x1o) (nx1 : ¬ x1f < 64) (tx1 : aty x1f = 1) (rx2 : rI x2) (rx3 : rI x3) : ∀ (y4 y5 : Int) (σ : St) (H : Heap) (locs : List Loc) (ls : Array Slot), rI y4 → rI y5 → lv_has ls 6 [(0, .ref (wad w 7 o)), (1, .ref (wad w x1f x1o)), (2, .int (oI x2)), (3, .int (oI x3)), (4, .int (oI y4)), (5, .int (oI y5))] → Wo w σ H → va_S (wA w) st.heap H locs → lQ2 (wp_Writer_put_L9 (wc w) (wtv w) o x1f x1o x2 x3 Q) y4 y5 σ → W p l e (headSpec (ws_ yX10_put cX10_put 6 (some .int)) rm_Writer_put).room st m args below meth c H locs 0 0 (MQ below (QcI w Q) args st 0 0 (wA w)) (F0 m 9 ls []) := by
  intro y4 y5 σ H locs ls ry4 ry5 hl hW hS h
  obtain ⟨fu, h⟩ := h
  induction fu generalizing y4 y5 σ H locs ls with
  | zero => exact h.elim
  | succ fu ih =>
    exact wk_Writer_put_L9B X hr hlk hT hV ho vx1 nx1 tx1 rx2 rx3 (lq2 (wp_Writer_put_L9 (wc w) (wtv w) o x1f x1o x2 x3 Q) fu) (fun y4 y5 σ H locs ls ry4 ry5 hl hW hS h => ih y4 y5 σ H locs ls ry4 ry5 hl hW hS h) y4 y5 σ H locs ls ry4 ry5 hl hW hS h
set_option maxHeartbeats 4000000 in
set_option maxRecDepth 100000 in
theorem met_Writer_put (l : Launch) {w : Wp} (hV : Hvl w) (o : Int) (x1f : Nat) (x1o : Int) (x2 : Int) (x3 : Int) (Q : Int → St → Prop) (σ : St) (ho : 0 ≤ o ∧ o < 6) (vx1 : vl w x1f x1o) (nx1 : ¬ x1f < 64) (tx1 : aty x1f = 1) (rx2 : rI x2) (rx3 : rI x3) (h : wp_Writer_put (wc w) (wtv w) o x1f x1o x2 x3 Q σ) : Met l yX10_put (ws_ yX10_put cX10_put 6 (some .int)) rm_Writer_put (PcW w σ [.ref (wad w 7 o), .ref (wad w x1f x1o), .int (oI x2), .int (oI x3)]) (QcI w Q) 0 0 (wA w) := by
  refine Met.ofW (cc := cX10_put) (maxL := 6) (ret := (some .int)) (by decide) rfl ?_
  intro p e st m args below meth c s₁ B hml hv
  obtain ⟨hargs, hW, hT⟩ := hv
  have X : CallFix p m c cX10_put 6 st _ lw_all RX10 := ⟨B.exec, B.bytes, hml, findClass_of_methodNamed B.named, fun w h => atoms_spec (ws := ws_ yX10_put cX10_put 6 (some .int)) B.pre w (List.mem_cons_of_mem _ h)⟩
  have hr := B.returns
  have hlk := B.notSynchronized
  have hS : va_S (wA w) st.heap st.heap [] := va_S.rf
  have vl7_o : vl w 7 o := hV.hv 7 rfl ⟨by omega, by show _ < (6 : Int); omega⟩
  have hl := lv_entry ([.ref (wad w 7 o), .ref (wad w x1f x1o), .int (oI x2), .int (oI x3)]) (n := 6) (Nat.le_of_ble_eq_true rfl)
  have hfr := lg_entry_eq m ([.ref (wad w 7 o), .ref (wad w x1f x1o), .int (oI x2), .int (oI x3)]) 6
  rw [← hargs] at hfr
  rw [hfr]
  generalize (lg_sl ([.ref (wad w 7 o), .ref (wad w x1f x1o), .int (oI x2), .int (oI x3)]) ++ List.replicate (6 - (lg_sl ([.ref (wad w 7 o), .ref (wad w x1f x1o), .int (oI x2), .int (oI x3)])).length) Slot.unset).toArray = ls at hl ⊢
  have hl : lv_has ls 6 [(0, .ref (wad w 7 o)), (1, .ref (wad w x1f x1o)), (2, .int (oI x2)), (3, .int (oI x3))] := hl
  unfold wp_Writer_put at h
  refine lv_aload_n X.1 X.2.1 dX10_put_0 rfl (lv_at hl 0 rfl) ?_
  refine wg (v := .int (oI (gI σ 452 o))) X hT hW 7 4 452 vl7_o rfl rfl (by decide) rfl (by decide) in_X10 q510 rfl dX10_put_1 ?_
  refine w_top (fun y4_24 ey4_24 => ?_)
  have h := h y4_24 ey4_24
  have ry4_24 : rI y4_24 := by rw [ey4_24]; exact (hW.r.i 452 o rfl)
  refine lv_istore (i := 4) (lv' := [(4, .int (oI y4_24)), (0, .ref (wad w 7 o)), (1, .ref (wad w x1f x1o)), (2, .int (oI x2)), (3, .int (oI x3))]) X.1 X.2.1 dX10_put_4 hl (by decide) (by first | rfl | simp [catK, catI, catR, catL]) (fun ls hl => ?_)
  refine lv_iconst (v := oI 0) X.1 X.2.1 dX10_put_6 rfl ?_
  refine lv_istore (i := 5) (lv' := [(5, .int (oI 0)), (4, .int (oI y4_24)), (0, .ref (wad w 7 o)), (1, .ref (wad w x1f x1o)), (2, .int (oI x2)), (3, .int (oI x3))]) X.1 X.2.1 dX10_put_7 hl (by decide) (by first | rfl | simp [catK, catI, catR, catL]) (fun ls hl => ?_)
  exact wk_Writer_put_L9 X hr hlk hT hV ho vx1 nx1 tx1 rx2 rx3 y4_24 0 σ _ _ _ ry4_24 rZ_0.i (lv_sub hl [2, 3, 4, 5, 1, 0] rfl) hW hS h
/-! Writer.takes(I)Z -/
set_option maxHeartbeats 4000000 in
set_option maxRecDepth 100000 in
theorem met_Writer_takes (l : Launch) {w : Wp} (hV : Hvl w) (o : Int) (x1 : Int) (Q : Int → St → Prop) (σ : St) (ho : 0 ≤ o ∧ o < 6) (rx1 : rI x1) (h : wp_Writer_takes (wc w) (wtv w) o x1 Q σ) : Met l yX10_takes (ws_ yX10_takes cX10_takes 2 (some .boolean)) rm_Writer_takes (PcW w σ [.ref (wad w 7 o), .int (oI x1)]) (QcZ w Q) 0 0 (wA w) := by
  refine Met.ofW (cc := cX10_takes) (maxL := 2) (ret := (some .boolean)) (by decide) rfl ?_
  intro p e st m args below meth c s₁ B hml hv
  obtain ⟨hargs, hW, hT⟩ := hv
  have X : CallFix p m c cX10_takes 2 st _ lw_all RX10 := ⟨B.exec, B.bytes, hml, findClass_of_methodNamed B.named, fun w h => atoms_spec (ws := ws_ yX10_takes cX10_takes 2 (some .boolean)) B.pre w (List.mem_cons_of_mem _ h)⟩
  have hr := B.returns
  have hlk := B.notSynchronized
  have hS : va_S (wA w) st.heap st.heap [] := va_S.rf
  have vl5_o_2 : vl w 5 (o % 2) := hV.hv 5 rfl ⟨by omega, by show _ < (2 : Int); omega⟩
  have vl7_o : vl w 7 o := hV.hv 7 rfl ⟨by omega, by show _ < (6 : Int); omega⟩
  have hl := lv_entry ([.ref (wad w 7 o), .int (oI x1)]) (n := 2) (Nat.le_of_ble_eq_true rfl)
  have hfr := lg_entry_eq m ([.ref (wad w 7 o), .int (oI x1)]) 2
  rw [← hargs] at hfr
  rw [hfr]
  generalize (lg_sl ([.ref (wad w 7 o), .int (oI x1)]) ++ List.replicate (2 - (lg_sl ([.ref (wad w 7 o), .int (oI x1)])).length) Slot.unset).toArray = ls at hl ⊢
  have hl : lv_has ls 2 [(0, .ref (wad w 7 o)), (1, .int (oI x1))] := hl
  unfold wp_Writer_takes at h
  refine lv_aload_n X.1 X.2.1 dX10_takes_0 rfl (lv_at hl 0 rfl) ?_
  refine wg (v := .int (oI (gI σ 451 o))) X hT hW 7 3 451 vl7_o rfl rfl (by decide) rfl (by decide) in_X10 q508 rfl dX10_takes_1 ?_
  refine lv_iconst (v := oI (-1)) X.1 X.2.1 dX10_takes_4 rfl ?_
  refine w_icmp_eq (tgt := 28) X (hW.r.i 451 o rfl) ((rB_lit (-1) (by decide)).i) dX10_takes_5 (by decide) (fun hc => ?_) (fun hc => ?_)
  · have h := h.1 hc
    refine lv_iconst (v := oI 0) X.1 X.2.1 dX10_takes_28 rfl ?_
    exact wret_Z X hr hlk hW hS rZ_0 h dX10_takes_29
  · have h := h.2 hc
    refine lv_aload_n X.1 X.2.1 dX10_takes_8 rfl (lv_at hl 0 rfl) ?_
    refine wg (v := .int (oI (gI σ 452 o))) X hT hW 7 4 452 vl7_o rfl rfl (by decide) rfl (by decide) in_X10 q510 rfl dX10_takes_9 ?_
    refine lv_iload_n X.1 X.2.1 dX10_takes_12 rfl (lv_at hl 1 rfl) ?_
    refine w_iadd X dX10_takes_13 ?_
    refine lv_aload_n X.1 X.2.1 dX10_takes_14 rfl (lv_at hl 0 rfl) ?_
    refine wg (v := .ref (wad w 5 (o % 2))) X hT hW 7 1 449 vl7_o rfl rfl (by decide) rfl (by decide) in_X10 q506 rfl dX10_takes_15 ?_
    refine wg (v := .int (oI (((wc w).2.1 - 2) * 128))) X hT hW 5 2 322 vl5_o_2 rfl rfl (by decide) rfl (by decide) in_X7 q341 rfl dX10_takes_18 ?_
    refine w_icmp_gt (tgt := 28) X (w32_r _) (cin_r hT.c 322) dX10_takes_21 (by decide) (fun hc => ?_) (fun hc => ?_)
    · have h := h.1 hc
      refine lv_iconst (v := oI 0) X.1 X.2.1 dX10_takes_28 rfl ?_
      exact wret_Z X hr hlk hW hS rZ_0 h dX10_takes_29
    · have h := h.2 hc
      refine lv_iconst (v := oI 1) X.1 X.2.1 dX10_takes_24 rfl ?_
      refine lv_goto (tgt := 29) X.1 X.2.1 dX10_takes_25 (by decide) ?_
      exact wret_Z X hr hlk hW hS rZ_1 h dX10_takes_29
/-! Writer.flush()V -/
set_option maxHeartbeats 4000000 in
set_option maxRecDepth 100000 in
theorem wk_Writer_flush_L9B {p : Program} {l : Launch} {e : Env} {st : State} {m : MethodId} {args : Array Value} {below : List Frame} {meth : Method} {c : Code} {w : Wp} {o : Int} {Q : St → Prop} (X : CallFix p m c cX10_flush 1 st args lw_all RX10) (hr : meth.sig.returnType = none) (hlk : meth.locks = false) (hT : Tb w st) (hV : Hvl w) (ho : 0 ≤ o ∧ o < 6) (K9 : St → Prop) (hK9 : ∀ (σ : St) (H : Heap) (locs : List Loc) (ls : Array Slot), lv_has ls 1 [(0, .ref (wad w 7 o))] → Wo w σ H → va_S (wA w) st.heap H locs → K9 σ → W p l e (headSpec (ws_ yX10_flush cX10_flush 1 none) rm_Writer_flush).room st m args below meth c H locs 0 0 (MQ below (QcV w Q) args st 0 0 (wA w)) (F0 m 9 ls [])) : ∀ (σ : St) (H : Heap) (locs : List Loc) (ls : Array Slot), lv_has ls 1 [(0, .ref (wad w 7 o))] → Wo w σ H → va_S (wA w) st.heap H locs → wp_Writer_flush_L9 (wc w) (wtv w) o Q K9 σ → W p l e (headSpec (ws_ yX10_flush cX10_flush 1 none) rm_Writer_flush).room st m args below meth c H locs 0 0 (MQ below (QcV w Q) args st 0 0 (wA w)) (F0 m 9 ls []) := by
  have vl4_o_2 : vl w 4 (o % 2) := hV.hv 4 rfl ⟨by omega, by show _ < (2 : Int); omega⟩
  have vl450_o : vl w 450 o := hV.hv 450 rfl ⟨by omega, by show _ < (6 : Int); omega⟩
  have vl7_o : vl w 7 o := hV.hv 7 rfl ⟨by omega, by show _ < (6 : Int); omega⟩
  intro σ H locs ls hl hW hS h
  unfold wp_Writer_flush_L9 at h
  refine lv_aload_n X.1 X.2.1 dX10_flush_9 rfl (lv_at hl 0 rfl) ?_
  refine wg (v := .int (oI (gI σ 452 o))) X hT hW 7 4 452 vl7_o rfl rfl (by decide) rfl (by decide) in_X10 q510 rfl dX10_flush_10 ?_
  refine lv_sipush (v := oI 128) X.1 X.2.1 dX10_flush_13 (by decide) ?_
  refine w_irem X (hW.r.i 452 o rfl) (rI_lit 128 (by decide)) (by decide) dX10_flush_16 ?_
  refine w_if_eq (tgt := 84) X (jrm_r _ _) dX10_flush_17 (by decide) (fun hc => ?_) (fun hc => ?_)
  · have h := h.1 hc
    exact wret_V X hr hlk hW hS h dX10_flush_84
  · have h := h.2 hc
    refine lv_aload_n X.1 X.2.1 dX10_flush_20 rfl (lv_at hl 0 rfl) ?_
    refine wg (v := .ref (wad w 450 o)) X hT hW 7 2 450 vl7_o rfl rfl (by decide) rfl (by decide) in_X10 q507 rfl dX10_flush_21 ?_
    refine lv_aload_n X.1 X.2.1 dX10_flush_24 rfl (lv_at hl 0 rfl) ?_
    refine wg (v := .int (oI (gI σ 452 o))) X hT hW 7 4 452 vl7_o rfl rfl (by decide) rfl (by decide) in_X10 q510 rfl dX10_flush_25 ?_
    refine lv_sipush (v := oI 128) X.1 X.2.1 dX10_flush_28 (by decide) ?_
    refine w_irem X (hW.r.i 452 o rfl) (rI_lit 128 (by decide)) (by decide) dX10_flush_31 ?_
    refine lv_iconst (v := oI 0) X.1 X.2.1 dX10_flush_32 rfl ?_
    obtain ⟨bi, h⟩ := h
    refine w_bast (n := 128) X hT hW hS 450 vl450_o (by decide) rfl rfl bi (rZ.b rZ_0) dX10_flush_33 (fun H locs hN hS => ?_)
    obtain ⟨σ_5, eσ_5⟩ : ∃ x, x = sA σ 450 o (jrm (gI σ 452 o) 128) 0 := ⟨_, rfl⟩
    have hWσ_5 : Wo w σ_5 H := eσ_5 ▸ hN
    have h := h σ_5 eσ_5
    clear hN
    refine lv_aload_n X.1 X.2.1 dX10_flush_34 rfl (lv_at hl 0 rfl) ?_
    refine lv_dup X.1 X.2.1 dX10_flush_35 rfl ?_
    refine wg (v := .int (oI (gI σ_5 452 o))) X hT hWσ_5 7 4 452 vl7_o rfl rfl (by decide) rfl (by decide) in_X10 q510 rfl dX10_flush_36 ?_
    refine lv_iconst (v := oI 1) X.1 X.2.1 dX10_flush_39 rfl ?_
    refine w_iadd X dX10_flush_40 ?_
    refine wput (z := w32 ((gI σ_5 452 o) + 1)) X hT hWσ_5 hS 7 4 452 vl7_o rfl rfl (by decide) rfl (by decide) in_X10 tyX10 tyX10_ok nmX10 q510 rfl rfl (w32_r _) (fv0 w rfl) rfl rfl dX10_flush_41 (fun H locs hN hS => ?_)
    obtain ⟨σ_6, eσ_6⟩ : ∃ x, x = sI σ_5 452 o (w32 ((gI σ_5 452 o) + 1)) := ⟨_, rfl⟩
    have hWσ_6 : Wo w σ_6 H := eσ_6 ▸ hN
    have h := h σ_6 eσ_6
    clear hN
    refine lv_aload_n X.1 X.2.1 dX10_flush_44 rfl (lv_at hl 0 rfl) ?_
    refine wg (v := .int (oI (gI σ_6 452 o))) X hT hWσ_6 7 4 452 vl7_o rfl rfl (by decide) rfl (by decide) in_X10 q510 rfl dX10_flush_45 ?_
    refine lv_sipush (v := oI 128) X.1 X.2.1 dX10_flush_48 (by decide) ?_
    refine w_irem X (hWσ_6.r.i 452 o rfl) (rI_lit 128 (by decide)) (by decide) dX10_flush_51 ?_
    refine w_if_ne (tgt := 9) X (jrm_r _ _) dX10_flush_52 (by decide) (fun hc => ?_) (fun hc => ?_)
    · have h := h.1 hc
      exact hK9 σ_6 _ _ _ (lv_sub hl [0] rfl) hWσ_6 hS h
    · have h := h.2 hc
      refine lv_aload_n X.1 X.2.1 dX10_flush_55 rfl (lv_at hl 0 rfl) ?_
      refine wg (v := .ref (wad w 4 (o % 2))) X hT hWσ_6 7 0 448 vl7_o rfl rfl (by decide) rfl (by decide) in_X10 q505 rfl dX10_flush_56 ?_
      refine lv_aload_n X.1 X.2.1 dX10_flush_59 rfl (lv_at hl 0 rfl) ?_
      refine wg (v := .int (oI (gI σ_6 451 o))) X hT hWσ_6 7 3 451 vl7_o rfl rfl (by decide) rfl (by decide) in_X10 q508 rfl dX10_flush_60 ?_
      refine lv_aload_n X.1 X.2.1 dX10_flush_63 rfl (lv_at hl 0 rfl) ?_
      refine wg (v := .int (oI (gI σ_6 452 o))) X hT hWσ_6 7 4 452 vl7_o rfl rfl (by decide) rfl (by decide) in_X10 q510 rfl dX10_flush_64 ?_
      refine lv_sipush (v := oI 128) X.1 X.2.1 dX10_flush_67 (by decide) ?_
      refine w_idiv X (hWσ_6.r.i 452 o rfl) (rI_lit 128 (by decide)) (by decide) dX10_flush_70 ?_
      refine lv_iconst (v := oI 1) X.1 X.2.1 dX10_flush_71 rfl ?_
      refine w_isub X dX10_flush_72 ?_
      refine lv_aload_n X.1 X.2.1 dX10_flush_73 rfl (lv_at hl 0 rfl) ?_
      refine wg (v := .ref (wad w 450 o)) X hT hWσ_6 7 2 450 vl7_o rfl rfl (by decide) rfl (by decide) in_X10 q507 rfl dX10_flush_74 ?_
      refine lv_iconst (v := oI 0) X.1 X.2.1 dX10_flush_77 rfl ?_
      refine wr_V (rV (As := [.int (oI (gI σ_6 451 o)), .int (oI (w32 ((jdv (gI σ_6 452 o) 128) - 1))), .ref (wad w 450 o), .int (oI 0)]) (rest := []) X hT hWσ_6 hS (met_Blocks_write l (w := w) hV (o % 2) (gI σ_6 451 o) (w32 ((jdv (gI σ_6 452 o) 128) - 1)) 450 o 0 _ σ_6 (by omega) (hWσ_6.r.i 451 o rfl) (w32_r _) vl450_o (by decide) rfl rZ_0.i h) (cwV 4 X.2.2.2.2 (lw_V q860 q861 q862 q137 q863) rfl rfl rfl (by decide +kernel) ⟨Nat.le_of_ble_eq_true rfl, Nat.le_of_ble_eq_true rfl⟩) vl4_o_2 (by decide) rfl rfl hl.1 rfl (by first | exact Nat.le_of_ble_eq_true rfl | simp [catK, catI, catR, catL]) dX10_flush_78 ⟨Nat.le_refl _, Nat.le_refl _⟩) hS (fun σ_8 H locs rkσ_8 h hWσ_8 hS => ?_)
      have h := h rkσ_8
      refine lv_goto (tgt := 9) X.1 X.2.1 dX10_flush_81 (by decide) ?_
      exact hK9 σ_8 _ _ _ (lv_sub hl [0] rfl) hWσ_8 hS h
theorem wk_Writer_flush_L9 {p : Program} {l : Launch} {e : Env} {st : State} {m : MethodId} {args : Array Value} {below : List Frame} {meth : Method} {c : Code} {w : Wp} {o : Int} {Q : St → Prop} (X : CallFix p m c cX10_flush 1 st args lw_all RX10) (hr : meth.sig.returnType = none) (hlk : meth.locks = false) (hT : Tb w st) (hV : Hvl w) (ho : 0 ≤ o ∧ o < 6) : ∀ (σ : St) (H : Heap) (locs : List Loc) (ls : Array Slot), lv_has ls 1 [(0, .ref (wad w 7 o))] → Wo w σ H → va_S (wA w) st.heap H locs → lQ0 (wp_Writer_flush_L9 (wc w) (wtv w) o Q) σ → W p l e (headSpec (ws_ yX10_flush cX10_flush 1 none) rm_Writer_flush).room st m args below meth c H locs 0 0 (MQ below (QcV w Q) args st 0 0 (wA w)) (F0 m 9 ls []) := by
  intro σ H locs ls hl hW hS h
  obtain ⟨fu, h⟩ := h
  induction fu generalizing σ H locs ls with
  | zero => exact h.elim
  | succ fu ih =>
    exact wk_Writer_flush_L9B X hr hlk hT hV ho (lq0 (wp_Writer_flush_L9 (wc w) (wtv w) o Q) fu) (fun σ H locs ls hl hW hS h => ih σ H locs ls hl hW hS h) σ H locs ls hl hW hS h
set_option maxHeartbeats 4000000 in
set_option maxRecDepth 100000 in
theorem met_Writer_flush (l : Launch) {w : Wp} (hV : Hvl w) (o : Int) (Q : St → Prop) (σ : St) (ho : 0 ≤ o ∧ o < 6) (h : wp_Writer_flush (wc w) (wtv w) o Q σ) : Met l yX10_flush (ws_ yX10_flush cX10_flush 1 none) rm_Writer_flush (PcW w σ [.ref (wad w 7 o)]) (QcV w Q) 0 0 (wA w) := by
  refine Met.ofW (cc := cX10_flush) (maxL := 1) (ret := none) (by decide) rfl ?_
  intro p e st m args below meth c s₁ B hml hv
  obtain ⟨hargs, hW, hT⟩ := hv
  have X : CallFix p m c cX10_flush 1 st _ lw_all RX10 := ⟨B.exec, B.bytes, hml, findClass_of_methodNamed B.named, fun w h => atoms_spec (ws := ws_ yX10_flush cX10_flush 1 none) B.pre w (List.mem_cons_of_mem _ h)⟩
  have hr := B.returns
  have hlk := B.notSynchronized
  have hS : va_S (wA w) st.heap st.heap [] := va_S.rf
  have vl7_o : vl w 7 o := hV.hv 7 rfl ⟨by omega, by show _ < (6 : Int); omega⟩
  have hl := lv_entry ([.ref (wad w 7 o)]) (n := 1) (Nat.le_of_ble_eq_true rfl)
  have hfr := lg_entry_eq m ([.ref (wad w 7 o)]) 1
  rw [← hargs] at hfr
  rw [hfr]
  generalize (lg_sl ([.ref (wad w 7 o)]) ++ List.replicate (1 - (lg_sl ([.ref (wad w 7 o)])).length) Slot.unset).toArray = ls at hl ⊢
  have hl : lv_has ls 1 [(0, .ref (wad w 7 o))] := hl
  unfold wp_Writer_flush at h
  refine lv_aload_n X.1 X.2.1 dX10_flush_0 rfl (lv_at hl 0 rfl) ?_
  refine wg (v := .int (oI (gI σ 451 o))) X hT hW 7 3 451 vl7_o rfl rfl (by decide) rfl (by decide) in_X10 q508 rfl dX10_flush_1 ?_
  refine lv_iconst (v := oI (-1)) X.1 X.2.1 dX10_flush_4 rfl ?_
  refine w_icmp_ne (tgt := 9) X (hW.r.i 451 o rfl) ((rB_lit (-1) (by decide)).i) dX10_flush_5 (by decide) (fun hc => ?_) (fun hc => ?_)
  · have h := h.1 hc
    exact wk_Writer_flush_L9 X hr hlk hT hV ho σ _ _ _ (lv_sub hl [0] rfl) hW hS h
  · have h := h.2 hc
    exact wret_V X hr hlk hW hS h dX10_flush_8
/-! Writer.close()V -/
set_option maxHeartbeats 4000000 in
set_option maxRecDepth 100000 in
theorem met_Writer_close (l : Launch) {w : Wp} (hV : Hvl w) (o : Int) (Q : St → Prop) (σ : St) (ho : 0 ≤ o ∧ o < 6) (h : wp_Writer_close (wc w) (wtv w) o Q σ) : Met l yX10_close (ws_ yX10_close cX10_close 1 none) rm_Writer_close (PcW w σ [.ref (wad w 7 o)]) (QcV w Q) 0 0 (wA w) := by
  refine Met.ofW (cc := cX10_close) (maxL := 1) (ret := none) (by decide) rfl ?_
  intro p e st m args below meth c s₁ B hml hv
  obtain ⟨hargs, hW, hT⟩ := hv
  have X : CallFix p m c cX10_close 1 st _ lw_all RX10 := ⟨B.exec, B.bytes, hml, findClass_of_methodNamed B.named, fun w h => atoms_spec (ws := ws_ yX10_close cX10_close 1 none) B.pre w (List.mem_cons_of_mem _ h)⟩
  have hr := B.returns
  have hlk := B.notSynchronized
  have hS : va_S (wA w) st.heap st.heap [] := va_S.rf
  have vl323_o_2 : vl w 323 (o % 2) := hV.hv 323 rfl ⟨by omega, by show _ < (2 : Int); omega⟩
  have vl5_o_2 : vl w 5 (o % 2) := hV.hv 5 rfl ⟨by omega, by show _ < (2 : Int); omega⟩
  have vl7_o : vl w 7 o := hV.hv 7 rfl ⟨by omega, by show _ < (6 : Int); omega⟩
  have hl := lv_entry ([.ref (wad w 7 o)]) (n := 1) (Nat.le_of_ble_eq_true rfl)
  have hfr := lg_entry_eq m ([.ref (wad w 7 o)]) 1
  rw [← hargs] at hfr
  rw [hfr]
  generalize (lg_sl ([.ref (wad w 7 o)]) ++ List.replicate (1 - (lg_sl ([.ref (wad w 7 o)])).length) Slot.unset).toArray = ls at hl ⊢
  have hl : lv_has ls 1 [(0, .ref (wad w 7 o))] := hl
  unfold wp_Writer_close at h
  refine lv_aload_n X.1 X.2.1 dX10_close_0 rfl (lv_at hl 0 rfl) ?_
  refine wg (v := .int (oI (gI σ 451 o))) X hT hW 7 3 451 vl7_o rfl rfl (by decide) rfl (by decide) in_X10 q508 rfl dX10_close_1 ?_
  refine lv_iconst (v := oI (-1)) X.1 X.2.1 dX10_close_4 rfl ?_
  refine w_icmp_ne (tgt := 9) X (hW.r.i 451 o rfl) ((rB_lit (-1) (by decide)).i) dX10_close_5 (by decide) (fun hc => ?_) (fun hc => ?_)
  · have h := h.1 hc
    refine lv_aload_n X.1 X.2.1 dX10_close_9 rfl (lv_at hl 0 rfl) ?_
    refine wr_V (rV (As := []) (rest := []) X hT hW hS (met_Writer_flush l (w := w) hV o _ σ (by omega) h) (cwV 0 X.2.2.2.2 (lw_V q995 q996 q997 q141 q998) rfl rfl rfl (by decide +kernel) ⟨Nat.le_of_ble_eq_true rfl, Nat.le_of_ble_eq_true rfl⟩) vl7_o (by decide) rfl rfl hl.1 rfl (by first | exact Nat.le_of_ble_eq_true rfl | simp [catK, catI, catR, catL]) dX10_close_10 ⟨Nat.le_refl _, Nat.le_refl _⟩) hS (fun σ_6 H locs rkσ_6 h hWσ_6 hS => ?_)
    have h := h rkσ_6
    refine lv_aload_n X.1 X.2.1 dX10_close_13 rfl (lv_at hl 0 rfl) ?_
    refine wg (v := .ref (wad w 5 (o % 2))) X hT hWσ_6 7 1 449 vl7_o rfl rfl (by decide) rfl (by decide) in_X10 q506 rfl dX10_close_14 ?_
    refine wg (v := .ref (wad w 323 (o % 2))) X hT hWσ_6 5 3 323 vl5_o_2 rfl rfl (by decide) rfl (by decide) in_X7 q343 rfl dX10_close_17 ?_
    refine lv_aload_n X.1 X.2.1 dX10_close_20 rfl (lv_at hl 0 rfl) ?_
    refine wg (v := .int (oI (gI σ_6 451 o))) X hT hWσ_6 7 3 451 vl7_o rfl rfl (by decide) rfl (by decide) in_X10 q508 rfl dX10_close_21 ?_
    refine lv_iconst (v := oI 1) X.1 X.2.1 dX10_close_24 rfl ?_
    obtain ⟨bi, h⟩ := h
    refine w_iast (n := ((wc w).1 - 6)) X hT hWσ_6 hS 323 vl323_o_2 (by decide) rfl rfl bi rZ_1.i dX10_close_25 (fun H locs hN hS => ?_)
    obtain ⟨σ_7, eσ_7⟩ : ∃ x, x = sA σ_6 323 (o % 2) (gI σ_6 451 o) 1 := ⟨_, rfl⟩
    have hWσ_7 : Wo w σ_7 H := eσ_7 ▸ hN
    have h := h σ_7 eσ_7
    clear hN
    refine lv_aload_n X.1 X.2.1 dX10_close_26 rfl (lv_at hl 0 rfl) ?_
    refine lv_iconst (v := oI (-1)) X.1 X.2.1 dX10_close_27 rfl ?_
    refine wput (z := (-1)) X hT hWσ_7 hS 7 3 451 vl7_o rfl rfl (by decide) rfl (by decide) in_X10 tyX10 tyX10_ok nmX10 q508 rfl rfl ((rB_lit (-1) (by decide)).i) (fv0 w rfl) rfl rfl dX10_close_28 (fun H locs hN hS => ?_)
    obtain ⟨σ_8, eσ_8⟩ : ∃ x, x = sI σ_7 451 o (-1) := ⟨_, rfl⟩
    have hWσ_8 : Wo w σ_8 H := eσ_8 ▸ hN
    have h := h σ_8 eσ_8
    clear hN
    exact wret_V X hr hlk hWσ_8 hS h dX10_close_31
  · have h := h.2 hc
    exact wret_V X hr hlk hW hS h dX10_close_8
/-! Writer.reads(II[BI)Z -/
set_option maxHeartbeats 4000000 in
set_option maxRecDepth 100000 in
theorem met_Writer_reads (l : Launch) {w : Wp} (hV : Hvl w) (o : Int) (x1 : Int) (x2 : Int) (x3f : Nat) (x3o : Int) (x4 : Int) (Q : Int → St → Prop) (σ : St) (ho : 0 ≤ o ∧ o < 6) (rx1 : rI x1) (rx2 : rI x2) (vx3 : vl w x3f x3o) (nx3 : ¬ x3f < 64) (tx3 : aty x3f = 1) (rx4 : rI x4) (h : wp_Writer_reads (wc w) (wtv w) o x1 x2 x3f x3o x4 Q σ) : Met l yX10_reads (ws_ yX10_reads cX10_reads 5 (some .boolean)) rm_Writer_reads (PcW w σ [.ref (wad w 7 o), .int (oI x1), .int (oI x2), .ref (wad w x3f x3o), .int (oI x4)]) (QcZ w Q) 0 0 (wA w) := by
  refine Met.ofW (cc := cX10_reads) (maxL := 5) (ret := (some .boolean)) (by decide) rfl ?_
  intro p e st m args below meth c s₁ B hml hv
  obtain ⟨hargs, hW, hT⟩ := hv
  have X : CallFix p m c cX10_reads 5 st _ lw_all RX10 := ⟨B.exec, B.bytes, hml, findClass_of_methodNamed B.named, fun w h => atoms_spec (ws := ws_ yX10_reads cX10_reads 5 (some .boolean)) B.pre w (List.mem_cons_of_mem _ h)⟩
  have hr := B.returns
  have hlk := B.notSynchronized
  have hS : va_S (wA w) st.heap st.heap [] := va_S.rf
  have vl450_o : vl w 450 o := hV.hv 450 rfl ⟨by omega, by show _ < (6 : Int); omega⟩
  have vl7_o : vl w 7 o := hV.hv 7 rfl ⟨by omega, by show _ < (6 : Int); omega⟩
  have hl := lv_entry ([.ref (wad w 7 o), .int (oI x1), .int (oI x2), .ref (wad w x3f x3o), .int (oI x4)]) (n := 5) (Nat.le_of_ble_eq_true rfl)
  have hfr := lg_entry_eq m ([.ref (wad w 7 o), .int (oI x1), .int (oI x2), .ref (wad w x3f x3o), .int (oI x4)]) 5
  rw [← hargs] at hfr
  rw [hfr]
  generalize (lg_sl ([.ref (wad w 7 o), .int (oI x1), .int (oI x2), .ref (wad w x3f x3o), .int (oI x4)]) ++ List.replicate (5 - (lg_sl ([.ref (wad w 7 o), .int (oI x1), .int (oI x2), .ref (wad w x3f x3o), .int (oI x4)])).length) Slot.unset).toArray = ls at hl ⊢
  have hl : lv_has ls 5 [(0, .ref (wad w 7 o)), (1, .int (oI x1)), (2, .int (oI x2)), (3, .ref (wad w x3f x3o)), (4, .int (oI x4))] := hl
  unfold wp_Writer_reads at h
  refine lv_iload_n X.1 X.2.1 dX10_reads_0 rfl (lv_at hl 1 rfl) ?_
  refine lv_aload_n X.1 X.2.1 dX10_reads_1 rfl (lv_at hl 0 rfl) ?_
  refine wg (v := .int (oI (gI σ 451 o))) X hT hW 7 3 451 vl7_o rfl rfl (by decide) rfl (by decide) in_X10 q508 rfl dX10_reads_2 ?_
  refine w_icmp_ne (tgt := 31) X rx1 (hW.r.i 451 o rfl) dX10_reads_5 (by decide) (fun hc => ?_) (fun hc => ?_)
  · have h := h.1 hc
    refine lv_iconst (v := oI 0) X.1 X.2.1 dX10_reads_31 rfl ?_
    exact wret_Z X hr hlk hW hS rZ_0 h dX10_reads_32
  · have h := h.2 hc
    refine lv_iload_n X.1 X.2.1 dX10_reads_8 rfl (lv_at hl 2 rfl) ?_
    refine lv_aload_n X.1 X.2.1 dX10_reads_9 rfl (lv_at hl 0 rfl) ?_
    refine wg (v := .int (oI (gI σ 452 o))) X hT hW 7 4 452 vl7_o rfl rfl (by decide) rfl (by decide) in_X10 q510 rfl dX10_reads_10 ?_
    refine lv_sipush (v := oI 128) X.1 X.2.1 dX10_reads_13 (by decide) ?_
    refine w_idiv X (hW.r.i 452 o rfl) (rI_lit 128 (by decide)) (by decide) dX10_reads_16 ?_
    refine w_icmp_ne (tgt := 31) X rx2 (jdv_r _ _) dX10_reads_17 (by decide) (fun hc => ?_) (fun hc => ?_)
    · have h := h.1 hc
      refine lv_iconst (v := oI 0) X.1 X.2.1 dX10_reads_31 rfl ?_
      exact wret_Z X hr hlk hW hS rZ_0 h dX10_reads_32
    · have h := h.2 hc
      refine lv_aload_n X.1 X.2.1 dX10_reads_20 rfl (lv_at hl 0 rfl) ?_
      refine wg (v := .int (oI (gI σ 452 o))) X hT hW 7 4 452 vl7_o rfl rfl (by decide) rfl (by decide) in_X10 q510 rfl dX10_reads_21 ?_
      refine lv_sipush (v := oI 128) X.1 X.2.1 dX10_reads_24 (by decide) ?_
      refine w_irem X (hW.r.i 452 o rfl) (rI_lit 128 (by decide)) (by decide) dX10_reads_27 ?_
      refine w_if_ne (tgt := 33) X (jrm_r _ _) dX10_reads_28 (by decide) (fun hc => ?_) (fun hc => ?_)
      · have h := h.1 hc
        refine lv_aload_n X.1 X.2.1 dX10_reads_33 rfl (lv_at hl 0 rfl) ?_
        refine wg (v := .ref (wad w 450 o)) X hT hW 7 2 450 vl7_o rfl rfl (by decide) rfl (by decide) in_X10 q507 rfl dX10_reads_34 ?_
        refine lv_iconst (v := oI 0) X.1 X.2.1 dX10_reads_37 rfl ?_
        refine lv_aload_n X.1 X.2.1 dX10_reads_38 rfl (lv_at hl 3 rfl) ?_
        refine lv_iload X.1 X.2.1 dX10_reads_39 (lv_at hl 4 rfl) ?_
        refine lv_sipush (v := oI 128) X.1 X.2.1 dX10_reads_41 (by decide) ?_
        obtain ⟨bi, h⟩ := h
        refine w_copy (nf := 128) (ng := (aln (wc w) x3f x3o)) (sp := 0) (dp := x4) (n := 128) X hT hW hS hl.1 450 x3f vl450_o vx3 (by decide) nx3 rfl tx3 rfl rfl bi q1198 q699 q698 q142 (Nat.le_of_ble_eq_true rfl) (Nat.le_of_ble_eq_true rfl) dX10_reads_44 (fun H locs hN hS => ?_)
        obtain ⟨σ_2, eσ_2⟩ : ∃ x, x = sAr σ x3f x3o (cpy (gA σ 450 o) (gA σ x3f x3o) 0 x4 128) := ⟨_, rfl⟩
        have hWσ_2 : Wo w σ_2 H := eσ_2 ▸ hN
        have h := h σ_2 eσ_2
        clear hN
        refine lv_iconst (v := oI 1) X.1 X.2.1 dX10_reads_47 rfl ?_
        exact wret_Z X hr hlk hWσ_2 hS rZ_1 h dX10_reads_48
      · have h := h.2 hc
        refine lv_iconst (v := oI 0) X.1 X.2.1 dX10_reads_31 rfl ?_
        exact wret_Z X hr hlk hW hS rZ_0 h dX10_reads_32
/-! Writer.lose()V -/
set_option maxHeartbeats 4000000 in
set_option maxRecDepth 100000 in
theorem met_Writer_lose (l : Launch) {w : Wp} (hV : Hvl w) (o : Int) (Q : St → Prop) (σ : St) (ho : 0 ≤ o ∧ o < 6) (h : wp_Writer_lose (wc w) (wtv w) o Q σ) : Met l yX10_lose (ws_ yX10_lose cX10_lose 1 none) rm_Writer_lose (PcW w σ [.ref (wad w 7 o)]) (QcV w Q) 0 0 (wA w) := by
  refine Met.ofW (cc := cX10_lose) (maxL := 1) (ret := none) (by decide) rfl ?_
  intro p e st m args below meth c s₁ B hml hv
  obtain ⟨hargs, hW, hT⟩ := hv
  have X : CallFix p m c cX10_lose 1 st _ lw_all RX10 := ⟨B.exec, B.bytes, hml, findClass_of_methodNamed B.named, fun w h => atoms_spec (ws := ws_ yX10_lose cX10_lose 1 none) B.pre w (List.mem_cons_of_mem _ h)⟩
  have hr := B.returns
  have hlk := B.notSynchronized
  have hS : va_S (wA w) st.heap st.heap [] := va_S.rf
  have vl7_o : vl w 7 o := hV.hv 7 rfl ⟨by omega, by show _ < (6 : Int); omega⟩
  have hl := lv_entry ([.ref (wad w 7 o)]) (n := 1) (Nat.le_of_ble_eq_true rfl)
  have hfr := lg_entry_eq m ([.ref (wad w 7 o)]) 1
  rw [← hargs] at hfr
  rw [hfr]
  generalize (lg_sl ([.ref (wad w 7 o)]) ++ List.replicate (1 - (lg_sl ([.ref (wad w 7 o)])).length) Slot.unset).toArray = ls at hl ⊢
  have hl : lv_has ls 1 [(0, .ref (wad w 7 o))] := hl
  unfold wp_Writer_lose at h
  refine lv_aload_n X.1 X.2.1 dX10_lose_0 rfl (lv_at hl 0 rfl) ?_
  refine lv_iconst (v := oI (-1)) X.1 X.2.1 dX10_lose_1 rfl ?_
  refine wput (z := (-1)) X hT hW hS 7 3 451 vl7_o rfl rfl (by decide) rfl (by decide) in_X10 tyX10 tyX10_ok nmX10 q508 rfl rfl ((rB_lit (-1) (by decide)).i) (fv0 w rfl) rfl rfl dX10_lose_2 (fun H locs hN hS => ?_)
  obtain ⟨σ_3, eσ_3⟩ : ∃ x, x = sI σ 451 o (-1) := ⟨_, rfl⟩
  have hWσ_3 : Wo w σ_3 H := eσ_3 ▸ hN
  have h := h σ_3 eσ_3
  clear hN
  refine lv_aload_n X.1 X.2.1 dX10_lose_5 rfl (lv_at hl 0 rfl) ?_
  refine lv_iconst (v := oI 0) X.1 X.2.1 dX10_lose_6 rfl ?_
  refine wput (z := 0) X hT hWσ_3 hS 7 4 452 vl7_o rfl rfl (by decide) rfl (by decide) in_X10 tyX10 tyX10_ok nmX10 q510 rfl rfl rZ_0.i (fv0 w rfl) rfl rfl dX10_lose_7 (fun H locs hN hS => ?_)
  obtain ⟨σ_4, eσ_4⟩ : ∃ x, x = sI σ_3 452 o 0 := ⟨_, rfl⟩
  have hWσ_4 : Wo w σ_4 H := eσ_4 ▸ hN
  have h := h σ_4 eσ_4
  clear hN
  exact wret_V X hr hlk hWσ_4 hS h dX10_lose_10
/-! Index.giveAll(LNandHouse$Knot;)V -/
set_option maxHeartbeats 4000000 in
set_option maxRecDepth 100000 in
theorem wk_Index_giveAll_b33 {p : Program} {l : Launch} {e : Env} {st : State} {m : MethodId} {args : Array Value} {below : List Frame} {meth : Method} {c : Code} {w : Wp} {o : Int} {x1 : Int} {Q : St → Prop} {n : Nat} {F : Int → Int → (St → Prop) → St → Prop} (X : CallFix p m c cX8_giveAll 3 st args lw_all RX8) (hr : meth.sig.returnType = none) (hlk : meth.locks = false) (hT : Tb w st) (hV : Hvl w) (hF : ∀ (o : Int) (x1 : Int) (Q : St → Prop) (σ : St), 0 ≤ o ∧ o < 2 → rK x1 →  F o x1 Q σ → Met l yX8_giveAll (ws_ yX8_giveAll cX8_giveAll 3 none) (rm_Index_giveAll n) (PcW w σ [.ref (wad w 6 o), va_rf (knO w x1)]) (QcV w Q) 0 0 (wA w)) (ho : 0 ≤ o ∧ o < 2) (rx1 : rK x1) : ∀ (σ : St) (H : Heap) (locs : List Loc) (ls : Array Slot), lv_has ls 3 [(0, .ref (wad w 6 o)), (1, va_rf (knO w x1))] → Wo w σ H → va_S (wA w) st.heap H locs → wp_Index_giveAll_b33 (wc w) (wtv w) o x1 F Q σ → W p l e (headSpec (ws_ yX8_giveAll cX8_giveAll 3 none) (rm_Index_giveAll (n + 1))).room st m args below meth c H locs 0 0 (MQ below (QcV w Q) args st 0 0 (wA w)) (F0 m 33 ls []) := by
  have vl385_o : vl w 385 o := hV.hv 385 rfl ⟨by omega, by show _ < (2 : Int); omega⟩
  have vl6_o : vl w 6 o := hV.hv 6 rfl ⟨by omega, by show _ < (2 : Int); omega⟩
  intro σ H locs ls hl hW hS h
  unfold wp_Index_giveAll_b33 at h
  refine lv_aload_n X.1 X.2.1 dX8_giveAll_33 rfl (lv_at hl 0 rfl) ?_
  refine wg (v := .ref (wad w 385 o)) X hT hW 6 1 385 vl6_o rfl rfl (by decide) rfl (by decide) in_X8 q443 rfl dX8_giveAll_34 ?_
  refine lv_aload_n X.1 X.2.1 dX8_giveAll_37 rfl (lv_at hl 0 rfl) ?_
  refine lv_dup X.1 X.2.1 dX8_giveAll_38 rfl ?_
  refine wg (v := .int (oI (gI σ 386 o))) X hT hW 6 2 386 vl6_o rfl rfl (by decide) rfl (by decide) in_X8 q444 rfl dX8_giveAll_39 ?_
  refine lv_iconst (v := oI 1) X.1 X.2.1 dX8_giveAll_42 rfl ?_
  refine w_isub X dX8_giveAll_43 ?_
  refine lv_dup_x1 X.1 X.2.1 dX8_giveAll_44 rfl rfl ?_
  refine wput (z := w32 ((gI σ 386 o) - 1)) X hT hW hS 6 2 386 vl6_o rfl rfl (by decide) rfl (by decide) in_X8 tyX8 tyX8_ok nmX8 q444 rfl rfl (w32_r _) (fv0 w rfl) rfl rfl dX8_giveAll_45 (fun H locs hN hS => ?_)
  obtain ⟨σ_13, eσ_13⟩ : ∃ x, x = sI σ 386 o (w32 ((gI σ 386 o) - 1)) := ⟨_, rfl⟩
  have hWσ_13 : Wo w σ_13 H := eσ_13 ▸ hN
  have h := h σ_13 eσ_13
  clear hN
  refine w_kload_n (w := w) X dX8_giveAll_48 rfl (lv_at hl 1 rfl) ?_
  obtain ⟨bi, h⟩ := h
  refine w_aast (n := 320) X hV hT hWσ_13 hS 385 vl385_o (by decide) rfl rfl bi rx1 dX8_giveAll_49 (fun H locs hN hS => ?_)
  obtain ⟨σ_14, eσ_14⟩ : ∃ x, x = sA σ_13 385 o (w32 ((gI σ 386 o) - 1)) x1 := ⟨_, rfl⟩
  have hWσ_14 : Wo w σ_14 H := eσ_14 ▸ hN
  have h := h σ_14 eσ_14
  clear hN
  exact wret_V X hr hlk hWσ_14 hS h dX8_giveAll_50
set_option maxHeartbeats 4000000 in
set_option maxRecDepth 100000 in
theorem wk_Index_giveAll_L2B {p : Program} {l : Launch} {e : Env} {st : State} {m : MethodId} {args : Array Value} {below : List Frame} {meth : Method} {c : Code} {w : Wp} {o : Int} {x1 : Int} {Q : St → Prop} {n : Nat} {F : Int → Int → (St → Prop) → St → Prop} (X : CallFix p m c cX8_giveAll 3 st args lw_all RX8) (hr : meth.sig.returnType = none) (hlk : meth.locks = false) (hT : Tb w st) (hV : Hvl w) (hF : ∀ (o : Int) (x1 : Int) (Q : St → Prop) (σ : St), 0 ≤ o ∧ o < 2 → rK x1 →  F o x1 Q σ → Met l yX8_giveAll (ws_ yX8_giveAll cX8_giveAll 3 none) (rm_Index_giveAll n) (PcW w σ [.ref (wad w 6 o), va_rf (knO w x1)]) (QcV w Q) 0 0 (wA w)) (ho : 0 ≤ o ∧ o < 2) (rx1 : rK x1) (K2 : Int → St → Prop) (hK2 : ∀ (y2 : Int) (σ : St) (H : Heap) (locs : List Loc) (ls : Array Slot), rI y2 → lv_has ls 3 [(0, .ref (wad w 6 o)), (1, va_rf (knO w x1)), (2, .int (oI y2))] → Wo w σ H → va_S (wA w) st.heap H locs → K2 y2 σ → W p l e (headSpec (ws_ yX8_giveAll cX8_giveAll 3 none) (rm_Index_giveAll (n + 1))).room st m args below meth c H locs 0 0 (MQ below (QcV w Q) args st 0 0 (wA w)) (F0 m 2 ls [])) : ∀ (y2 : Int) (σ : St) (H : Heap) (locs : List Loc) (ls : Array Slot), rI y2 → lv_has ls 3 [(0, .ref (wad w 6 o)), (1, va_rf (knO w x1)), (2, .int (oI y2))] → Wo w σ H → va_S (wA w) st.heap H locs → wp_Index_giveAll_L2 (wc w) (wtv w) o x1 F Q K2 y2 σ → W p l e (headSpec (ws_ yX8_giveAll cX8_giveAll 3 none) (rm_Index_giveAll (n + 1))).room st m args below meth c H locs 0 0 (MQ below (QcV w Q) args st 0 0 (wA w)) (F0 m 2 ls []) := by
  have vl6_o : vl w 6 o := hV.hv 6 rfl ⟨by omega, by show _ < (2 : Int); omega⟩
  intro y2 σ H locs ls ry2 hl hW hS h
  unfold wp_Index_giveAll_L2 at h
  refine lv_iload_n X.1 X.2.1 dX8_giveAll_2 rfl (lv_at hl 2 rfl) ?_
  refine w_kload_n (w := w) X dX8_giveAll_3 rfl (lv_at hl 1 rfl) ?_
  obtain ⟨hz_15, h⟩ := h
  rw [knR hz_15]
  refine wg (v := .int (oI (gI σ 577 x1))) X hT hW 9 1 577 (hV.hv 9 rfl ⟨hz_15, rx1.2⟩) rfl rfl (by decide) rfl (by decide) in_X9 q387 rfl dX8_giveAll_4 ?_
  refine w_icmp_ge (tgt := 33) X ry2 (hW.r.i 577 x1 rfl) dX8_giveAll_7 (by decide) (fun hc => ?_) (fun hc => ?_)
  · have h := h.1 hc
    exact wk_Index_giveAll_b33 X hr hlk hT hV hF ho rx1 σ _ _ _ (lv_sub hl [0, 1] rfl) hW hS h
  · have h := h.2 hc
    refine w_kload_n (w := w) X dX8_giveAll_10 rfl (lv_at hl 1 rfl) ?_
    rw [knR hz_15]
    refine wg (v := .int (oI (gI σ 576 x1))) X hT hW 9 0 576 (hV.hv 9 rfl ⟨hz_15, rx1.2⟩) rfl rfl (by decide) rfl (by decide) in_X9 q384 rfl dX8_giveAll_11 ?_
    refine w_if_le (tgt := 33) X (hW.r.i 576 x1 rfl) dX8_giveAll_14 (by decide) (fun hc => ?_) (fun hc => ?_)
    · have h := h.1 hc
      exact wk_Index_giveAll_b33 X hr hlk hT hV hF ho rx1 σ _ _ _ (lv_sub hl [0, 1] rfl) hW hS h
    · have h := h.2 hc
      refine lv_aload_n X.1 X.2.1 dX8_giveAll_17 rfl (lv_at hl 0 rfl) ?_
      refine w_kload_n (w := w) X dX8_giveAll_18 rfl (lv_at hl 1 rfl) ?_
      rw [knR hz_15]
      refine wg (v := .ref (wad w 583 x1)) X hT hW 9 7 583 (hV.hv 9 rfl ⟨hz_15, rx1.2⟩) rfl rfl (by decide) rfl (by decide) in_X9 q405 rfl dX8_giveAll_19 ?_
      refine lv_iload_n X.1 X.2.1 dX8_giveAll_22 rfl (lv_at hl 2 rfl) ?_
      obtain ⟨bi, h⟩ := h
      refine w_aald (n := 9) X hT hW 583 (hV.hv 583 rfl ⟨hz_15, rx1.2⟩) (by decide) rfl rfl bi dX8_giveAll_23 ?_
      refine wr_V (rV (As := [va_rf (knO w (gA σ 583 x1 y2))]) (rest := []) X hT hW hS (hF o (gA σ 583 x1 y2) _ σ (by omega) (hW.r.ak 583 x1 y2 rfl) h) (cwV 1 X.2.2.2.2 (lw_V q724 q726 qs6 q139 q727) rfl rfl rfl (by decide +kernel) ⟨by show _ ≤ _; simp only [headSpec, rm_Index_giveAll]; omega, by show _ ≤ _; simp only [headSpec, rm_Index_giveAll]; omega⟩) vl6_o (by decide) rfl rfl hl.1 rfl (by first | exact Nat.le_of_ble_eq_true rfl | simp [catK, catI, catR, catL]) dX8_giveAll_24 ⟨Nat.le_refl _, Nat.le_refl _⟩) hS (fun σ_17 H locs rkσ_17 h hWσ_17 hS => ?_)
      have h := h rkσ_17
      obtain ⟨y2_18, ey2_18⟩ : ∃ y : Int, y = w32 (y2 + 1) := ⟨_, rfl⟩
      have h := h y2_18 ey2_18
      have ry2_18 : rI y2_18 := by rw [ey2_18]; exact w32_r _
      refine lv_iinc (v := oI y2_18) (lv' := [(2, .int (oI y2_18)), (0, .ref (wad w 6 o)), (1, va_rf (knO w x1))]) X.1 X.2.1 dX8_giveAll_27 hl (k := 2) rfl (by rw [ey2_18]; exact oI_add _ _) (by decide) (by first | rfl | simp [catK, catI, catR, catL]) (fun ls hl => ?_)
      refine lv_goto (tgt := 2) X.1 X.2.1 dX8_giveAll_30 (by decide) ?_
      exact hK2 y2_18 σ_17 _ _ _ ry2_18 (lv_sub hl [1, 2, 0] rfl) hWσ_17 hS h
theorem wk_Index_giveAll_L2 {p : Program} {l : Launch} {e : Env} {st : State} {m : MethodId} {args : Array Value} {below : List Frame} {meth : Method} {c : Code} {w : Wp} {o : Int} {x1 : Int} {Q : St → Prop} {n : Nat} {F : Int → Int → (St → Prop) → St → Prop} (X : CallFix p m c cX8_giveAll 3 st args lw_all RX8) (hr : meth.sig.returnType = none) (hlk : meth.locks = false) (hT : Tb w st) (hV : Hvl w) (hF : ∀ (o : Int) (x1 : Int) (Q : St → Prop) (σ : St), 0 ≤ o ∧ o < 2 → rK x1 →  F o x1 Q σ → Met l yX8_giveAll (ws_ yX8_giveAll cX8_giveAll 3 none) (rm_Index_giveAll n) (PcW w σ [.ref (wad w 6 o), va_rf (knO w x1)]) (QcV w Q) 0 0 (wA w)) (ho : 0 ≤ o ∧ o < 2) (rx1 : rK x1) : ∀ (y2 : Int) (σ : St) (H : Heap) (locs : List Loc) (ls : Array Slot), rI y2 → lv_has ls 3 [(0, .ref (wad w 6 o)), (1, va_rf (knO w x1)), (2, .int (oI y2))] → Wo w σ H → va_S (wA w) st.heap H locs → lQ1 (wp_Index_giveAll_L2 (wc w) (wtv w) o x1 F Q) y2 σ → W p l e (headSpec (ws_ yX8_giveAll cX8_giveAll 3 none) (rm_Index_giveAll (n + 1))).room st m args below meth c H locs 0 0 (MQ below (QcV w Q) args st 0 0 (wA w)) (F0 m 2 ls []) := by
  intro y2 σ H locs ls ry2 hl hW hS h
  obtain ⟨fu, h⟩ := h
  induction fu generalizing y2 σ H locs ls with
  | zero => exact h.elim
  | succ fu ih =>
    exact wk_Index_giveAll_L2B X hr hlk hT hV hF ho rx1 (lq1 (wp_Index_giveAll_L2 (wc w) (wtv w) o x1 F Q) fu) (fun y2 σ H locs ls ry2 hl hW hS h => ih y2 σ H locs ls ry2 hl hW hS h) y2 σ H locs ls ry2 hl hW hS h
set_option maxHeartbeats 4000000 in
set_option maxRecDepth 100000 in
theorem met_Index_giveAll_R (l : Launch) {w : Wp} (hV : Hvl w) {n : Nat} {F : Int → Int → (St → Prop) → St → Prop} (hF : ∀ (o : Int) (x1 : Int) (Q : St → Prop) (σ : St), 0 ≤ o ∧ o < 2 → rK x1 →  F o x1 Q σ → Met l yX8_giveAll (ws_ yX8_giveAll cX8_giveAll 3 none) (rm_Index_giveAll n) (PcW w σ [.ref (wad w 6 o), va_rf (knO w x1)]) (QcV w Q) 0 0 (wA w)) (o : Int) (x1 : Int) (Q : St → Prop) (σ : St) (ho : 0 ≤ o ∧ o < 2) (rx1 : rK x1) (h : wp_Index_giveAll_R (wc w) (wtv w) o x1 F Q σ) : Met l yX8_giveAll (ws_ yX8_giveAll cX8_giveAll 3 none) (rm_Index_giveAll (n + 1)) (PcW w σ [.ref (wad w 6 o), va_rf (knO w x1)]) (QcV w Q) 0 0 (wA w) := by
  refine Met.ofW (cc := cX8_giveAll) (maxL := 3) (ret := none) (by decide) rfl ?_
  intro p e st m args below meth c s₁ B hml hv
  obtain ⟨hargs, hW, hT⟩ := hv
  have X : CallFix p m c cX8_giveAll 3 st _ lw_all RX8 := ⟨B.exec, B.bytes, hml, findClass_of_methodNamed B.named, fun w h => atoms_spec (ws := ws_ yX8_giveAll cX8_giveAll 3 none) B.pre w (List.mem_cons_of_mem _ h)⟩
  have hr := B.returns
  have hlk := B.notSynchronized
  have hS : va_S (wA w) st.heap st.heap [] := va_S.rf
  have vl6_o : vl w 6 o := hV.hv 6 rfl ⟨by omega, by show _ < (2 : Int); omega⟩
  have hl := lv_entry ([.ref (wad w 6 o), va_rf (knO w x1)]) (n := 3) (by simp [lg_sl, catK, catI, catR, catL])
  have hfr := lg_entry_eq m ([.ref (wad w 6 o), va_rf (knO w x1)]) 3
  rw [← hargs] at hfr
  rw [hfr]
  generalize (lg_sl ([.ref (wad w 6 o), va_rf (knO w x1)]) ++ List.replicate (3 - (lg_sl ([.ref (wad w 6 o), va_rf (knO w x1)])).length) Slot.unset).toArray = ls at hl ⊢
  simp [lv_args, catK, catI, catR, catL] at hl
  have hl : lv_has ls 3 [(0, .ref (wad w 6 o)), (1, va_rf (knO w x1))] := hl
  unfold wp_Index_giveAll_R at h
  refine lv_iconst (v := oI 0) X.1 X.2.1 dX8_giveAll_0 rfl ?_
  refine lv_istore_n (i := 2) (lv' := [(2, .int (oI 0)), (0, .ref (wad w 6 o)), (1, va_rf (knO w x1))]) X.1 X.2.1 dX8_giveAll_1 rfl hl (by decide) (by first | rfl | simp [catK, catI, catR, catL]) (fun ls hl => ?_)
  exact wk_Index_giveAll_L2 X hr hlk hT hV hF ho rx1 0 σ _ _ _ rZ_0.i (lv_sub hl [1, 2, 0] rfl) hW hS h
theorem met_Index_giveAll (l : Launch) {w : Wp} (hV : Hvl w) (n : Nat) : ∀ (o : Int) (x1 : Int) (Q : St → Prop) (σ : St), 0 ≤ o ∧ o < 2 → rK x1 → wp_Index_giveAll (wc w) (wtv w) n o x1 Q σ → Met l yX8_giveAll (ws_ yX8_giveAll cX8_giveAll 3 none) (rm_Index_giveAll n) (PcW w σ [.ref (wad w 6 o), va_rf (knO w x1)]) (QcV w Q) 0 0 (wA w) := by
  induction n with
  | zero => intro o x1 Q σ ho rx1 h; exact h.elim
  | succ n ih => intro o x1 Q σ ho rx1 h; exact met_Index_giveAll_R l hV ih o x1 Q σ ho rx1 h
/-! Index.fetch(I)LNandHouse$Knot; -/
set_option maxHeartbeats 4000000 in
set_option maxRecDepth 100000 in
theorem met_Index_fetch (l : Launch) {w : Wp} (hV : Hvl w) (o : Int) (x1 : Int) (Q : Int → St → Prop) (σ : St) (ho : 0 ≤ o ∧ o < 2) (rx1 : rI x1) (h : wp_Index_fetch (wc w) (wtv w) o x1 Q σ) : Met l yX8_fetch (ws_ yX8_fetch cX8_fetch 3 (some (.object "NandHouse$Knot"))) rm_Index_fetch (PcW w σ [.ref (wad w 6 o), .int (oI x1)]) (QcK w Q) 0 0 (wA w) := by
  refine Met.ofW (cc := cX8_fetch) (maxL := 3) (ret := (some (.object "NandHouse$Knot"))) (by decide) rfl ?_
  intro p e st m args below meth c s₁ B hml hv
  obtain ⟨hargs, hW, hT⟩ := hv
  have X : CallFix p m c cX8_fetch 3 st _ lw_all RX8 := ⟨B.exec, B.bytes, hml, findClass_of_methodNamed B.named, fun w h => atoms_spec (ws := ws_ yX8_fetch cX8_fetch 3 (some (.object "NandHouse$Knot"))) B.pre w (List.mem_cons_of_mem _ h)⟩
  have hr := B.returns
  have hlk := B.notSynchronized
  have hS : va_S (wA w) st.heap st.heap [] := va_S.rf
  have vl385_o : vl w 385 o := hV.hv 385 rfl ⟨by omega, by show _ < (2 : Int); omega⟩
  have vl6_o : vl w 6 o := hV.hv 6 rfl ⟨by omega, by show _ < (2 : Int); omega⟩
  have hl := lv_entry ([.ref (wad w 6 o), .int (oI x1)]) (n := 3) (Nat.le_of_ble_eq_true rfl)
  have hfr := lg_entry_eq m ([.ref (wad w 6 o), .int (oI x1)]) 3
  rw [← hargs] at hfr
  rw [hfr]
  generalize (lg_sl ([.ref (wad w 6 o), .int (oI x1)]) ++ List.replicate (3 - (lg_sl ([.ref (wad w 6 o), .int (oI x1)])).length) Slot.unset).toArray = ls at hl ⊢
  have hl : lv_has ls 3 [(0, .ref (wad w 6 o)), (1, .int (oI x1))] := hl
  unfold wp_Index_fetch at h
  refine lv_aload_n X.1 X.2.1 dX8_fetch_0 rfl (lv_at hl 0 rfl) ?_
  refine wg (v := .ref (wad w 385 o)) X hT hW 6 1 385 vl6_o rfl rfl (by decide) rfl (by decide) in_X8 q443 rfl dX8_fetch_1 ?_
  refine lv_aload_n X.1 X.2.1 dX8_fetch_4 rfl (lv_at hl 0 rfl) ?_
  refine wg (v := .int (oI (gI σ 386 o))) X hT hW 6 2 386 vl6_o rfl rfl (by decide) rfl (by decide) in_X8 q444 rfl dX8_fetch_5 ?_
  obtain ⟨bi, h⟩ := h
  refine w_aald (n := 320) X hT hW 385 vl385_o (by decide) rfl rfl bi dX8_fetch_8 ?_
  refine w_topk (w := w) (fun y2_7 ey2_7 => ?_)
  have h := h y2_7 ey2_7
  have ry2_7 : rK y2_7 := by rw [ey2_7]; exact (hW.r.ak 385 o (gI σ 386 o) rfl)
  refine w_kstore_n (i := 2) (lv' := [(2, va_rf (knO w y2_7)), (0, .ref (wad w 6 o)), (1, .int (oI x1))]) (w := w) X dX8_fetch_9 rfl hl (by decide) (by first | rfl | simp [catK, catI, catR, catL]) (fun ls hl => ?_)
  refine lv_aload_n X.1 X.2.1 dX8_fetch_10 rfl (lv_at hl 1 rfl) ?_
  refine wg (v := .ref (wad w 385 o)) X hT hW 6 1 385 vl6_o rfl rfl (by decide) rfl (by decide) in_X8 q443 rfl dX8_fetch_11 ?_
  refine lv_aload_n X.1 X.2.1 dX8_fetch_14 rfl (lv_at hl 1 rfl) ?_
  refine lv_dup X.1 X.2.1 dX8_fetch_15 rfl ?_
  refine wg (v := .int (oI (gI σ 386 o))) X hT hW 6 2 386 vl6_o rfl rfl (by decide) rfl (by decide) in_X8 q444 rfl dX8_fetch_16 ?_
  refine lv_dup_x1 X.1 X.2.1 dX8_fetch_19 rfl rfl ?_
  refine lv_iconst (v := oI 1) X.1 X.2.1 dX8_fetch_20 rfl ?_
  refine w_iadd X dX8_fetch_21 ?_
  refine wput (z := w32 ((gI σ 386 o) + 1)) X hT hW hS 6 2 386 vl6_o rfl rfl (by decide) rfl (by decide) in_X8 tyX8 tyX8_ok nmX8 q444 rfl rfl (w32_r _) (fv0 w rfl) rfl rfl dX8_fetch_22 (fun H locs hN hS => ?_)
  obtain ⟨σ_8, eσ_8⟩ : ∃ x, x = sI σ 386 o (w32 ((gI σ 386 o) + 1)) := ⟨_, rfl⟩
  have hWσ_8 : Wo w σ_8 H := eσ_8 ▸ hN
  have h := h σ_8 eσ_8
  clear hN
  refine w_knull (w := w) X dX8_fetch_25 ?_
  obtain ⟨bi, h⟩ := h
  refine w_aast (n := 320) X hV hT hWσ_8 hS 385 vl385_o (by decide) rfl rfl bi rK_n dX8_fetch_26 (fun H locs hN hS => ?_)
  obtain ⟨σ_9, eσ_9⟩ : ∃ x, x = sA σ_8 385 o (gI σ 386 o) (-1) := ⟨_, rfl⟩
  have hWσ_9 : Wo w σ_9 H := eσ_9 ▸ hN
  have h := h σ_9 eσ_9
  clear hN
  refine w_kload_n (w := w) X dX8_fetch_27 rfl (lv_at hl 0 rfl) ?_
  refine lv_iload_n X.1 X.2.1 dX8_fetch_28 rfl (lv_at hl 2 rfl) ?_
  obtain ⟨hz_10, h⟩ := h
  refine wr_V (rV (As := [.int (oI x1)]) (rest := []) X hT hWσ_9 hS (met_Knot_begin l (w := w) hV y2_7 x1 _ σ_9 ⟨hz_10, ry2_7.2⟩ rx1 h) (cwV 1 X.2.2.2.2 (lw_V q732 q733 q734 q140 q735) rfl rfl rfl (by decide +kernel) ⟨Nat.le_of_ble_eq_true rfl, Nat.le_of_ble_eq_true rfl⟩) (hV.hv 9 rfl ⟨hz_10, ry2_7.2⟩) (by decide) rfl rfl hl.1 (by simp only [knR hz_10]; rfl) (by first | exact Nat.le_of_ble_eq_true rfl | simp [catK, catI, catR, catL]) dX8_fetch_29 ⟨Nat.le_refl _, Nat.le_refl _⟩) hS (fun σ_12 H locs rkσ_12 h hWσ_12 hS => ?_)
  have h := h rkσ_12
  refine w_kload_n (w := w) X dX8_fetch_32 rfl (lv_at hl 0 rfl) ?_
  exact wret_K X hr hlk hWσ_12 hS ry2_7 h dX8_fetch_33
/-! Index.clear()V -/
set_option maxHeartbeats 4000000 in
set_option maxRecDepth 100000 in
theorem wk_Index_clear_b15 {p : Program} {l : Launch} {e : Env} {st : State} {m : MethodId} {args : Array Value} {below : List Frame} {meth : Method} {c : Code} {w : Wp} {o : Int} {Q : St → Prop} (X : CallFix p m c cX8_clear 1 st args lw_all RX8) (hr : meth.sig.returnType = none) (hlk : meth.locks = false) (hT : Tb w st) (hV : Hvl w) (ho : 0 ≤ o ∧ o < 2) : ∀ (σ : St) (H : Heap) (locs : List Loc) (ls : Array Slot), lv_has ls 1 [(0, .ref (wad w 6 o))] → Wo w σ H → va_S (wA w) st.heap H locs → wp_Index_clear_b15 (wc w) (wtv w) o Q σ → W p l e (headSpec (ws_ yX8_clear cX8_clear 1 none) rm_Index_clear).room st m args below meth c H locs 0 0 (MQ below (QcV w Q) args st 0 0 (wA w)) (F0 m 15 ls []) := by
  have vl6_o : vl w 6 o := hV.hv 6 rfl ⟨by omega, by show _ < (2 : Int); omega⟩
  intro σ H locs ls hl hW hS h
  unfold wp_Index_clear_b15 at h
  refine lv_aload_n X.1 X.2.1 dX8_clear_15 rfl (lv_at hl 0 rfl) ?_
  refine lv_iconst (v := oI 0) X.1 X.2.1 dX8_clear_16 rfl ?_
  refine wput (z := 0) X hT hW hS 6 6 390 vl6_o rfl rfl (by decide) rfl (by decide) in_X8 tyX8 tyX8_ok nmX8 q451 rfl rfl rZ_0.i (fv0 w rfl) rfl rfl dX8_clear_17 (fun H locs hN hS => ?_)
  obtain ⟨σ_7, eσ_7⟩ : ∃ x, x = sI σ 390 o 0 := ⟨_, rfl⟩
  have hWσ_7 : Wo w σ_7 H := eσ_7 ▸ hN
  have h := h σ_7 eσ_7
  clear hN
  refine lv_aload_n X.1 X.2.1 dX8_clear_20 rfl (lv_at hl 0 rfl) ?_
  refine lv_aload_n X.1 X.2.1 dX8_clear_21 rfl (lv_at hl 0 rfl) ?_
  refine lv_iconst (v := oI 0) X.1 X.2.1 dX8_clear_22 rfl ?_
  refine wr_K (rV (As := [.int (oI 0)]) (rest := [.ref (wad w 6 o)]) X hT hWσ_7 hS (met_Index_fetch l (w := w) hV o 0 _ σ_7 (by omega) rZ_0.i h) (cwV 1 X.2.2.2.2 (lw_V q728 q729 q730 q139 q731) rfl rfl rfl (by decide +kernel) ⟨Nat.le_of_ble_eq_true rfl, Nat.le_of_ble_eq_true rfl⟩) vl6_o (by decide) rfl rfl hl.1 rfl (by first | exact Nat.le_of_ble_eq_true rfl | simp [catK, catI, catR, catL]) dX8_clear_23 ⟨Nat.le_refl _, Nat.le_refl _⟩) hS (fun r_8 σ_9 H locs rr_8 rkσ_9 h hWσ_9 hS => ?_)
  have h := h rr_8 rkσ_9
  refine wput (z := r_8) X hT hWσ_9 hS 6 3 387 vl6_o rfl rfl (by decide) rfl (by decide) in_X8 tyX8 tyX8_ok nmX8 q445 rfl rfl rr_8 (fv2 w rfl) (nrK w _ _) (ftK w _ _) dX8_clear_26 (fun H locs hN hS => ?_)
  obtain ⟨σ_10, eσ_10⟩ : ∃ x, x = sI σ_9 387 o r_8 := ⟨_, rfl⟩
  have hWσ_10 : Wo w σ_10 H := eσ_10 ▸ hN
  have h := h σ_10 eσ_10
  clear hN
  exact wret_V X hr hlk hWσ_10 hS h dX8_clear_29
set_option maxHeartbeats 4000000 in
set_option maxRecDepth 100000 in
theorem met_Index_clear (l : Launch) {w : Wp} (hV : Hvl w) (o : Int) (Q : St → Prop) (σ : St) (ho : 0 ≤ o ∧ o < 2) (h : wp_Index_clear (wc w) (wtv w) o Q σ) : Met l yX8_clear (ws_ yX8_clear cX8_clear 1 none) rm_Index_clear (PcW w σ [.ref (wad w 6 o)]) (QcV w Q) 0 0 (wA w) := by
  refine Met.ofW (cc := cX8_clear) (maxL := 1) (ret := none) (by decide) rfl ?_
  intro p e st m args below meth c s₁ B hml hv
  obtain ⟨hargs, hW, hT⟩ := hv
  have X : CallFix p m c cX8_clear 1 st _ lw_all RX8 := ⟨B.exec, B.bytes, hml, findClass_of_methodNamed B.named, fun w h => atoms_spec (ws := ws_ yX8_clear cX8_clear 1 none) B.pre w (List.mem_cons_of_mem _ h)⟩
  have hr := B.returns
  have hlk := B.notSynchronized
  have hS : va_S (wA w) st.heap st.heap [] := va_S.rf
  have vl6_o : vl w 6 o := hV.hv 6 rfl ⟨by omega, by show _ < (2 : Int); omega⟩
  have hl := lv_entry ([.ref (wad w 6 o)]) (n := 1) (Nat.le_of_ble_eq_true rfl)
  have hfr := lg_entry_eq m ([.ref (wad w 6 o)]) 1
  rw [← hargs] at hfr
  rw [hfr]
  generalize (lg_sl ([.ref (wad w 6 o)]) ++ List.replicate (1 - (lg_sl ([.ref (wad w 6 o)])).length) Slot.unset).toArray = ls at hl ⊢
  have hl : lv_has ls 1 [(0, .ref (wad w 6 o))] := hl
  unfold wp_Index_clear at h
  refine lv_aload_n X.1 X.2.1 dX8_clear_0 rfl (lv_at hl 0 rfl) ?_
  refine wg (v := va_rf (knO w (gI σ 387 o))) X hT hW 6 3 387 vl6_o rfl rfl (by decide) rfl (by decide) in_X8 q445 rfl dX8_clear_1 ?_
  refine w_ifnull (w := w) (tgt := 15) X dX8_clear_4 (by decide) (fun hc => ?_) (fun hc => ?_)
  · have h := h.1 hc
    exact wk_Index_clear_b15 X hr hlk hT hV ho σ _ _ _ (lv_sub hl [0] rfl) hW hS h
  · have h := h.2 hc
    refine lv_aload_n X.1 X.2.1 dX8_clear_7 rfl (lv_at hl 0 rfl) ?_
    refine lv_aload_n X.1 X.2.1 dX8_clear_8 rfl (lv_at hl 0 rfl) ?_
    refine wg (v := va_rf (knO w (gI σ 387 o))) X hT hW 6 3 387 vl6_o rfl rfl (by decide) rfl (by decide) in_X8 q445 rfl dX8_clear_9 ?_
    refine wr_V (rV (As := [va_rf (knO w (gI σ 387 o))]) (rest := []) X hT hW hS (met_Index_giveAll l hV 12 o (gI σ 387 o) _ σ (by omega) (hW.r.k 387 o rfl) h) (cwV 1 X.2.2.2.2 (lw_V q724 q726 qs6 q139 q727) rfl rfl rfl (by decide +kernel) ⟨Nat.le_of_ble_eq_true rfl, Nat.le_of_ble_eq_true rfl⟩) vl6_o (by decide) rfl rfl hl.1 rfl (by first | exact Nat.le_of_ble_eq_true rfl | simp [catK, catI, catR, catL]) dX8_clear_12 ⟨Nat.le_refl _, Nat.le_refl _⟩) hS (fun σ_12 H locs rkσ_12 h hWσ_12 hS => ?_)
    have h := h rkσ_12
    exact wk_Index_clear_b15 X hr hlk hT hV ho σ_12 _ _ _ (lv_sub hl [0] rfl) hWσ_12 hS h
/-! Index.seek(JJ)Z -/
set_option maxHeartbeats 4000000 in
set_option maxRecDepth 100000 in
theorem wk_Index_seek_L131B {p : Program} {l : Launch} {e : Env} {st : State} {m : MethodId} {args : Array Value} {below : List Frame} {meth : Method} {c : Code} {w : Wp} {o : Int} {x1 : Int} {x3 : Int} {Q : Int → St → Prop} (X : CallFix p m c cX8_seek 8 st args lw_all RX8) (hr : meth.sig.returnType = (some .boolean)) (hlk : meth.locks = false) (hT : Tb w st) (hV : Hvl w) (ho : 0 ≤ o ∧ o < 2) (rx1 : rJ x1) (rx3 : rJ x3) (K154 : Int → Int → St → Prop) (K131 : Int → St → Prop) (hK154 : ∀ (y5 y7 : Int) (σ : St) (H : Heap) (locs : List Loc) (ls : Array Slot), rK y5 → rI y7 → lv_has ls 8 [(0, .ref (wad w 6 o)), (5, va_rf (knO w y5)), (7, .int (oI y7))] → Wo w σ H → va_S (wA w) st.heap H locs → K154 y5 y7 σ → W p l e (headSpec (ws_ yX8_seek cX8_seek 8 (some .boolean)) rm_Index_seek).room st m args below meth c H locs 0 0 (MQ below (QcZ w Q) args st 0 0 (wA w)) (F0 m 154 ls [])) (hK131 : ∀ (y5 : Int) (σ : St) (H : Heap) (locs : List Loc) (ls : Array Slot), rK y5 → lv_has ls 8 [(0, .ref (wad w 6 o)), (5, va_rf (knO w y5))] → Wo w σ H → va_S (wA w) st.heap H locs → K131 y5 σ → W p l e (headSpec (ws_ yX8_seek cX8_seek 8 (some .boolean)) rm_Index_seek).room st m args below meth c H locs 0 0 (MQ below (QcZ w Q) args st 0 0 (wA w)) (F0 m 131 ls [])) : ∀ (y5 : Int) (σ : St) (H : Heap) (locs : List Loc) (ls : Array Slot), rK y5 → lv_has ls 8 [(0, .ref (wad w 6 o)), (5, va_rf (knO w y5))] → Wo w σ H → va_S (wA w) st.heap H locs → wp_Index_seek_L131 (wc w) (wtv w) o x1 x3 Q K154 K131 y5 σ → W p l e (headSpec (ws_ yX8_seek cX8_seek 8 (some .boolean)) rm_Index_seek).room st m args below meth c H locs 0 0 (MQ below (QcZ w Q) args st 0 0 (wA w)) (F0 m 131 ls []) := by

  intro y5 σ H locs ls ry5 hl hW hS h
  unfold wp_Index_seek_L131 at h
  refine w_kload (w := w) X dX8_seek_131 (lv_at hl 1 rfl) ?_
  obtain ⟨hz_23, h⟩ := h
  rw [knR hz_23]
  refine wg (v := .int (oI (gI σ 576 y5))) X hT hW 9 0 576 (hV.hv 9 rfl ⟨hz_23, ry5.2⟩) rfl rfl (by decide) rfl (by decide) in_X9 q384 rfl dX8_seek_133 ?_
  refine w_if_le (tgt := 151) X (hW.r.i 576 y5 rfl) dX8_seek_136 (by decide) (fun hc => ?_) (fun hc => ?_)
  · have h := h.1 hc
    refine lv_iconst (v := oI 0) X.1 X.2.1 dX8_seek_151 rfl ?_
    refine lv_istore (i := 7) (lv' := [(7, .int (oI 0)), (0, .ref (wad w 6 o)), (5, va_rf (knO w y5))]) X.1 X.2.1 dX8_seek_152 hl (by decide) (by first | rfl | simp [catK, catI, catR, catL]) (fun ls hl => ?_)
    exact hK154 y5 0 σ _ _ _ ry5 rZ_0.i (lv_sub hl [1, 2, 0] rfl) hW hS h
  · have h := h.2 hc
    refine w_kload (w := w) X dX8_seek_139 (lv_at hl 1 rfl) ?_
    rw [knR hz_23]
    refine wg (v := .ref (wad w 583 y5)) X hT hW 9 7 583 (hV.hv 9 rfl ⟨hz_23, ry5.2⟩) rfl rfl (by decide) rfl (by decide) in_X9 q405 rfl dX8_seek_141 ?_
    refine lv_iconst (v := oI 0) X.1 X.2.1 dX8_seek_144 rfl ?_
    obtain ⟨bi, h⟩ := h
    refine w_aald (n := 9) X hT hW 583 (hV.hv 583 rfl ⟨hz_23, ry5.2⟩) (by decide) rfl rfl bi dX8_seek_145 ?_
    refine w_topk (w := w) (fun y5_24 ey5_24 => ?_)
    have h := h y5_24 ey5_24
    have ry5_24 : rK y5_24 := by rw [ey5_24]; exact (hW.r.ak 583 y5 0 rfl)
    refine w_kstore (i := 5) (lv' := [(5, va_rf (knO w y5_24)), (0, .ref (wad w 6 o))]) (w := w) X dX8_seek_146 hl (by decide) (by first | rfl | simp [catK, catI, catR, catL]) (fun ls hl => ?_)
    refine lv_goto (tgt := 131) X.1 X.2.1 dX8_seek_148 (by decide) ?_
    exact hK131 y5_24 σ _ _ _ ry5_24 (lv_sub hl [1, 0] rfl) hW hS h
theorem wk_Index_seek_L131 {p : Program} {l : Launch} {e : Env} {st : State} {m : MethodId} {args : Array Value} {below : List Frame} {meth : Method} {c : Code} {w : Wp} {o : Int} {x1 : Int} {x3 : Int} {Q : Int → St → Prop} (X : CallFix p m c cX8_seek 8 st args lw_all RX8) (hr : meth.sig.returnType = (some .boolean)) (hlk : meth.locks = false) (hT : Tb w st) (hV : Hvl w) (ho : 0 ≤ o ∧ o < 2) (rx1 : rJ x1) (rx3 : rJ x3) (K154 : Int → Int → St → Prop) (hK154 : ∀ (y5 y7 : Int) (σ : St) (H : Heap) (locs : List Loc) (ls : Array Slot), rK y5 → rI y7 → lv_has ls 8 [(0, .ref (wad w 6 o)), (5, va_rf (knO w y5)), (7, .int (oI y7))] → Wo w σ H → va_S (wA w) st.heap H locs → K154 y5 y7 σ → W p l e (headSpec (ws_ yX8_seek cX8_seek 8 (some .boolean)) rm_Index_seek).room st m args below meth c H locs 0 0 (MQ below (QcZ w Q) args st 0 0 (wA w)) (F0 m 154 ls [])) : ∀ (y5 : Int) (σ : St) (H : Heap) (locs : List Loc) (ls : Array Slot), rK y5 → lv_has ls 8 [(0, .ref (wad w 6 o)), (5, va_rf (knO w y5))] → Wo w σ H → va_S (wA w) st.heap H locs → lQ1 (wp_Index_seek_L131 (wc w) (wtv w) o x1 x3 Q K154) y5 σ → W p l e (headSpec (ws_ yX8_seek cX8_seek 8 (some .boolean)) rm_Index_seek).room st m args below meth c H locs 0 0 (MQ below (QcZ w Q) args st 0 0 (wA w)) (F0 m 131 ls []) := by
  intro y5 σ H locs ls ry5 hl hW hS h
  obtain ⟨fu, h⟩ := h
  induction fu generalizing y5 σ H locs ls with
  | zero => exact h.elim
  | succ fu ih =>
    exact wk_Index_seek_L131B X hr hlk hT hV ho rx1 rx3 K154 (lq1 (wp_Index_seek_L131 (wc w) (wtv w) o x1 x3 Q K154) fu) hK154 (fun y5 σ H locs ls ry5 hl hW hS h => ih y5 σ H locs ls ry5 hl hW hS h) y5 σ H locs ls ry5 hl hW hS h
set_option maxHeartbeats 4000000 in
set_option maxRecDepth 100000 in
theorem wk_Index_seek_b154 {p : Program} {l : Launch} {e : Env} {st : State} {m : MethodId} {args : Array Value} {below : List Frame} {meth : Method} {c : Code} {w : Wp} {o : Int} {x1 : Int} {x3 : Int} {Q : Int → St → Prop} (X : CallFix p m c cX8_seek 8 st args lw_all RX8) (hr : meth.sig.returnType = (some .boolean)) (hlk : meth.locks = false) (hT : Tb w st) (hV : Hvl w) (ho : 0 ≤ o ∧ o < 2) (rx1 : rJ x1) (rx3 : rJ x3) : ∀ (y5 y7 : Int) (σ : St) (H : Heap) (locs : List Loc) (ls : Array Slot), rK y5 → rI y7 → lv_has ls 8 [(0, .ref (wad w 6 o)), (5, va_rf (knO w y5)), (7, .int (oI y7))] → Wo w σ H → va_S (wA w) st.heap H locs → wp_Index_seek_b154 (wc w) (wtv w) o x1 x3 Q y5 y7 σ → W p l e (headSpec (ws_ yX8_seek cX8_seek 8 (some .boolean)) rm_Index_seek).room st m args below meth c H locs 0 0 (MQ below (QcZ w Q) args st 0 0 (wA w)) (F0 m 154 ls []) := by
  have vl6_o : vl w 6 o := hV.hv 6 rfl ⟨by omega, by show _ < (2 : Int); omega⟩
  intro y5 y7 σ H locs ls ry5 ry7 hl hW hS h
  unfold wp_Index_seek_b154 at h
  refine lv_aload_n X.1 X.2.1 dX8_seek_154 rfl (lv_at hl 0 rfl) ?_
  refine w_kload (w := w) X dX8_seek_155 (lv_at hl 1 rfl) ?_
  refine wput (z := y5) X hT hW hS 6 12 396 vl6_o rfl rfl (by decide) rfl (by decide) in_X8 tyX8 tyX8_ok nmX8 q468 rfl rfl ry5 (fv2 w rfl) (nrK w _ _) (ftK w _ _) dX8_seek_157 (fun H locs hN hS => ?_)
  obtain ⟨σ_25, eσ_25⟩ : ∃ x, x = sI σ 396 o y5 := ⟨_, rfl⟩
  have hWσ_25 : Wo w σ_25 H := eσ_25 ▸ hN
  have h := h σ_25 eσ_25
  clear hN
  refine lv_aload_n X.1 X.2.1 dX8_seek_160 rfl (lv_at hl 0 rfl) ?_
  refine lv_iload X.1 X.2.1 dX8_seek_161 (lv_at hl 2 rfl) ?_
  refine wput (z := y7) X hT hWσ_25 hS 6 13 397 vl6_o rfl rfl (by decide) rfl (by decide) in_X8 tyX8 tyX8_ok nmX8 q469 rfl rfl ry7 (fv0 w rfl) rfl rfl dX8_seek_163 (fun H locs hN hS => ?_)
  obtain ⟨σ_26, eσ_26⟩ : ∃ x, x = sI σ_25 397 o y7 := ⟨_, rfl⟩
  have hWσ_26 : Wo w σ_26 H := eσ_26 ▸ hN
  have h := h σ_26 eσ_26
  clear hN
  refine lv_aload_n X.1 X.2.1 dX8_seek_166 rfl (lv_at hl 0 rfl) ?_
  refine w_kload (w := w) X dX8_seek_167 (lv_at hl 1 rfl) ?_
  obtain ⟨hz_27, h⟩ := h
  rw [knR hz_27]
  refine wg (v := .ref (wad w 578 y5)) X hT hWσ_26 9 2 578 (hV.hv 9 rfl ⟨hz_27, ry5.2⟩) rfl rfl (by decide) rfl (by decide) in_X9 q390 rfl dX8_seek_169 ?_
  refine lv_iload X.1 X.2.1 dX8_seek_172 (lv_at hl 2 rfl) ?_
  obtain ⟨bi, h⟩ := h
  refine w_lald (n := 9) X hT hWσ_26 578 (hV.hv 578 rfl ⟨hz_27, ry5.2⟩) (by decide) rfl rfl bi dX8_seek_174 ?_
  refine wput (z := gA σ_26 578 y5 y7) X hT hWσ_26 hS 6 7 391 vl6_o rfl rfl (by decide) rfl (by decide) in_X8 tyX8 tyX8_ok nmX8 q453 rfl rfl (hWσ_26.r.aj 578 y5 y7 rfl) (fv1 w rfl) rfl rfl dX8_seek_175 (fun H locs hN hS => ?_)
  obtain ⟨σ_28, eσ_28⟩ : ∃ x, x = sI σ_26 391 o (gA σ_26 578 y5 y7) := ⟨_, rfl⟩
  have hWσ_28 : Wo w σ_28 H := eσ_28 ▸ hN
  have h := h σ_28 eσ_28
  clear hN
  refine lv_aload_n X.1 X.2.1 dX8_seek_178 rfl (lv_at hl 0 rfl) ?_
  refine w_kload (w := w) X dX8_seek_179 (lv_at hl 1 rfl) ?_
  rw [knR hz_27]
  refine wg (v := .ref (wad w 579 y5)) X hT hWσ_28 9 3 579 (hV.hv 9 rfl ⟨hz_27, ry5.2⟩) rfl rfl (by decide) rfl (by decide) in_X9 q393 rfl dX8_seek_181 ?_
  refine lv_iload X.1 X.2.1 dX8_seek_184 (lv_at hl 2 rfl) ?_
  obtain ⟨bi, h⟩ := h
  refine w_lald (n := 9) X hT hWσ_28 579 (hV.hv 579 rfl ⟨hz_27, ry5.2⟩) (by decide) rfl rfl bi dX8_seek_186 ?_
  refine wput (z := gA σ_28 579 y5 y7) X hT hWσ_28 hS 6 8 392 vl6_o rfl rfl (by decide) rfl (by decide) in_X8 tyX8 tyX8_ok nmX8 q456 rfl rfl (hWσ_28.r.aj 579 y5 y7 rfl) (fv1 w rfl) rfl rfl dX8_seek_187 (fun H locs hN hS => ?_)
  obtain ⟨σ_29, eσ_29⟩ : ∃ x, x = sI σ_28 392 o (gA σ_28 579 y5 y7) := ⟨_, rfl⟩
  have hWσ_29 : Wo w σ_29 H := eσ_29 ▸ hN
  have h := h σ_29 eσ_29
  clear hN
  refine lv_aload_n X.1 X.2.1 dX8_seek_190 rfl (lv_at hl 0 rfl) ?_
  refine w_kload (w := w) X dX8_seek_191 (lv_at hl 1 rfl) ?_
  rw [knR hz_27]
  refine wg (v := .ref (wad w 580 y5)) X hT hWσ_29 9 4 580 (hV.hv 9 rfl ⟨hz_27, ry5.2⟩) rfl rfl (by decide) rfl (by decide) in_X9 q396 rfl dX8_seek_193 ?_
  refine lv_iload X.1 X.2.1 dX8_seek_196 (lv_at hl 2 rfl) ?_
  obtain ⟨bi, h⟩ := h
  refine w_iald (n := 9) X hT hWσ_29 580 (hV.hv 580 rfl ⟨hz_27, ry5.2⟩) (by decide) rfl rfl bi dX8_seek_198 ?_
  refine wput (z := gA σ_29 580 y5 y7) X hT hWσ_29 hS 6 9 393 vl6_o rfl rfl (by decide) rfl (by decide) in_X8 tyX8 tyX8_ok nmX8 q459 rfl rfl (hWσ_29.r.ai 580 y5 y7 rfl) (fv0 w rfl) rfl rfl dX8_seek_199 (fun H locs hN hS => ?_)
  obtain ⟨σ_30, eσ_30⟩ : ∃ x, x = sI σ_29 393 o (gA σ_29 580 y5 y7) := ⟨_, rfl⟩
  have hWσ_30 : Wo w σ_30 H := eσ_30 ▸ hN
  have h := h σ_30 eσ_30
  clear hN
  refine lv_aload_n X.1 X.2.1 dX8_seek_202 rfl (lv_at hl 0 rfl) ?_
  refine w_kload (w := w) X dX8_seek_203 (lv_at hl 1 rfl) ?_
  rw [knR hz_27]
  refine wg (v := .ref (wad w 581 y5)) X hT hWσ_30 9 5 581 (hV.hv 9 rfl ⟨hz_27, ry5.2⟩) rfl rfl (by decide) rfl (by decide) in_X9 q399 rfl dX8_seek_205 ?_
  refine lv_iload X.1 X.2.1 dX8_seek_208 (lv_at hl 2 rfl) ?_
  obtain ⟨bi, h⟩ := h
  refine w_iald (n := 9) X hT hWσ_30 581 (hV.hv 581 rfl ⟨hz_27, ry5.2⟩) (by decide) rfl rfl bi dX8_seek_210 ?_
  refine wput (z := gA σ_30 581 y5 y7) X hT hWσ_30 hS 6 10 394 vl6_o rfl rfl (by decide) rfl (by decide) in_X8 tyX8 tyX8_ok nmX8 q462 rfl rfl (hWσ_30.r.ai 581 y5 y7 rfl) (fv0 w rfl) rfl rfl dX8_seek_211 (fun H locs hN hS => ?_)
  obtain ⟨σ_31, eσ_31⟩ : ∃ x, x = sI σ_30 394 o (gA σ_30 581 y5 y7) := ⟨_, rfl⟩
  have hWσ_31 : Wo w σ_31 H := eσ_31 ▸ hN
  have h := h σ_31 eσ_31
  clear hN
  refine lv_aload_n X.1 X.2.1 dX8_seek_214 rfl (lv_at hl 0 rfl) ?_
  refine w_kload (w := w) X dX8_seek_215 (lv_at hl 1 rfl) ?_
  rw [knR hz_27]
  refine wg (v := .ref (wad w 582 y5)) X hT hWσ_31 9 6 582 (hV.hv 9 rfl ⟨hz_27, ry5.2⟩) rfl rfl (by decide) rfl (by decide) in_X9 q402 rfl dX8_seek_217 ?_
  refine lv_iload X.1 X.2.1 dX8_seek_220 (lv_at hl 2 rfl) ?_
  obtain ⟨bi, h⟩ := h
  refine w_iald (n := 9) X hT hWσ_31 582 (hV.hv 582 rfl ⟨hz_27, ry5.2⟩) (by decide) rfl rfl bi dX8_seek_222 ?_
  refine wput (z := gA σ_31 582 y5 y7) X hT hWσ_31 hS 6 11 395 vl6_o rfl rfl (by decide) rfl (by decide) in_X8 tyX8 tyX8_ok nmX8 q465 rfl rfl (hWσ_31.r.ai 582 y5 y7 rfl) (fv0 w rfl) rfl rfl dX8_seek_223 (fun H locs hN hS => ?_)
  obtain ⟨σ_32, eσ_32⟩ : ∃ x, x = sI σ_31 395 o (gA σ_31 582 y5 y7) := ⟨_, rfl⟩
  have hWσ_32 : Wo w σ_32 H := eσ_32 ▸ hN
  have h := h σ_32 eσ_32
  clear hN
  refine lv_iconst (v := oI 1) X.1 X.2.1 dX8_seek_226 rfl ?_
  exact wret_Z X hr hlk hWσ_32 hS rZ_1 h dX8_seek_227
set_option maxHeartbeats 4000000 in
set_option maxRecDepth 100000 in
theorem wk_Index_seek_b107 {p : Program} {l : Launch} {e : Env} {st : State} {m : MethodId} {args : Array Value} {below : List Frame} {meth : Method} {c : Code} {w : Wp} {o : Int} {x1 : Int} {x3 : Int} {Q : Int → St → Prop} (X : CallFix p m c cX8_seek 8 st args lw_all RX8) (hr : meth.sig.returnType = (some .boolean)) (hlk : meth.locks = false) (hT : Tb w st) (hV : Hvl w) (ho : 0 ≤ o ∧ o < 2) (rx1 : rJ x1) (rx3 : rJ x3) (K110 : Int → Int → Int → St → Prop) (hK110 : ∀ (y5 y6 y7 : Int) (σ : St) (H : Heap) (locs : List Loc) (ls : Array Slot), rK y5 → rK y6 → rI y7 → lv_has ls 8 [(0, .ref (wad w 6 o)), (5, va_rf (knO w y5)), (6, va_rf (knO w y6)), (7, .int (oI y7))] → Wo w σ H → va_S (wA w) st.heap H locs → K110 y5 y6 y7 σ → W p l e (headSpec (ws_ yX8_seek cX8_seek 8 (some .boolean)) rm_Index_seek).room st m args below meth c H locs 0 0 (MQ below (QcZ w Q) args st 0 0 (wA w)) (F0 m 110 ls [])) : ∀ (y5 y6 y7 : Int) (σ : St) (H : Heap) (locs : List Loc) (ls : Array Slot), rK y5 → rK y6 → rI y7 → lv_has ls 8 [(0, .ref (wad w 6 o)), (5, va_rf (knO w y5)), (6, va_rf (knO w y6)), (7, .int (oI y7))] → Wo w σ H → va_S (wA w) st.heap H locs → wp_Index_seek_b107 (wc w) (wtv w) o x1 x3 Q K110 y5 y6 y7 σ → W p l e (headSpec (ws_ yX8_seek cX8_seek 8 (some .boolean)) rm_Index_seek).room st m args below meth c H locs 0 0 (MQ below (QcZ w Q) args st 0 0 (wA w)) (F0 m 107 ls []) := by

  intro y5 y6 y7 σ H locs ls ry5 ry6 ry7 hl hW hS h
  unfold wp_Index_seek_b107 at h
  obtain ⟨y7_33, ey7_33⟩ : ∃ y : Int, y = w32 (y7 + 1) := ⟨_, rfl⟩
  have h := h y7_33 ey7_33
  have ry7_33 : rI y7_33 := by rw [ey7_33]; exact w32_r _
  refine lv_iinc (v := oI y7_33) (lv' := [(7, .int (oI y7_33)), (0, .ref (wad w 6 o)), (5, va_rf (knO w y5)), (6, va_rf (knO w y6))]) X.1 X.2.1 dX8_seek_107 hl (k := 3) rfl (by rw [ey7_33]; exact oI_add _ _) (by decide) (by first | rfl | simp [catK, catI, catR, catL]) (fun ls hl => ?_)
  exact hK110 y5 y6 y7_33 σ _ _ _ ry5 ry6 ry7_33 (lv_sub hl [1, 2, 3, 0] rfl) hW hS h
set_option maxHeartbeats 4000000 in
set_option maxRecDepth 100000 in
theorem wk_Index_seek_b110 {p : Program} {l : Launch} {e : Env} {st : State} {m : MethodId} {args : Array Value} {below : List Frame} {meth : Method} {c : Code} {w : Wp} {o : Int} {x1 : Int} {x3 : Int} {Q : Int → St → Prop} (X : CallFix p m c cX8_seek 8 st args lw_all RX8) (hr : meth.sig.returnType = (some .boolean)) (hlk : meth.locks = false) (hT : Tb w st) (hV : Hvl w) (ho : 0 ≤ o ∧ o < 2) (rx1 : rJ x1) (rx3 : rJ x3) : ∀ (y5 y6 y7 : Int) (σ : St) (H : Heap) (locs : List Loc) (ls : Array Slot), rK y5 → rK y6 → rI y7 → lv_has ls 8 [(0, .ref (wad w 6 o)), (5, va_rf (knO w y5)), (6, va_rf (knO w y6)), (7, .int (oI y7))] → Wo w σ H → va_S (wA w) st.heap H locs → wp_Index_seek_b110 (wc w) (wtv w) o x1 x3 Q y5 y6 y7 σ → W p l e (headSpec (ws_ yX8_seek cX8_seek 8 (some .boolean)) rm_Index_seek).room st m args below meth c H locs 0 0 (MQ below (QcZ w Q) args st 0 0 (wA w)) (F0 m 110 ls []) := by

  intro y5 y6 y7 σ H locs ls ry5 ry6 ry7 hl hW hS h
  unfold wp_Index_seek_b110 at h
  refine lv_iload X.1 X.2.1 dX8_seek_110 (lv_at hl 3 rfl) ?_
  refine w_kload (w := w) X dX8_seek_112 (lv_at hl 1 rfl) ?_
  obtain ⟨hz_34, h⟩ := h
  rw [knR hz_34]
  refine wg (v := .int (oI (gI σ 577 y5))) X hT hW 9 1 577 (hV.hv 9 rfl ⟨hz_34, ry5.2⟩) rfl rfl (by decide) rfl (by decide) in_X9 q387 rfl dX8_seek_114 ?_
  refine w_icmp_ne (tgt := 154) X ry7 (hW.r.i 577 y5 rfl) dX8_seek_117 (by decide) (fun hc => ?_) (fun hc => ?_)
  · have h := h.1 hc
    exact wk_Index_seek_b154 X hr hlk hT hV ho rx1 rx3 y5 y7 σ _ _ _ ry5 ry7 (lv_sub hl [0, 1, 3] rfl) hW hS h
  · have h := h.2 hc
    refine w_kload (w := w) X dX8_seek_120 (lv_at hl 2 rfl) ?_
    refine w_ifnonnull (w := w) (tgt := 127) X dX8_seek_122 (by decide) (fun hc => ?_) (fun hc => ?_)
    · have h := h.1 hc
      refine w_kload (w := w) X dX8_seek_127 (lv_at hl 2 rfl) ?_
      refine w_kstore (i := 5) (lv' := [(5, va_rf (knO w y6)), (0, .ref (wad w 6 o)), (6, va_rf (knO w y6)), (7, .int (oI y7))]) (w := w) X dX8_seek_129 hl (by decide) (by first | rfl | simp [catK, catI, catR, catL]) (fun ls hl => ?_)
      exact wk_Index_seek_L131 X hr hlk hT hV ho rx1 rx3 (wp_Index_seek_b154 (wc w) (wtv w) o x1 x3 Q) (wk_Index_seek_b154 X hr hlk hT hV ho rx1 rx3) y6 σ _ _ _ ry6 (lv_sub hl [1, 0] rfl) hW hS h
    · have h := h.2 hc
      refine lv_iconst (v := oI 0) X.1 X.2.1 dX8_seek_125 rfl ?_
      exact wret_Z X hr hlk hW hS rZ_0 h dX8_seek_126
set_option maxHeartbeats 4000000 in
set_option maxRecDepth 100000 in
theorem wk_Index_seek_b54 {p : Program} {l : Launch} {e : Env} {st : State} {m : MethodId} {args : Array Value} {below : List Frame} {meth : Method} {c : Code} {w : Wp} {o : Int} {x1 : Int} {x3 : Int} {Q : Int → St → Prop} (X : CallFix p m c cX8_seek 8 st args lw_all RX8) (hr : meth.sig.returnType = (some .boolean)) (hlk : meth.locks = false) (hT : Tb w st) (hV : Hvl w) (ho : 0 ≤ o ∧ o < 2) (rx1 : rJ x1) (rx3 : rJ x3) (K9 : Int → Int → St → Prop) (hK9 : ∀ (y5 y6 : Int) (σ : St) (H : Heap) (locs : List Loc) (ls : Array Slot), rK y5 → rK y6 → lv_has ls 8 [(0, .ref (wad w 6 o)), (1, .long (oL x1)), (3, .long (oL x3)), (5, va_rf (knO w y5)), (6, va_rf (knO w y6))] → Wo w σ H → va_S (wA w) st.heap H locs → K9 y5 y6 σ → W p l e (headSpec (ws_ yX8_seek cX8_seek 8 (some .boolean)) rm_Index_seek).room st m args below meth c H locs 0 0 (MQ below (QcZ w Q) args st 0 0 (wA w)) (F0 m 9 ls [])) : ∀ (y5 y6 y7 : Int) (σ : St) (H : Heap) (locs : List Loc) (ls : Array Slot), rK y5 → rK y6 → rI y7 → lv_has ls 8 [(0, .ref (wad w 6 o)), (1, .long (oL x1)), (3, .long (oL x3)), (5, va_rf (knO w y5)), (6, va_rf (knO w y6)), (7, .int (oI y7))] → Wo w σ H → va_S (wA w) st.heap H locs → wp_Index_seek_b54 (wc w) (wtv w) o x1 x3 Q K9 y5 y6 y7 σ → W p l e (headSpec (ws_ yX8_seek cX8_seek 8 (some .boolean)) rm_Index_seek).room st m args below meth c H locs 0 0 (MQ below (QcZ w Q) args st 0 0 (wA w)) (F0 m 54 ls []) := by

  intro y5 y6 y7 σ H locs ls ry5 ry6 ry7 hl hW hS h
  unfold wp_Index_seek_b54 at h
  refine w_kload (w := w) X dX8_seek_54 (lv_at hl 3 rfl) ?_
  obtain ⟨hz_35, h⟩ := h
  rw [knR hz_35]
  refine wg (v := .ref (wad w 583 y5)) X hT hW 9 7 583 (hV.hv 9 rfl ⟨hz_35, ry5.2⟩) rfl rfl (by decide) rfl (by decide) in_X9 q405 rfl dX8_seek_56 ?_
  refine lv_iload X.1 X.2.1 dX8_seek_59 (lv_at hl 5 rfl) ?_
  obtain ⟨bi, h⟩ := h
  refine w_aald (n := 9) X hT hW 583 (hV.hv 583 rfl ⟨hz_35, ry5.2⟩) (by decide) rfl rfl bi dX8_seek_61 ?_
  refine w_topk (w := w) (fun y5_36 ey5_36 => ?_)
  have h := h y5_36 ey5_36
  have ry5_36 : rK y5_36 := by rw [ey5_36]; exact (hW.r.ak 583 y5 y7 rfl)
  refine w_kstore (i := 5) (lv' := [(5, va_rf (knO w y5_36)), (0, .ref (wad w 6 o)), (1, .long (oL x1)), (3, .long (oL x3)), (6, va_rf (knO w y6)), (7, .int (oI y7))]) (w := w) X dX8_seek_62 hl (by decide) (by first | rfl | simp [catK, catI, catR, catL]) (fun ls hl => ?_)
  refine lv_goto (tgt := 9) X.1 X.2.1 dX8_seek_64 (by decide) ?_
  exact hK9 y5_36 y6 σ _ _ _ ry5_36 ry6 (lv_sub hl [1, 2, 3, 0, 4] rfl) hW hS h
set_option maxHeartbeats 4000000 in
set_option maxRecDepth 100000 in
theorem wk_Index_seek_L9B {p : Program} {l : Launch} {e : Env} {st : State} {m : MethodId} {args : Array Value} {below : List Frame} {meth : Method} {c : Code} {w : Wp} {o : Int} {x1 : Int} {x3 : Int} {Q : Int → St → Prop} (X : CallFix p m c cX8_seek 8 st args lw_all RX8) (hr : meth.sig.returnType = (some .boolean)) (hlk : meth.locks = false) (hT : Tb w st) (hV : Hvl w) (ho : 0 ≤ o ∧ o < 2) (rx1 : rJ x1) (rx3 : rJ x3) (K9 : Int → Int → St → Prop) (hK9 : ∀ (y5 y6 : Int) (σ : St) (H : Heap) (locs : List Loc) (ls : Array Slot), rK y5 → rK y6 → lv_has ls 8 [(0, .ref (wad w 6 o)), (1, .long (oL x1)), (3, .long (oL x3)), (5, va_rf (knO w y5)), (6, va_rf (knO w y6))] → Wo w σ H → va_S (wA w) st.heap H locs → K9 y5 y6 σ → W p l e (headSpec (ws_ yX8_seek cX8_seek 8 (some .boolean)) rm_Index_seek).room st m args below meth c H locs 0 0 (MQ below (QcZ w Q) args st 0 0 (wA w)) (F0 m 9 ls [])) : ∀ (y5 y6 : Int) (σ : St) (H : Heap) (locs : List Loc) (ls : Array Slot), rK y5 → rK y6 → lv_has ls 8 [(0, .ref (wad w 6 o)), (1, .long (oL x1)), (3, .long (oL x3)), (5, va_rf (knO w y5)), (6, va_rf (knO w y6))] → Wo w σ H → va_S (wA w) st.heap H locs → wp_Index_seek_L9 (wc w) (wtv w) o x1 x3 Q K9 y5 y6 σ → W p l e (headSpec (ws_ yX8_seek cX8_seek 8 (some .boolean)) rm_Index_seek).room st m args below meth c H locs 0 0 (MQ below (QcZ w Q) args st 0 0 (wA w)) (F0 m 9 ls []) := by

  intro y5 y6 σ H locs ls ry5 ry6 hl hW hS h
  unfold wp_Index_seek_L9 at h
  refine w_kload (w := w) X dX8_seek_9 (lv_at hl 3 rfl) ?_
  obtain ⟨hz_37, h⟩ := h
  rw [knR hz_37]
  refine wg (v := .int (oI (gI σ 576 y5))) X hT hW 9 0 576 (hV.hv 9 rfl ⟨hz_37, ry5.2⟩) rfl rfl (by decide) rfl (by decide) in_X9 q384 rfl dX8_seek_11 ?_
  refine w_if_le (tgt := 67) X (hW.r.i 576 y5 rfl) dX8_seek_14 (by decide) (fun hc => ?_) (fun hc => ?_)
  · have h := h.1 hc
    refine w_kload (w := w) X dX8_seek_67 (lv_at hl 3 rfl) ?_
    refine lv_lload_n X.1 X.2.1 dX8_seek_69 rfl (lv_at hl 1 rfl) ?_
    refine lv_lload_n X.1 X.2.1 dX8_seek_70 rfl (lv_at hl 2 rfl) ?_
    refine wr_I (rV (As := [.long (oL x1), .long (oL x3)]) (rest := []) X hT hW hS (met_Knot_slot l (w := w) hV y5 x1 x3 _ σ ⟨hz_37, ry5.2⟩ rx1 rx3 h) (cwV 2 X.2.2.2.2 (lw_V q909 q910 q911 q140 q912) rfl rfl rfl (by decide +kernel) ⟨Nat.le_of_ble_eq_true rfl, Nat.le_of_ble_eq_true rfl⟩) (hV.hv 9 rfl ⟨hz_37, ry5.2⟩) (by decide) rfl rfl hl.1 (by simp only [knR hz_37]; rfl) (by first | exact Nat.le_of_ble_eq_true rfl | simp [catK, catI, catR, catL]) dX8_seek_71 ⟨Nat.le_refl _, Nat.le_refl _⟩) hS (fun r_38 σ_39 H locs rr_38 rkσ_39 h hWσ_39 hS => ?_)
    have h := h rr_38 rkσ_39
    refine lv_istore (i := 7) (lv' := [(7, .int (oI r_38)), (0, .ref (wad w 6 o)), (1, .long (oL x1)), (3, .long (oL x3)), (5, va_rf (knO w y5)), (6, va_rf (knO w y6))]) X.1 X.2.1 dX8_seek_74 hl (by decide) (by first | rfl | simp [catK, catI, catR, catL]) (fun ls hl => ?_)
    refine lv_iload X.1 X.2.1 dX8_seek_76 (lv_at hl 0 rfl) ?_
    refine w_if_lt (tgt := 107) X rr_38 dX8_seek_78 (by decide) (fun hc => ?_) (fun hc => ?_)
    · have h := h.1 hc
      exact wk_Index_seek_b107 X hr hlk hT hV ho rx1 rx3 (wp_Index_seek_b110 (wc w) (wtv w) o x1 x3 Q) (wk_Index_seek_b110 X hr hlk hT hV ho rx1 rx3) y5 y6 r_38 σ_39 _ _ _ ry5 ry6 rr_38 (lv_sub hl [1, 4, 5, 0] rfl) hWσ_39 hS h
    · have h := h.2 hc
      refine w_kload (w := w) X dX8_seek_81 (lv_at hl 4 rfl) ?_
      rw [knR hz_37]
      refine wg (v := .ref (wad w 578 y5)) X hT hWσ_39 9 2 578 (hV.hv 9 rfl ⟨hz_37, ry5.2⟩) rfl rfl (by decide) rfl (by decide) in_X9 q390 rfl dX8_seek_83 ?_
      refine lv_iload X.1 X.2.1 dX8_seek_86 (lv_at hl 0 rfl) ?_
      obtain ⟨bi, h⟩ := h
      refine w_lald (n := 9) X hT hWσ_39 578 (hV.hv 578 rfl ⟨hz_37, ry5.2⟩) (by decide) rfl rfl bi dX8_seek_88 ?_
      refine lv_lload_n X.1 X.2.1 dX8_seek_89 rfl (lv_at hl 2 rfl) ?_
      refine w_lcmp_ne (tgt := 107) X (hWσ_39.r.aj 578 y5 r_38 rfl) rx1 dX8_seek_90 dX8_seek_91 (by decide) (fun hc => ?_) (fun hc => ?_)
      · have h := h.1 hc
        exact wk_Index_seek_b107 X hr hlk hT hV ho rx1 rx3 (wp_Index_seek_b110 (wc w) (wtv w) o x1 x3 Q) (wk_Index_seek_b110 X hr hlk hT hV ho rx1 rx3) y5 y6 r_38 σ_39 _ _ _ ry5 ry6 rr_38 (lv_sub hl [1, 4, 5, 0] rfl) hWσ_39 hS h
      · have h := h.2 hc
        refine w_kload (w := w) X dX8_seek_94 (lv_at hl 4 rfl) ?_
        rw [knR hz_37]
        refine wg (v := .ref (wad w 579 y5)) X hT hWσ_39 9 3 579 (hV.hv 9 rfl ⟨hz_37, ry5.2⟩) rfl rfl (by decide) rfl (by decide) in_X9 q393 rfl dX8_seek_96 ?_
        refine lv_iload X.1 X.2.1 dX8_seek_99 (lv_at hl 0 rfl) ?_
        obtain ⟨bi, h⟩ := h
        refine w_lald (n := 9) X hT hWσ_39 579 (hV.hv 579 rfl ⟨hz_37, ry5.2⟩) (by decide) rfl rfl bi dX8_seek_101 ?_
        refine lv_lload_n X.1 X.2.1 dX8_seek_102 rfl (lv_at hl 3 rfl) ?_
        refine w_lcmp_eq (tgt := 110) X (hWσ_39.r.aj 579 y5 r_38 rfl) rx3 dX8_seek_103 dX8_seek_104 (by decide) (fun hc => ?_) (fun hc => ?_)
        · have h := h.1 hc
          exact wk_Index_seek_b110 X hr hlk hT hV ho rx1 rx3 y5 y6 r_38 σ_39 _ _ _ ry5 ry6 rr_38 (lv_sub hl [1, 4, 5, 0] rfl) hWσ_39 hS h
        · have h := h.2 hc
          exact wk_Index_seek_b107 X hr hlk hT hV ho rx1 rx3 (wp_Index_seek_b110 (wc w) (wtv w) o x1 x3 Q) (wk_Index_seek_b110 X hr hlk hT hV ho rx1 rx3) y5 y6 r_38 σ_39 _ _ _ ry5 ry6 rr_38 (lv_sub hl [1, 4, 5, 0] rfl) hWσ_39 hS h
  · have h := h.2 hc
    refine lv_iconst (v := oI 0) X.1 X.2.1 dX8_seek_17 rfl ?_
    refine w_kload (w := w) X dX8_seek_18 (lv_at hl 3 rfl) ?_
    refine lv_lload_n X.1 X.2.1 dX8_seek_20 rfl (lv_at hl 1 rfl) ?_
    refine lv_lload_n X.1 X.2.1 dX8_seek_21 rfl (lv_at hl 2 rfl) ?_
    refine wr_I (rV (As := [.long (oL x1), .long (oL x3)]) (rest := [.int (oI 0)]) X hT hW hS (met_Knot_slot l (w := w) hV y5 x1 x3 _ σ ⟨hz_37, ry5.2⟩ rx1 rx3 h) (cwV 2 X.2.2.2.2 (lw_V q909 q910 q911 q140 q912) rfl rfl rfl (by decide +kernel) ⟨Nat.le_of_ble_eq_true rfl, Nat.le_of_ble_eq_true rfl⟩) (hV.hv 9 rfl ⟨hz_37, ry5.2⟩) (by decide) rfl rfl hl.1 (by simp only [knR hz_37]; rfl) (by first | exact Nat.le_of_ble_eq_true rfl | simp [catK, catI, catR, catL]) dX8_seek_22 ⟨Nat.le_refl _, Nat.le_refl _⟩) hS (fun r_40 σ_41 H locs rr_40 rkσ_41 h hWσ_41 hS => ?_)
    have h := h rr_40 rkσ_41
    refine w_mmax X rZ_0.i rr_40 hl.1 q923 q924 q149 q925 (Nat.le_of_ble_eq_true rfl) (Nat.le_of_ble_eq_true rfl) (Nat.le_refl _) (Nat.le_refl _) dX8_seek_25 ?_
    refine w_top (fun y7_42 ey7_42 => ?_)
    have h := h y7_42 ey7_42
    have ry7_42 : rI y7_42 := by rw [ey7_42]; exact (max_rI rZ_0.i rr_40)
    refine lv_istore (i := 7) (lv' := [(7, .int (oI y7_42)), (0, .ref (wad w 6 o)), (1, .long (oL x1)), (3, .long (oL x3)), (5, va_rf (knO w y5)), (6, va_rf (knO w y6))]) X.1 X.2.1 dX8_seek_28 hl (by decide) (by first | rfl | simp [catK, catI, catR, catL]) (fun ls hl => ?_)
    refine lv_iload X.1 X.2.1 dX8_seek_30 (lv_at hl 0 rfl) ?_
    refine lv_iconst (v := oI 1) X.1 X.2.1 dX8_seek_32 rfl ?_
    refine w_iadd X dX8_seek_33 ?_
    refine w_kload (w := w) X dX8_seek_34 (lv_at hl 4 rfl) ?_
    rw [knR hz_37]
    refine wg (v := .int (oI (gI σ_41 577 y5))) X hT hWσ_41 9 1 577 (hV.hv 9 rfl ⟨hz_37, ry5.2⟩) rfl rfl (by decide) rfl (by decide) in_X9 q387 rfl dX8_seek_36 ?_
    refine w_icmp_ge (tgt := 54) X (w32_r _) (hWσ_41.r.i 577 y5 rfl) dX8_seek_39 (by decide) (fun hc => ?_) (fun hc => ?_)
    · have h := h.1 hc
      exact wk_Index_seek_b54 X hr hlk hT hV ho rx1 rx3 K9 hK9 y5 y6 y7_42 σ_41 _ _ _ ry5 ry6 ry7_42 (lv_sub hl [1, 2, 3, 4, 5, 0] rfl) hWσ_41 hS h
    · have h := h.2 hc
      refine w_kload (w := w) X dX8_seek_42 (lv_at hl 4 rfl) ?_
      rw [knR hz_37]
      refine wg (v := .ref (wad w 583 y5)) X hT hWσ_41 9 7 583 (hV.hv 9 rfl ⟨hz_37, ry5.2⟩) rfl rfl (by decide) rfl (by decide) in_X9 q405 rfl dX8_seek_44 ?_
      refine lv_iload X.1 X.2.1 dX8_seek_47 (lv_at hl 0 rfl) ?_
      refine lv_iconst (v := oI 1) X.1 X.2.1 dX8_seek_49 rfl ?_
      refine w_iadd X dX8_seek_50 ?_
      obtain ⟨bi, h⟩ := h
      refine w_aald (n := 9) X hT hWσ_41 583 (hV.hv 583 rfl ⟨hz_37, ry5.2⟩) (by decide) rfl rfl bi dX8_seek_51 ?_
      refine w_topk (w := w) (fun y6_43 ey6_43 => ?_)
      have h := h y6_43 ey6_43
      have ry6_43 : rK y6_43 := by rw [ey6_43]; exact (hWσ_41.r.ak 583 y5 (w32 (y7_42 + 1)) rfl)
      refine w_kstore (i := 6) (lv' := [(6, va_rf (knO w y6_43)), (7, .int (oI y7_42)), (0, .ref (wad w 6 o)), (1, .long (oL x1)), (3, .long (oL x3)), (5, va_rf (knO w y5))]) (w := w) X dX8_seek_52 hl (by decide) (by first | rfl | simp [catK, catI, catR, catL]) (fun ls hl => ?_)
      exact wk_Index_seek_b54 X hr hlk hT hV ho rx1 rx3 K9 hK9 y5 y6_43 y7_42 σ_41 _ _ _ ry5 ry6_43 ry7_42 (lv_sub hl [2, 3, 4, 5, 0, 1] rfl) hWσ_41 hS h
theorem wk_Index_seek_L9 {p : Program} {l : Launch} {e : Env} {st : State} {m : MethodId} {args : Array Value} {below : List Frame} {meth : Method} {c : Code} {w : Wp} {o : Int} {x1 : Int} {x3 : Int} {Q : Int → St → Prop} (X : CallFix p m c cX8_seek 8 st args lw_all RX8) (hr : meth.sig.returnType = (some .boolean)) (hlk : meth.locks = false) (hT : Tb w st) (hV : Hvl w) (ho : 0 ≤ o ∧ o < 2) (rx1 : rJ x1) (rx3 : rJ x3) : ∀ (y5 y6 : Int) (σ : St) (H : Heap) (locs : List Loc) (ls : Array Slot), rK y5 → rK y6 → lv_has ls 8 [(0, .ref (wad w 6 o)), (1, .long (oL x1)), (3, .long (oL x3)), (5, va_rf (knO w y5)), (6, va_rf (knO w y6))] → Wo w σ H → va_S (wA w) st.heap H locs → lQ2 (wp_Index_seek_L9 (wc w) (wtv w) o x1 x3 Q) y5 y6 σ → W p l e (headSpec (ws_ yX8_seek cX8_seek 8 (some .boolean)) rm_Index_seek).room st m args below meth c H locs 0 0 (MQ below (QcZ w Q) args st 0 0 (wA w)) (F0 m 9 ls []) := by
  intro y5 y6 σ H locs ls ry5 ry6 hl hW hS h
  obtain ⟨fu, h⟩ := h
  induction fu generalizing y5 y6 σ H locs ls with
  | zero => exact h.elim
  | succ fu ih =>
    exact wk_Index_seek_L9B X hr hlk hT hV ho rx1 rx3 (lq2 (wp_Index_seek_L9 (wc w) (wtv w) o x1 x3 Q) fu) (fun y5 y6 σ H locs ls ry5 ry6 hl hW hS h => ih y5 y6 σ H locs ls ry5 ry6 hl hW hS h) y5 y6 σ H locs ls ry5 ry6 hl hW hS h
set_option maxHeartbeats 4000000 in
set_option maxRecDepth 100000 in
theorem met_Index_seek (l : Launch) {w : Wp} (hV : Hvl w) (o : Int) (x1 : Int) (x3 : Int) (Q : Int → St → Prop) (σ : St) (ho : 0 ≤ o ∧ o < 2) (rx1 : rJ x1) (rx3 : rJ x3) (h : wp_Index_seek (wc w) (wtv w) o x1 x3 Q σ) : Met l yX8_seek (ws_ yX8_seek cX8_seek 8 (some .boolean)) rm_Index_seek (PcW w σ [.ref (wad w 6 o), .long (oL x1), .long (oL x3)]) (QcZ w Q) 0 0 (wA w) := by
  refine Met.ofW (cc := cX8_seek) (maxL := 8) (ret := (some .boolean)) (by decide) rfl ?_
  intro p e st m args below meth c s₁ B hml hv
  obtain ⟨hargs, hW, hT⟩ := hv
  have X : CallFix p m c cX8_seek 8 st _ lw_all RX8 := ⟨B.exec, B.bytes, hml, findClass_of_methodNamed B.named, fun w h => atoms_spec (ws := ws_ yX8_seek cX8_seek 8 (some .boolean)) B.pre w (List.mem_cons_of_mem _ h)⟩
  have hr := B.returns
  have hlk := B.notSynchronized
  have hS : va_S (wA w) st.heap st.heap [] := va_S.rf
  have vl6_o : vl w 6 o := hV.hv 6 rfl ⟨by omega, by show _ < (2 : Int); omega⟩
  have hl := lv_entry ([.ref (wad w 6 o), .long (oL x1), .long (oL x3)]) (n := 8) (Nat.le_of_ble_eq_true rfl)
  have hfr := lg_entry_eq m ([.ref (wad w 6 o), .long (oL x1), .long (oL x3)]) 8
  rw [← hargs] at hfr
  rw [hfr]
  generalize (lg_sl ([.ref (wad w 6 o), .long (oL x1), .long (oL x3)]) ++ List.replicate (8 - (lg_sl ([.ref (wad w 6 o), .long (oL x1), .long (oL x3)])).length) Slot.unset).toArray = ls at hl ⊢
  have hl : lv_has ls 8 [(0, .ref (wad w 6 o)), (1, .long (oL x1)), (3, .long (oL x3))] := hl
  unfold wp_Index_seek at h
  refine lv_aload_n X.1 X.2.1 dX8_seek_0 rfl (lv_at hl 0 rfl) ?_
  refine wg (v := va_rf (knO w (gI σ 387 o))) X hT hW 6 3 387 vl6_o rfl rfl (by decide) rfl (by decide) in_X8 q445 rfl dX8_seek_1 ?_
  refine w_topk (w := w) (fun y5_44 ey5_44 => ?_)
  have h := h y5_44 ey5_44
  have ry5_44 : rK y5_44 := by rw [ey5_44]; exact (hW.r.k 387 o rfl)
  refine w_kstore (i := 5) (lv' := [(5, va_rf (knO w y5_44)), (0, .ref (wad w 6 o)), (1, .long (oL x1)), (3, .long (oL x3))]) (w := w) X dX8_seek_4 hl (by decide) (by first | rfl | simp [catK, catI, catR, catL]) (fun ls hl => ?_)
  refine w_knull (w := w) X dX8_seek_6 ?_
  refine w_kstore (i := 6) (lv' := [(6, va_rf (knO w (-1))), (5, va_rf (knO w y5_44)), (0, .ref (wad w 6 o)), (1, .long (oL x1)), (3, .long (oL x3))]) (w := w) X dX8_seek_7 hl (by decide) (by first | rfl | simp [catK, catI, catR, catL]) (fun ls hl => ?_)
  exact wk_Index_seek_L9 X hr hlk hT hV ho rx1 rx3 y5_44 (-1) σ _ _ _ ry5_44 rK_n (lv_sub hl [2, 3, 4, 1, 0] rfl) hW hS h
/-! Index.find(JJ)Z -/
set_option maxHeartbeats 4000000 in
set_option maxRecDepth 100000 in
theorem met_Index_find (l : Launch) {w : Wp} (hV : Hvl w) (o : Int) (x1 : Int) (x3 : Int) (Q : Int → St → Prop) (σ : St) (ho : 0 ≤ o ∧ o < 2) (rx1 : rJ x1) (rx3 : rJ x3) (h : wp_Index_find (wc w) (wtv w) o x1 x3 Q σ) : Met l yX8_find (ws_ yX8_find cX8_find 5 (some .boolean)) rm_Index_find (PcW w σ [.ref (wad w 6 o), .long (oL x1), .long (oL x3)]) (QcZ w Q) 0 0 (wA w) := by
  refine Met.ofW (cc := cX8_find) (maxL := 5) (ret := (some .boolean)) (by decide) rfl ?_
  intro p e st m args below meth c s₁ B hml hv
  obtain ⟨hargs, hW, hT⟩ := hv
  have X : CallFix p m c cX8_find 5 st _ lw_all RX8 := ⟨B.exec, B.bytes, hml, findClass_of_methodNamed B.named, fun w h => atoms_spec (ws := ws_ yX8_find cX8_find 5 (some .boolean)) B.pre w (List.mem_cons_of_mem _ h)⟩
  have hr := B.returns
  have hlk := B.notSynchronized
  have hS : va_S (wA w) st.heap st.heap [] := va_S.rf
  have vl6_o : vl w 6 o := hV.hv 6 rfl ⟨by omega, by show _ < (2 : Int); omega⟩
  have hl := lv_entry ([.ref (wad w 6 o), .long (oL x1), .long (oL x3)]) (n := 5) (Nat.le_of_ble_eq_true rfl)
  have hfr := lg_entry_eq m ([.ref (wad w 6 o), .long (oL x1), .long (oL x3)]) 5
  rw [← hargs] at hfr
  rw [hfr]
  generalize (lg_sl ([.ref (wad w 6 o), .long (oL x1), .long (oL x3)]) ++ List.replicate (5 - (lg_sl ([.ref (wad w 6 o), .long (oL x1), .long (oL x3)])).length) Slot.unset).toArray = ls at hl ⊢
  have hl : lv_has ls 5 [(0, .ref (wad w 6 o)), (1, .long (oL x1)), (3, .long (oL x3))] := hl
  unfold wp_Index_find at h
  refine lv_aload_n X.1 X.2.1 dX8_find_0 rfl (lv_at hl 0 rfl) ?_
  refine lv_lload_n X.1 X.2.1 dX8_find_1 rfl (lv_at hl 1 rfl) ?_
  refine lv_lload_n X.1 X.2.1 dX8_find_2 rfl (lv_at hl 2 rfl) ?_
  refine wr_Z (rV (As := [.long (oL x1), .long (oL x3)]) (rest := []) X hT hW hS (met_Index_seek l (w := w) hV o x1 x3 _ σ (by omega) rx1 rx3 h) (cwV 2 X.2.2.2.2 (lw_V q905 q906 q907 q139 q908) rfl rfl rfl (by decide +kernel) ⟨Nat.le_of_ble_eq_true rfl, Nat.le_of_ble_eq_true rfl⟩) vl6_o (by decide) rfl rfl hl.1 rfl (by first | exact Nat.le_of_ble_eq_true rfl | simp [catK, catI, catR, catL]) dX8_find_3 ⟨Nat.le_refl _, Nat.le_refl _⟩) hS (fun r_3 σ_4 H locs rr_3 rkσ_4 h hWσ_4 hS => ?_)
  have h := h rr_3 rkσ_4
  refine w_if_eq (tgt := 31) X rr_3.i dX8_find_6 (by decide) (fun hc => ?_) (fun hc => ?_)
  · have h := h.1 hc
    refine lv_iconst (v := oI 0) X.1 X.2.1 dX8_find_31 rfl ?_
    exact wret_Z X hr hlk hWσ_4 hS rZ_0 h dX8_find_32
  · have h := h.2 hc
    refine lv_aload_n X.1 X.2.1 dX8_find_9 rfl (lv_at hl 0 rfl) ?_
    refine wg (v := .long (oL (gI σ_4 391 o))) X hT hWσ_4 6 7 391 vl6_o rfl rfl (by decide) rfl (by decide) in_X8 q453 rfl dX8_find_10 ?_
    refine lv_lload_n X.1 X.2.1 dX8_find_13 rfl (lv_at hl 1 rfl) ?_
    refine w_lcmp_ne (tgt := 31) X (hWσ_4.r.j 391 o rfl) rx1 dX8_find_14 dX8_find_15 (by decide) (fun hc => ?_) (fun hc => ?_)
    · have h := h.1 hc
      refine lv_iconst (v := oI 0) X.1 X.2.1 dX8_find_31 rfl ?_
      exact wret_Z X hr hlk hWσ_4 hS rZ_0 h dX8_find_32
    · have h := h.2 hc
      refine lv_aload_n X.1 X.2.1 dX8_find_18 rfl (lv_at hl 0 rfl) ?_
      refine wg (v := .long (oL (gI σ_4 392 o))) X hT hWσ_4 6 8 392 vl6_o rfl rfl (by decide) rfl (by decide) in_X8 q456 rfl dX8_find_19 ?_
      refine lv_lload_n X.1 X.2.1 dX8_find_22 rfl (lv_at hl 2 rfl) ?_
      refine w_lcmp_ne (tgt := 31) X (hWσ_4.r.j 392 o rfl) rx3 dX8_find_23 dX8_find_24 (by decide) (fun hc => ?_) (fun hc => ?_)
      · have h := h.1 hc
        refine lv_iconst (v := oI 0) X.1 X.2.1 dX8_find_31 rfl ?_
        exact wret_Z X hr hlk hWσ_4 hS rZ_0 h dX8_find_32
      · have h := h.2 hc
        refine lv_iconst (v := oI 1) X.1 X.2.1 dX8_find_27 rfl ?_
        refine lv_goto (tgt := 32) X.1 X.2.1 dX8_find_28 (by decide) ?_
        exact wret_Z X hr hlk hWσ_4 hS rZ_1 h dX8_find_32
/-! Index.touch(LNandHouse$Knot;)V -/
set_option maxHeartbeats 4000000 in
set_option maxRecDepth 100000 in
theorem met_Index_touch (l : Launch) {w : Wp} (hV : Hvl w) (o : Int) (x1 : Int) (Q : St → Prop) (σ : St) (ho : 0 ≤ o ∧ o < 2) (rx1 : rK x1) (h : wp_Index_touch (wc w) (wtv w) o x1 Q σ) : Met l yX8_touch (ws_ yX8_touch cX8_touch 2 none) rm_Index_touch (PcW w σ [.ref (wad w 6 o), va_rf (knO w x1)]) (QcV w Q) 0 0 (wA w) := by
  refine Met.ofW (cc := cX8_touch) (maxL := 2) (ret := none) (by decide) rfl ?_
  intro p e st m args below meth c s₁ B hml hv
  obtain ⟨hargs, hW, hT⟩ := hv
  have X : CallFix p m c cX8_touch 2 st _ lw_all RX8 := ⟨B.exec, B.bytes, hml, findClass_of_methodNamed B.named, fun w h => atoms_spec (ws := ws_ yX8_touch cX8_touch 2 none) B.pre w (List.mem_cons_of_mem _ h)⟩
  have hr := B.returns
  have hlk := B.notSynchronized
  have hS : va_S (wA w) st.heap st.heap [] := va_S.rf
  have vl388_o : vl w 388 o := hV.hv 388 rfl ⟨by omega, by show _ < (2 : Int); omega⟩
  have vl389_o : vl w 389 o := hV.hv 389 rfl ⟨by omega, by show _ < (2 : Int); omega⟩
  have vl6_o : vl w 6 o := hV.hv 6 rfl ⟨by omega, by show _ < (2 : Int); omega⟩
  have hl := lv_entry ([.ref (wad w 6 o), va_rf (knO w x1)]) (n := 2) (by simp [lg_sl, catK, catI, catR, catL])
  have hfr := lg_entry_eq m ([.ref (wad w 6 o), va_rf (knO w x1)]) 2
  rw [← hargs] at hfr
  rw [hfr]
  generalize (lg_sl ([.ref (wad w 6 o), va_rf (knO w x1)]) ++ List.replicate (2 - (lg_sl ([.ref (wad w 6 o), va_rf (knO w x1)])).length) Slot.unset).toArray = ls at hl ⊢
  simp [lv_args, catK, catI, catR, catL] at hl
  have hl : lv_has ls 2 [(0, .ref (wad w 6 o)), (1, va_rf (knO w x1))] := hl
  unfold wp_Index_touch at h
  refine w_kload_n (w := w) X dX8_touch_0 rfl (lv_at hl 1 rfl) ?_
  obtain ⟨hz_7, h⟩ := h
  rw [knR hz_7]
  refine wg (v := .int (oI (gI σ 584 x1))) X hT hW 9 8 584 (hV.hv 9 rfl ⟨hz_7, rx1.2⟩) rfl rfl (by decide) rfl (by decide) in_X9 q408 rfl dX8_touch_1 ?_
  refine w_if_eq (tgt := 8) X ((hW.r.z 584 x1 rfl).i) dX8_touch_4 (by decide) (fun hc => ?_) (fun hc => ?_)
  · have h := h.1 hc
    refine w_kload_n (w := w) X dX8_touch_8 rfl (lv_at hl 1 rfl) ?_
    refine lv_iconst (v := oI 1) X.1 X.2.1 dX8_touch_9 rfl ?_
    rw [knR hz_7]
    refine wput (z := 1) X hT hW hS 9 8 584 (hV.hv 9 rfl ⟨hz_7, rx1.2⟩) rfl rfl (by decide) rfl (by decide) in_X9 tyX9 tyX9_ok nmX9 q408 rfl rfl rZ_1 (fv3 w rfl) (nrZ rZ_1) (ftZ rZ_1) dX8_touch_10 (fun H locs hN hS => ?_)
    obtain ⟨σ_8, eσ_8⟩ : ∃ x, x = sI σ 584 x1 1 := ⟨_, rfl⟩
    have hWσ_8 : Wo w σ_8 H := eσ_8 ▸ hN
    have h := h σ_8 eσ_8
    clear hN
    refine w_kload_n (w := w) X dX8_touch_13 rfl (lv_at hl 1 rfl) ?_
    rw [knR hz_7]
    refine wg (v := .int (oI (gI σ_8 585 x1))) X hT hWσ_8 9 9 585 (hV.hv 9 rfl ⟨hz_7, rx1.2⟩) rfl rfl (by decide) rfl (by decide) in_X9 q411 rfl dX8_touch_14 ?_
    refine lv_iconst (v := oI (-1)) X.1 X.2.1 dX8_touch_17 rfl ?_
    refine w_icmp_eq (tgt := 62) X (hWσ_8.r.i 585 x1 rfl) ((rB_lit (-1) (by decide)).i) dX8_touch_18 (by decide) (fun hc => ?_) (fun hc => ?_)
    · have h := h.1 hc
      exact wret_V X hr hlk hWσ_8 hS h dX8_touch_62
    · have h := h.2 hc
      refine lv_aload_n X.1 X.2.1 dX8_touch_21 rfl (lv_at hl 0 rfl) ?_
      refine wg (v := .ref (wad w 388 o)) X hT hWσ_8 6 4 388 vl6_o rfl rfl (by decide) rfl (by decide) in_X8 q447 rfl dX8_touch_22 ?_
      refine lv_aload_n X.1 X.2.1 dX8_touch_25 rfl (lv_at hl 0 rfl) ?_
      refine wg (v := .int (oI (gI σ_8 390 o))) X hT hWσ_8 6 6 390 vl6_o rfl rfl (by decide) rfl (by decide) in_X8 q451 rfl dX8_touch_26 ?_
      refine w_kload_n (w := w) X dX8_touch_29 rfl (lv_at hl 1 rfl) ?_
      rw [knR hz_7]
      refine wg (v := .int (oI (gI σ_8 585 x1))) X hT hWσ_8 9 9 585 (hV.hv 9 rfl ⟨hz_7, rx1.2⟩) rfl rfl (by decide) rfl (by decide) in_X9 q411 rfl dX8_touch_30 ?_
      obtain ⟨bi, h⟩ := h
      refine w_iast (n := 640) X hT hWσ_8 hS 388 vl388_o (by decide) rfl rfl bi (hWσ_8.r.i 585 x1 rfl) dX8_touch_33 (fun H locs hN hS => ?_)
      obtain ⟨σ_9, eσ_9⟩ : ∃ x, x = sA σ_8 388 o (gI σ_8 390 o) (gI σ_8 585 x1) := ⟨_, rfl⟩
      have hWσ_9 : Wo w σ_9 H := eσ_9 ▸ hN
      have h := h σ_9 eσ_9
      clear hN
      refine lv_aload_n X.1 X.2.1 dX8_touch_34 rfl (lv_at hl 0 rfl) ?_
      refine wg (v := .ref (wad w 389 o)) X hT hWσ_9 6 5 389 vl6_o rfl rfl (by decide) rfl (by decide) in_X8 q449 rfl dX8_touch_35 ?_
      refine lv_aload_n X.1 X.2.1 dX8_touch_38 rfl (lv_at hl 0 rfl) ?_
      refine wg (v := .int (oI (gI σ_9 390 o))) X hT hWσ_9 6 6 390 vl6_o rfl rfl (by decide) rfl (by decide) in_X8 q451 rfl dX8_touch_39 ?_
      refine w_kload_n (w := w) X dX8_touch_42 rfl (lv_at hl 1 rfl) ?_
      rw [knR hz_7]
      refine wg (v := .int (oI (gI σ_9 587 x1))) X hT hWσ_9 9 11 587 (hV.hv 9 rfl ⟨hz_7, rx1.2⟩) rfl rfl (by decide) rfl (by decide) in_X9 q415 rfl dX8_touch_43 ?_
      obtain ⟨bi, h⟩ := h
      refine w_iast (n := 640) X hT hWσ_9 hS 389 vl389_o (by decide) rfl rfl bi (hWσ_9.r.i 587 x1 rfl) dX8_touch_46 (fun H locs hN hS => ?_)
      obtain ⟨σ_10, eσ_10⟩ : ∃ x, x = sA σ_9 389 o (gI σ_9 390 o) (gI σ_9 587 x1) := ⟨_, rfl⟩
      have hWσ_10 : Wo w σ_10 H := eσ_10 ▸ hN
      have h := h σ_10 eσ_10
      clear hN
      refine lv_aload_n X.1 X.2.1 dX8_touch_47 rfl (lv_at hl 0 rfl) ?_
      refine lv_dup X.1 X.2.1 dX8_touch_48 rfl ?_
      refine wg (v := .int (oI (gI σ_10 390 o))) X hT hWσ_10 6 6 390 vl6_o rfl rfl (by decide) rfl (by decide) in_X8 q451 rfl dX8_touch_49 ?_
      refine lv_iconst (v := oI 1) X.1 X.2.1 dX8_touch_52 rfl ?_
      refine w_iadd X dX8_touch_53 ?_
      refine wput (z := w32 ((gI σ_10 390 o) + 1)) X hT hWσ_10 hS 6 6 390 vl6_o rfl rfl (by decide) rfl (by decide) in_X8 tyX8 tyX8_ok nmX8 q451 rfl rfl (w32_r _) (fv0 w rfl) rfl rfl dX8_touch_54 (fun H locs hN hS => ?_)
      obtain ⟨σ_11, eσ_11⟩ : ∃ x, x = sI σ_10 390 o (w32 ((gI σ_10 390 o) + 1)) := ⟨_, rfl⟩
      have hWσ_11 : Wo w σ_11 H := eσ_11 ▸ hN
      have h := h σ_11 eσ_11
      clear hN
      refine w_kload_n (w := w) X dX8_touch_57 rfl (lv_at hl 1 rfl) ?_
      refine lv_iconst (v := oI (-1)) X.1 X.2.1 dX8_touch_58 rfl ?_
      rw [knR hz_7]
      refine wput (z := (-1)) X hT hWσ_11 hS 9 9 585 (hV.hv 9 rfl ⟨hz_7, rx1.2⟩) rfl rfl (by decide) rfl (by decide) in_X9 tyX9 tyX9_ok nmX9 q411 rfl rfl ((rB_lit (-1) (by decide)).i) (fv0 w rfl) rfl rfl dX8_touch_59 (fun H locs hN hS => ?_)
      obtain ⟨σ_12, eσ_12⟩ : ∃ x, x = sI σ_11 585 x1 (-1) := ⟨_, rfl⟩
      have hWσ_12 : Wo w σ_12 H := eσ_12 ▸ hN
      have h := h σ_12 eσ_12
      clear hN
      exact wret_V X hr hlk hWσ_12 hS h dX8_touch_62
  · have h := h.2 hc
    exact wret_V X hr hlk hW hS h dX8_touch_7
/-! Index.touchWay(JJ)V -/
set_option maxHeartbeats 4000000 in
set_option maxRecDepth 100000 in
theorem wk_Index_touchWay_L12B {p : Program} {l : Launch} {e : Env} {st : State} {m : MethodId} {args : Array Value} {below : List Frame} {meth : Method} {c : Code} {w : Wp} {o : Int} {x1 : Int} {x3 : Int} {Q : St → Prop} (X : CallFix p m c cX8_touchWay 6 st args lw_all RX8) (hr : meth.sig.returnType = none) (hlk : meth.locks = false) (hT : Tb w st) (hV : Hvl w) (ho : 0 ≤ o ∧ o < 2) (rx1 : rJ x1) (rx3 : rJ x3) (K12 : Int → St → Prop) (hK12 : ∀ (y5 : Int) (σ : St) (H : Heap) (locs : List Loc) (ls : Array Slot), rK y5 → lv_has ls 6 [(0, .ref (wad w 6 o)), (1, .long (oL x1)), (3, .long (oL x3)), (5, va_rf (knO w y5))] → Wo w σ H → va_S (wA w) st.heap H locs → K12 y5 σ → W p l e (headSpec (ws_ yX8_touchWay cX8_touchWay 6 none) rm_Index_touchWay).room st m args below meth c H locs 0 0 (MQ below (QcV w Q) args st 0 0 (wA w)) (F0 m 12 ls [])) : ∀ (y5 : Int) (σ : St) (H : Heap) (locs : List Loc) (ls : Array Slot), rK y5 → lv_has ls 6 [(0, .ref (wad w 6 o)), (1, .long (oL x1)), (3, .long (oL x3)), (5, va_rf (knO w y5))] → Wo w σ H → va_S (wA w) st.heap H locs → wp_Index_touchWay_L12 (wc w) (wtv w) o x1 x3 Q K12 y5 σ → W p l e (headSpec (ws_ yX8_touchWay cX8_touchWay 6 none) rm_Index_touchWay).room st m args below meth c H locs 0 0 (MQ below (QcV w Q) args st 0 0 (wA w)) (F0 m 12 ls []) := by
  have vl6_o : vl w 6 o := hV.hv 6 rfl ⟨by omega, by show _ < (2 : Int); omega⟩
  intro y5 σ H locs ls ry5 hl hW hS h
  unfold wp_Index_touchWay_L12 at h
  refine w_kload (w := w) X dX8_touchWay_12 (lv_at hl 3 rfl) ?_
  obtain ⟨hz_10, h⟩ := h
  rw [knR hz_10]
  refine wg (v := .int (oI (gI σ 576 y5))) X hT hW 9 0 576 (hV.hv 9 rfl ⟨hz_10, ry5.2⟩) rfl rfl (by decide) rfl (by decide) in_X9 q384 rfl dX8_touchWay_14 ?_
  refine w_if_le (tgt := 48) X (hW.r.i 576 y5 rfl) dX8_touchWay_17 (by decide) (fun hc => ?_) (fun hc => ?_)
  · have h := h.1 hc
    exact wret_V X hr hlk hW hS h dX8_touchWay_48
  · have h := h.2 hc
    refine w_kload (w := w) X dX8_touchWay_20 (lv_at hl 3 rfl) ?_
    rw [knR hz_10]
    refine wg (v := .ref (wad w 583 y5)) X hT hW 9 7 583 (hV.hv 9 rfl ⟨hz_10, ry5.2⟩) rfl rfl (by decide) rfl (by decide) in_X9 q405 rfl dX8_touchWay_22 ?_
    refine lv_iconst (v := oI 0) X.1 X.2.1 dX8_touchWay_25 rfl ?_
    refine w_kload (w := w) X dX8_touchWay_26 (lv_at hl 3 rfl) ?_
    refine lv_lload_n X.1 X.2.1 dX8_touchWay_28 rfl (lv_at hl 1 rfl) ?_
    refine lv_lload_n X.1 X.2.1 dX8_touchWay_29 rfl (lv_at hl 2 rfl) ?_
    refine wr_I (rV (As := [.long (oL x1), .long (oL x3)]) (rest := [.int (oI 0), .ref (wad w 583 y5)]) X hT hW hS (met_Knot_slot l (w := w) hV y5 x1 x3 _ σ ⟨hz_10, ry5.2⟩ rx1 rx3 h) (cwV 2 X.2.2.2.2 (lw_V q909 q910 q911 q140 q912) rfl rfl rfl (by decide +kernel) ⟨Nat.le_of_ble_eq_true rfl, Nat.le_of_ble_eq_true rfl⟩) (hV.hv 9 rfl ⟨hz_10, ry5.2⟩) (by decide) rfl rfl hl.1 (by simp only [knR hz_10]; rfl) (by first | exact Nat.le_of_ble_eq_true rfl | simp [catK, catI, catR, catL]) dX8_touchWay_30 ⟨Nat.le_refl _, Nat.le_refl _⟩) hS (fun r_11 σ_12 H locs rr_11 rkσ_12 h hWσ_12 hS => ?_)
    have h := h rr_11 rkσ_12
    refine w_mmax X rZ_0.i rr_11 hl.1 q923 q924 q149 q925 (Nat.le_of_ble_eq_true rfl) (Nat.le_of_ble_eq_true rfl) (Nat.le_refl _) (Nat.le_refl _) dX8_touchWay_33 ?_
    obtain ⟨bi, h⟩ := h
    refine w_aald (n := 9) X hT hWσ_12 583 (hV.hv 583 rfl ⟨hz_10, ry5.2⟩) (by decide) rfl rfl bi dX8_touchWay_36 ?_
    refine w_topk (w := w) (fun y5_13 ey5_13 => ?_)
    have h := h y5_13 ey5_13
    have ry5_13 : rK y5_13 := by rw [ey5_13]; exact (hWσ_12.r.ak 583 y5 (max 0 r_11) rfl)
    refine w_kstore (i := 5) (lv' := [(5, va_rf (knO w y5_13)), (0, .ref (wad w 6 o)), (1, .long (oL x1)), (3, .long (oL x3))]) (w := w) X dX8_touchWay_37 hl (by decide) (by first | rfl | simp [catK, catI, catR, catL]) (fun ls hl => ?_)
    refine lv_aload_n X.1 X.2.1 dX8_touchWay_39 rfl (lv_at hl 1 rfl) ?_
    refine w_kload (w := w) X dX8_touchWay_40 (lv_at hl 0 rfl) ?_
    refine wr_V (rV (As := [va_rf (knO w y5_13)]) (rest := []) X hT hWσ_12 hS (met_Index_touch l (w := w) hV o y5_13 _ σ_12 (by omega) ry5_13 h) (cwV 1 X.2.2.2.2 (lw_V q930 q932 qs15 q139 q933) rfl rfl rfl (by decide +kernel) ⟨Nat.le_of_ble_eq_true rfl, Nat.le_of_ble_eq_true rfl⟩) vl6_o (by decide) rfl rfl hl.1 rfl (by first | exact Nat.le_of_ble_eq_true rfl | simp [catK, catI, catR, catL]) dX8_touchWay_42 ⟨Nat.le_refl _, Nat.le_refl _⟩) hS (fun σ_15 H locs rkσ_15 h hWσ_15 hS => ?_)
    have h := h rkσ_15
    refine lv_goto (tgt := 12) X.1 X.2.1 dX8_touchWay_45 (by decide) ?_
    exact hK12 y5_13 σ_15 _ _ _ ry5_13 (lv_sub hl [1, 2, 3, 0] rfl) hWσ_15 hS h
theorem wk_Index_touchWay_L12 {p : Program} {l : Launch} {e : Env} {st : State} {m : MethodId} {args : Array Value} {below : List Frame} {meth : Method} {c : Code} {w : Wp} {o : Int} {x1 : Int} {x3 : Int} {Q : St → Prop} (X : CallFix p m c cX8_touchWay 6 st args lw_all RX8) (hr : meth.sig.returnType = none) (hlk : meth.locks = false) (hT : Tb w st) (hV : Hvl w) (ho : 0 ≤ o ∧ o < 2) (rx1 : rJ x1) (rx3 : rJ x3) : ∀ (y5 : Int) (σ : St) (H : Heap) (locs : List Loc) (ls : Array Slot), rK y5 → lv_has ls 6 [(0, .ref (wad w 6 o)), (1, .long (oL x1)), (3, .long (oL x3)), (5, va_rf (knO w y5))] → Wo w σ H → va_S (wA w) st.heap H locs → lQ1 (wp_Index_touchWay_L12 (wc w) (wtv w) o x1 x3 Q) y5 σ → W p l e (headSpec (ws_ yX8_touchWay cX8_touchWay 6 none) rm_Index_touchWay).room st m args below meth c H locs 0 0 (MQ below (QcV w Q) args st 0 0 (wA w)) (F0 m 12 ls []) := by
  intro y5 σ H locs ls ry5 hl hW hS h
  obtain ⟨fu, h⟩ := h
  induction fu generalizing y5 σ H locs ls with
  | zero => exact h.elim
  | succ fu ih =>
    exact wk_Index_touchWay_L12B X hr hlk hT hV ho rx1 rx3 (lq1 (wp_Index_touchWay_L12 (wc w) (wtv w) o x1 x3 Q) fu) (fun y5 σ H locs ls ry5 hl hW hS h => ih y5 σ H locs ls ry5 hl hW hS h) y5 σ H locs ls ry5 hl hW hS h
set_option maxHeartbeats 4000000 in
set_option maxRecDepth 100000 in
theorem met_Index_touchWay (l : Launch) {w : Wp} (hV : Hvl w) (o : Int) (x1 : Int) (x3 : Int) (Q : St → Prop) (σ : St) (ho : 0 ≤ o ∧ o < 2) (rx1 : rJ x1) (rx3 : rJ x3) (h : wp_Index_touchWay (wc w) (wtv w) o x1 x3 Q σ) : Met l yX8_touchWay (ws_ yX8_touchWay cX8_touchWay 6 none) rm_Index_touchWay (PcW w σ [.ref (wad w 6 o), .long (oL x1), .long (oL x3)]) (QcV w Q) 0 0 (wA w) := by
  refine Met.ofW (cc := cX8_touchWay) (maxL := 6) (ret := none) (by decide) rfl ?_
  intro p e st m args below meth c s₁ B hml hv
  obtain ⟨hargs, hW, hT⟩ := hv
  have X : CallFix p m c cX8_touchWay 6 st _ lw_all RX8 := ⟨B.exec, B.bytes, hml, findClass_of_methodNamed B.named, fun w h => atoms_spec (ws := ws_ yX8_touchWay cX8_touchWay 6 none) B.pre w (List.mem_cons_of_mem _ h)⟩
  have hr := B.returns
  have hlk := B.notSynchronized
  have hS : va_S (wA w) st.heap st.heap [] := va_S.rf
  have vl6_o : vl w 6 o := hV.hv 6 rfl ⟨by omega, by show _ < (2 : Int); omega⟩
  have hl := lv_entry ([.ref (wad w 6 o), .long (oL x1), .long (oL x3)]) (n := 6) (Nat.le_of_ble_eq_true rfl)
  have hfr := lg_entry_eq m ([.ref (wad w 6 o), .long (oL x1), .long (oL x3)]) 6
  rw [← hargs] at hfr
  rw [hfr]
  generalize (lg_sl ([.ref (wad w 6 o), .long (oL x1), .long (oL x3)]) ++ List.replicate (6 - (lg_sl ([.ref (wad w 6 o), .long (oL x1), .long (oL x3)])).length) Slot.unset).toArray = ls at hl ⊢
  have hl : lv_has ls 6 [(0, .ref (wad w 6 o)), (1, .long (oL x1)), (3, .long (oL x3))] := hl
  unfold wp_Index_touchWay at h
  refine lv_aload_n X.1 X.2.1 dX8_touchWay_0 rfl (lv_at hl 0 rfl) ?_
  refine wg (v := va_rf (knO w (gI σ 387 o))) X hT hW 6 3 387 vl6_o rfl rfl (by decide) rfl (by decide) in_X8 q445 rfl dX8_touchWay_1 ?_
  refine w_topk (w := w) (fun y5_16 ey5_16 => ?_)
  have h := h y5_16 ey5_16
  have ry5_16 : rK y5_16 := by rw [ey5_16]; exact (hW.r.k 387 o rfl)
  refine w_kstore (i := 5) (lv' := [(5, va_rf (knO w y5_16)), (0, .ref (wad w 6 o)), (1, .long (oL x1)), (3, .long (oL x3))]) (w := w) X dX8_touchWay_4 hl (by decide) (by first | rfl | simp [catK, catI, catR, catL]) (fun ls hl => ?_)
  refine lv_aload_n X.1 X.2.1 dX8_touchWay_6 rfl (lv_at hl 1 rfl) ?_
  refine w_kload (w := w) X dX8_touchWay_7 (lv_at hl 0 rfl) ?_
  refine wr_V (rV (As := [va_rf (knO w y5_16)]) (rest := []) X hT hW hS (met_Index_touch l (w := w) hV o y5_16 _ σ (by omega) ry5_16 h) (cwV 1 X.2.2.2.2 (lw_V q930 q932 qs15 q139 q933) rfl rfl rfl (by decide +kernel) ⟨Nat.le_of_ble_eq_true rfl, Nat.le_of_ble_eq_true rfl⟩) vl6_o (by decide) rfl rfl hl.1 rfl (by first | exact Nat.le_of_ble_eq_true rfl | simp [catK, catI, catR, catL]) dX8_touchWay_9 ⟨Nat.le_refl _, Nat.le_refl _⟩) hS (fun σ_18 H locs rkσ_18 h hWσ_18 hS => ?_)
  have h := h rkσ_18
  exact wk_Index_touchWay_L12 X hr hlk hT hV ho rx1 rx3 y5_16 σ_18 _ _ _ ry5_16 (lv_sub hl [1, 2, 3, 0] rfl) hWσ_18 hS h
/-! Index.halve(LNandHouse$Knot;)LNandHouse$Knot; -/
set_option maxHeartbeats 4000000 in
set_option maxRecDepth 100000 in
theorem wk_Index_halve_L21B {p : Program} {l : Launch} {e : Env} {st : State} {m : MethodId} {args : Array Value} {below : List Frame} {meth : Method} {c : Code} {w : Wp} {o : Int} {x1 : Int} {Q : Int → St → Prop} (X : CallFix p m c cX8_halve 5 st args lw_all RX8) (hr : meth.sig.returnType = (some (.object "NandHouse$Knot"))) (hlk : meth.locks = false) (hT : Tb w st) (hV : Hvl w) (ho : 0 ≤ o ∧ o < 2) (rx1 : rK x1) (K21 : Int → Int → Int → St → Prop) (hK21 : ∀ (y2 y3 y4 : Int) (σ : St) (H : Heap) (locs : List Loc) (ls : Array Slot), rK y2 → rI y3 → rI y4 → lv_has ls 5 [(1, va_rf (knO w x1)), (2, va_rf (knO w y2)), (3, .int (oI y3)), (4, .int (oI y4))] → Wo w σ H → va_S (wA w) st.heap H locs → K21 y2 y3 y4 σ → W p l e (headSpec (ws_ yX8_halve cX8_halve 5 (some (.object "NandHouse$Knot"))) rm_Index_halve).room st m args below meth c H locs 0 0 (MQ below (QcK w Q) args st 0 0 (wA w)) (F0 m 21 ls [])) : ∀ (y2 y3 y4 : Int) (σ : St) (H : Heap) (locs : List Loc) (ls : Array Slot), rK y2 → rI y3 → rI y4 → lv_has ls 5 [(1, va_rf (knO w x1)), (2, va_rf (knO w y2)), (3, .int (oI y3)), (4, .int (oI y4))] → Wo w σ H → va_S (wA w) st.heap H locs → wp_Index_halve_L21 (wc w) (wtv w) o x1 Q K21 y2 y3 y4 σ → W p l e (headSpec (ws_ yX8_halve cX8_halve 5 (some (.object "NandHouse$Knot"))) rm_Index_halve).room st m args below meth c H locs 0 0 (MQ below (QcK w Q) args st 0 0 (wA w)) (F0 m 21 ls []) := by

  intro y2 y3 y4 σ H locs ls ry2 ry3 ry4 hl hW hS h
  unfold wp_Index_halve_L21 at h
  refine lv_iload X.1 X.2.1 dX8_halve_21 (lv_at hl 3 rfl) ?_
  refine w_kload_n (w := w) X dX8_halve_23 rfl (lv_at hl 0 rfl) ?_
  obtain ⟨hz_13, h⟩ := h
  rw [knR hz_13]
  refine wg (v := .int (oI (gI σ 577 x1))) X hT hW 9 1 577 (hV.hv 9 rfl ⟨hz_13, rx1.2⟩) rfl rfl (by decide) rfl (by decide) in_X9 q387 rfl dX8_halve_24 ?_
  refine w_icmp_ge (tgt := 62) X ry4 (hW.r.i 577 x1 rfl) dX8_halve_27 (by decide) (fun hc => ?_) (fun hc => ?_)
  · have h := h.1 hc
    refine w_kload_n (w := w) X dX8_halve_62 rfl (lv_at hl 0 rfl) ?_
    refine lv_iload_n X.1 X.2.1 dX8_halve_63 rfl (lv_at hl 2 rfl) ?_
    rw [knR hz_13]
    refine wput (z := y3) X hT hW hS 9 1 577 (hV.hv 9 rfl ⟨hz_13, rx1.2⟩) rfl rfl (by decide) rfl (by decide) in_X9 tyX9 tyX9_ok nmX9 q387 rfl rfl ry3 (fv0 w rfl) rfl rfl dX8_halve_64 (fun H locs hN hS => ?_)
    obtain ⟨σ_14, eσ_14⟩ : ∃ x, x = sI σ 577 x1 y3 := ⟨_, rfl⟩
    have hWσ_14 : Wo w σ_14 H := eσ_14 ▸ hN
    have h := h σ_14 eσ_14
    clear hN
    refine w_kload_n (w := w) X dX8_halve_67 rfl (lv_at hl 1 rfl) ?_
    exact wret_K X hr hlk hWσ_14 hS ry2 h dX8_halve_68
  · have h := h.2 hc
    refine w_kload_n (w := w) X dX8_halve_30 rfl (lv_at hl 1 rfl) ?_
    refine w_kload_n (w := w) X dX8_halve_31 rfl (lv_at hl 1 rfl) ?_
    refine lv_dup X.1 X.2.1 dX8_halve_32 (catK w _) ?_
    obtain ⟨hz_15, h⟩ := h
    rw [knR hz_15]
    refine wg (v := .int (oI (gI σ 577 y2))) X hT hW 9 1 577 (hV.hv 9 rfl ⟨hz_15, ry2.2⟩) rfl rfl (by decide) rfl (by decide) in_X9 q387 rfl dX8_halve_33 ?_
    refine lv_dup_x1 X.1 X.2.1 dX8_halve_36 rfl rfl ?_
    refine lv_iconst (v := oI 1) X.1 X.2.1 dX8_halve_37 rfl ?_
    refine w_iadd X dX8_halve_38 ?_
    refine wput (z := w32 ((gI σ 577 y2) + 1)) X hT hW hS 9 1 577 (hV.hv 9 rfl ⟨hz_15, ry2.2⟩) rfl rfl (by decide) rfl (by decide) in_X9 tyX9 tyX9_ok nmX9 q387 rfl rfl (w32_r _) (fv0 w rfl) rfl rfl dX8_halve_39 (fun H locs hN hS => ?_)
    obtain ⟨σ_16, eσ_16⟩ : ∃ x, x = sI σ 577 y2 (w32 ((gI σ 577 y2) + 1)) := ⟨_, rfl⟩
    have hWσ_16 : Wo w σ_16 H := eσ_16 ▸ hN
    have h := h σ_16 eσ_16
    clear hN
    refine w_kload_n (w := w) X dX8_halve_42 rfl (lv_at hl 0 rfl) ?_
    refine lv_iload X.1 X.2.1 dX8_halve_43 (lv_at hl 3 rfl) ?_
    refine wr_V (rV (As := [.int (oI (gI σ 577 y2)), va_rf (knO w x1), .int (oI y4)]) (rest := []) X hT hWσ_16 hS (met_Knot_take l (w := w) hV y2 (gI σ 577 y2) x1 y4 _ σ_16 ⟨hz_15, ry2.2⟩ (hW.r.i 577 y2 rfl) rx1 ry4 h) (cwV 3 X.2.2.2.2 (lw_V q954 q943 q944 q140 q945) rfl rfl rfl (by decide +kernel) ⟨Nat.le_of_ble_eq_true rfl, Nat.le_of_ble_eq_true rfl⟩) (hV.hv 9 rfl ⟨hz_15, ry2.2⟩) (by decide) rfl rfl hl.1 rfl (by first | exact Nat.le_of_ble_eq_true rfl | simp [catK, catI, catR, catL]) dX8_halve_45 ⟨Nat.le_refl _, Nat.le_refl _⟩) hS (fun σ_18 H locs rkσ_18 h hWσ_18 hS => ?_)
    have h := h rkσ_18
    refine w_kload_n (w := w) X dX8_halve_48 rfl (lv_at hl 0 rfl) ?_
    rw [knR hz_13]
    refine wg (v := .ref (wad w 583 x1)) X hT hWσ_18 9 7 583 (hV.hv 9 rfl ⟨hz_13, rx1.2⟩) rfl rfl (by decide) rfl (by decide) in_X9 q405 rfl dX8_halve_49 ?_
    refine lv_iload X.1 X.2.1 dX8_halve_52 (lv_at hl 3 rfl) ?_
    refine w_knull (w := w) X dX8_halve_54 ?_
    obtain ⟨bi, h⟩ := h
    refine w_aast (n := 9) X hV hT hWσ_18 hS 583 (hV.hv 583 rfl ⟨hz_13, rx1.2⟩) (by decide) rfl rfl bi rK_n dX8_halve_55 (fun H locs hN hS => ?_)
    obtain ⟨σ_19, eσ_19⟩ : ∃ x, x = sA σ_18 583 x1 y4 (-1) := ⟨_, rfl⟩
    have hWσ_19 : Wo w σ_19 H := eσ_19 ▸ hN
    have h := h σ_19 eσ_19
    clear hN
    obtain ⟨y4_20, ey4_20⟩ : ∃ y : Int, y = w32 (y4 + 1) := ⟨_, rfl⟩
    have h := h y4_20 ey4_20
    have ry4_20 : rI y4_20 := by rw [ey4_20]; exact w32_r _
    refine lv_iinc (v := oI y4_20) (lv' := [(4, .int (oI y4_20)), (1, va_rf (knO w x1)), (2, va_rf (knO w y2)), (3, .int (oI y3))]) X.1 X.2.1 dX8_halve_56 hl (k := 3) rfl (by rw [ey4_20]; exact oI_add _ _) (by decide) (by first | rfl | simp [catK, catI, catR, catL]) (fun ls hl => ?_)
    refine lv_goto (tgt := 21) X.1 X.2.1 dX8_halve_59 (by decide) ?_
    exact hK21 y2 y3 y4_20 σ_19 _ _ _ ry2 ry3 ry4_20 (lv_sub hl [1, 2, 3, 0] rfl) hWσ_19 hS h
theorem wk_Index_halve_L21 {p : Program} {l : Launch} {e : Env} {st : State} {m : MethodId} {args : Array Value} {below : List Frame} {meth : Method} {c : Code} {w : Wp} {o : Int} {x1 : Int} {Q : Int → St → Prop} (X : CallFix p m c cX8_halve 5 st args lw_all RX8) (hr : meth.sig.returnType = (some (.object "NandHouse$Knot"))) (hlk : meth.locks = false) (hT : Tb w st) (hV : Hvl w) (ho : 0 ≤ o ∧ o < 2) (rx1 : rK x1) : ∀ (y2 y3 y4 : Int) (σ : St) (H : Heap) (locs : List Loc) (ls : Array Slot), rK y2 → rI y3 → rI y4 → lv_has ls 5 [(1, va_rf (knO w x1)), (2, va_rf (knO w y2)), (3, .int (oI y3)), (4, .int (oI y4))] → Wo w σ H → va_S (wA w) st.heap H locs → lQ3 (wp_Index_halve_L21 (wc w) (wtv w) o x1 Q) y2 y3 y4 σ → W p l e (headSpec (ws_ yX8_halve cX8_halve 5 (some (.object "NandHouse$Knot"))) rm_Index_halve).room st m args below meth c H locs 0 0 (MQ below (QcK w Q) args st 0 0 (wA w)) (F0 m 21 ls []) := by
  intro y2 y3 y4 σ H locs ls ry2 ry3 ry4 hl hW hS h
  obtain ⟨fu, h⟩ := h
  induction fu generalizing y2 y3 y4 σ H locs ls with
  | zero => exact h.elim
  | succ fu ih =>
    exact wk_Index_halve_L21B X hr hlk hT hV ho rx1 (lq3 (wp_Index_halve_L21 (wc w) (wtv w) o x1 Q) fu) (fun y2 y3 y4 σ H locs ls ry2 ry3 ry4 hl hW hS h => ih y2 y3 y4 σ H locs ls ry2 ry3 ry4 hl hW hS h) y2 y3 y4 σ H locs ls ry2 ry3 ry4 hl hW hS h
set_option maxHeartbeats 4000000 in
set_option maxRecDepth 100000 in
theorem met_Index_halve (l : Launch) {w : Wp} (hV : Hvl w) (o : Int) (x1 : Int) (Q : Int → St → Prop) (σ : St) (ho : 0 ≤ o ∧ o < 2) (rx1 : rK x1) (h : wp_Index_halve (wc w) (wtv w) o x1 Q σ) : Met l yX8_halve (ws_ yX8_halve cX8_halve 5 (some (.object "NandHouse$Knot"))) rm_Index_halve (PcW w σ [.ref (wad w 6 o), va_rf (knO w x1)]) (QcK w Q) 0 0 (wA w) := by
  refine Met.ofW (cc := cX8_halve) (maxL := 5) (ret := (some (.object "NandHouse$Knot"))) (by decide) rfl ?_
  intro p e st m args below meth c s₁ B hml hv
  obtain ⟨hargs, hW, hT⟩ := hv
  have X : CallFix p m c cX8_halve 5 st _ lw_all RX8 := ⟨B.exec, B.bytes, hml, findClass_of_methodNamed B.named, fun w h => atoms_spec (ws := ws_ yX8_halve cX8_halve 5 (some (.object "NandHouse$Knot"))) B.pre w (List.mem_cons_of_mem _ h)⟩
  have hr := B.returns
  have hlk := B.notSynchronized
  have hS : va_S (wA w) st.heap st.heap [] := va_S.rf
  have vl6_o : vl w 6 o := hV.hv 6 rfl ⟨by omega, by show _ < (2 : Int); omega⟩
  have hl := lv_entry ([.ref (wad w 6 o), va_rf (knO w x1)]) (n := 5) (by simp [lg_sl, catK, catI, catR, catL])
  have hfr := lg_entry_eq m ([.ref (wad w 6 o), va_rf (knO w x1)]) 5
  rw [← hargs] at hfr
  rw [hfr]
  generalize (lg_sl ([.ref (wad w 6 o), va_rf (knO w x1)]) ++ List.replicate (5 - (lg_sl ([.ref (wad w 6 o), va_rf (knO w x1)])).length) Slot.unset).toArray = ls at hl ⊢
  simp [lv_args, catK, catI, catR, catL] at hl
  have hl : lv_has ls 5 [(0, .ref (wad w 6 o)), (1, va_rf (knO w x1))] := hl
  unfold wp_Index_halve at h
  refine lv_aload_n X.1 X.2.1 dX8_halve_0 rfl (lv_at hl 0 rfl) ?_
  refine w_kload_n (w := w) X dX8_halve_1 rfl (lv_at hl 1 rfl) ?_
  obtain ⟨hz_21, h⟩ := h
  rw [knR hz_21]
  refine wg (v := .int (oI (gI σ 576 x1))) X hT hW 9 0 576 (hV.hv 9 rfl ⟨hz_21, rx1.2⟩) rfl rfl (by decide) rfl (by decide) in_X9 q384 rfl dX8_halve_2 ?_
  refine wr_K (rV (As := [.int (oI (gI σ 576 x1))]) (rest := []) X hT hW hS (met_Index_fetch l (w := w) hV o (gI σ 576 x1) _ σ (by omega) (hW.r.i 576 x1 rfl) h) (cwV 1 X.2.2.2.2 (lw_V q728 q729 q730 q139 q731) rfl rfl rfl (by decide +kernel) ⟨Nat.le_of_ble_eq_true rfl, Nat.le_of_ble_eq_true rfl⟩) vl6_o (by decide) rfl rfl hl.1 rfl (by first | exact Nat.le_of_ble_eq_true rfl | simp [catK, catI, catR, catL]) dX8_halve_5 ⟨Nat.le_refl _, Nat.le_refl _⟩) hS (fun r_22 σ_23 H locs rr_22 rkσ_23 h hWσ_23 hS => ?_)
  have h := h rr_22 rkσ_23
  refine w_kstore_n (i := 2) (lv' := [(2, va_rf (knO w r_22)), (0, .ref (wad w 6 o)), (1, va_rf (knO w x1))]) (w := w) X dX8_halve_8 rfl hl (by decide) (by first | rfl | simp [catK, catI, catR, catL]) (fun ls hl => ?_)
  refine w_kload_n (w := w) X dX8_halve_9 rfl (lv_at hl 2 rfl) ?_
  rw [knR hz_21]
  refine wg (v := .int (oI (gI σ_23 577 x1))) X hT hWσ_23 9 1 577 (hV.hv 9 rfl ⟨hz_21, rx1.2⟩) rfl rfl (by decide) rfl (by decide) in_X9 q387 rfl dX8_halve_10 ?_
  refine lv_iconst (v := oI 1) X.1 X.2.1 dX8_halve_13 rfl ?_
  refine w_iadd X dX8_halve_14 ?_
  refine lv_iconst (v := oI 2) X.1 X.2.1 dX8_halve_15 rfl ?_
  refine w_idiv X (w32_r _) ((rB_lit 2 (by decide)).i) (by decide) dX8_halve_16 ?_
  refine w_top (fun y3_24 ey3_24 => ?_)
  have h := h y3_24 ey3_24
  have ry3_24 : rI y3_24 := by rw [ey3_24]; exact (jdv_r _ _)
  refine lv_istore_n (i := 3) (lv' := [(3, .int (oI y3_24)), (2, va_rf (knO w r_22)), (0, .ref (wad w 6 o)), (1, va_rf (knO w x1))]) X.1 X.2.1 dX8_halve_17 rfl hl (by decide) (by first | rfl | simp [catK, catI, catR, catL]) (fun ls hl => ?_)
  refine lv_iload_n X.1 X.2.1 dX8_halve_18 rfl (lv_at hl 0 rfl) ?_
  refine lv_istore (i := 4) (lv' := [(4, .int (oI y3_24)), (3, .int (oI y3_24)), (2, va_rf (knO w r_22)), (0, .ref (wad w 6 o)), (1, va_rf (knO w x1))]) X.1 X.2.1 dX8_halve_19 hl (by decide) (by first | rfl | simp [catK, catI, catR, catL]) (fun ls hl => ?_)
  exact wk_Index_halve_L21 X hr hlk hT hV ho rx1 r_22 y3_24 y3_24 σ_23 _ _ _ rr_22 ry3_24 ry3_24 (lv_sub hl [4, 2, 1, 0] rfl) hWσ_23 hS h
/-! Index.insert(LNandHouse$Knot;JJ)LNandHouse$Knot; -/
set_option maxHeartbeats 4000000 in
set_option maxRecDepth 100000 in
theorem wk_Index_insert_b124 {p : Program} {l : Launch} {e : Env} {st : State} {m : MethodId} {args : Array Value} {below : List Frame} {meth : Method} {c : Code} {w : Wp} {o : Int} {x1 : Int} {x2 : Int} {x4 : Int} {Q : Int → St → Prop} {n : Nat} {F : Int → Int → Int → Int → (Int → St → Prop) → St → Prop} (X : CallFix p m c cX8_insert 9 st args lw_all RX8) (hr : meth.sig.returnType = (some (.object "NandHouse$Knot"))) (hlk : meth.locks = false) (hT : Tb w st) (hV : Hvl w) (hF : ∀ (o : Int) (x1 : Int) (x2 : Int) (x4 : Int) (Q : Int → St → Prop) (σ : St), 0 ≤ o ∧ o < 2 → rK x1 → rJ x2 → rJ x4 →  F o x1 x2 x4 Q σ → Met l yX8_insert (ws_ yX8_insert cX8_insert 9 (some (.object "NandHouse$Knot"))) (rm_Index_insert n) (PcW w σ [.ref (wad w 6 o), va_rf (knO w x1), .long (oL x2), .long (oL x4)]) (QcK w Q) 0 0 (wA w)) (ho : 0 ≤ o ∧ o < 2) (rx1 : rK x1) (rx2 : rJ x2) (rx4 : rJ x4) : ∀ (σ : St) (H : Heap) (locs : List Loc) (ls : Array Slot), lv_has ls 9 [(0, .ref (wad w 6 o)), (1, va_rf (knO w x1))] → Wo w σ H → va_S (wA w) st.heap H locs → wp_Index_insert_b124 (wc w) (wtv w) o x1 x2 x4 F Q σ → W p l e (headSpec (ws_ yX8_insert cX8_insert 9 (some (.object "NandHouse$Knot"))) (rm_Index_insert (n + 1))).room st m args below meth c H locs 0 0 (MQ below (QcK w Q) args st 0 0 (wA w)) (F0 m 124 ls []) := by
  have vl6_o : vl w 6 o := hV.hv 6 rfl ⟨by omega, by show _ < (2 : Int); omega⟩
  intro σ H locs ls hl hW hS h
  unfold wp_Index_insert_b124 at h
  refine w_kload_n (w := w) X dX8_insert_124 rfl (lv_at hl 1 rfl) ?_
  obtain ⟨hz_24, h⟩ := h
  rw [knR hz_24]
  refine wg (v := .int (oI (gI σ 577 x1))) X hT hW 9 1 577 (hV.hv 9 rfl ⟨hz_24, rx1.2⟩) rfl rfl (by decide) rfl (by decide) in_X9 q387 rfl dX8_insert_125 ?_
  refine lv_bipush (v := oI 8) X.1 X.2.1 dX8_insert_128 (by decide) ?_
  refine w_icmp_le (tgt := 141) X (hW.r.i 577 x1 rfl) ((rB_lit 8 (by decide)).i) dX8_insert_130 (by decide) (fun hc => ?_) (fun hc => ?_)
  · have h := h.1 hc
    refine w_knull (w := w) X dX8_insert_141 ?_
    exact wret_K X hr hlk hW hS rK_n h dX8_insert_142
  · have h := h.2 hc
    refine lv_aload_n X.1 X.2.1 dX8_insert_133 rfl (lv_at hl 0 rfl) ?_
    refine w_kload_n (w := w) X dX8_insert_134 rfl (lv_at hl 1 rfl) ?_
    refine wr_K (rV (As := [va_rf (knO w x1)]) (rest := []) X hT hW hS (met_Index_halve l (w := w) hV o x1 _ σ (by omega) rx1 h) (cwV 1 X.2.2.2.2 (lw_V q950 q952 qs17 q139 q953) rfl rfl rfl (by decide +kernel) ⟨by show _ ≤ _; simp only [headSpec, rm_Index_insert]; omega, by show _ ≤ _; simp only [headSpec, rm_Index_insert]; omega⟩) vl6_o (by decide) rfl rfl hl.1 rfl (by first | exact Nat.le_of_ble_eq_true rfl | simp [catK, catI, catR, catL]) dX8_insert_135 ⟨Nat.le_refl _, Nat.le_refl _⟩) hS (fun r_25 σ_26 H locs rr_25 rkσ_26 h hWσ_26 hS => ?_)
    have h := h rr_25 rkσ_26
    refine lv_goto (tgt := 142) X.1 X.2.1 dX8_insert_138 (by decide) ?_
    exact wret_K X hr hlk hWσ_26 hS rr_25 h dX8_insert_142
set_option maxHeartbeats 4000000 in
set_option maxRecDepth 100000 in
theorem wk_Index_insert_b71 {p : Program} {l : Launch} {e : Env} {st : State} {m : MethodId} {args : Array Value} {below : List Frame} {meth : Method} {c : Code} {w : Wp} {o : Int} {x1 : Int} {x2 : Int} {x4 : Int} {Q : Int → St → Prop} {n : Nat} {F : Int → Int → Int → Int → (Int → St → Prop) → St → Prop} (X : CallFix p m c cX8_insert 9 st args lw_all RX8) (hr : meth.sig.returnType = (some (.object "NandHouse$Knot"))) (hlk : meth.locks = false) (hT : Tb w st) (hV : Hvl w) (hF : ∀ (o : Int) (x1 : Int) (x2 : Int) (x4 : Int) (Q : Int → St → Prop) (σ : St), 0 ≤ o ∧ o < 2 → rK x1 → rJ x2 → rJ x4 →  F o x1 x2 x4 Q σ → Met l yX8_insert (ws_ yX8_insert cX8_insert 9 (some (.object "NandHouse$Knot"))) (rm_Index_insert n) (PcW w σ [.ref (wad w 6 o), va_rf (knO w x1), .long (oL x2), .long (oL x4)]) (QcK w Q) 0 0 (wA w)) (ho : 0 ≤ o ∧ o < 2) (rx1 : rK x1) (rx2 : rJ x2) (rx4 : rJ x4) (K124 : St → Prop) (hK124 : ∀ (σ : St) (H : Heap) (locs : List Loc) (ls : Array Slot), lv_has ls 9 [(0, .ref (wad w 6 o)), (1, va_rf (knO w x1))] → Wo w σ H → va_S (wA w) st.heap H locs → K124 σ → W p l e (headSpec (ws_ yX8_insert cX8_insert 9 (some (.object "NandHouse$Knot"))) (rm_Index_insert (n + 1))).room st m args below meth c H locs 0 0 (MQ below (QcK w Q) args st 0 0 (wA w)) (F0 m 124 ls [])) : ∀ (y7 : Int) (σ : St) (H : Heap) (locs : List Loc) (ls : Array Slot), rI y7 → lv_has ls 9 [(0, .ref (wad w 6 o)), (1, va_rf (knO w x1)), (2, .long (oL x2)), (4, .long (oL x4)), (7, .int (oI y7))] → Wo w σ H → va_S (wA w) st.heap H locs → wp_Index_insert_b71 (wc w) (wtv w) o x1 x2 x4 F Q K124 y7 σ → W p l e (headSpec (ws_ yX8_insert cX8_insert 9 (some (.object "NandHouse$Knot"))) (rm_Index_insert (n + 1))).room st m args below meth c H locs 0 0 (MQ below (QcK w Q) args st 0 0 (wA w)) (F0 m 71 ls []) := by
  have vl6_o : vl w 6 o := hV.hv 6 rfl ⟨by omega, by show _ < (2 : Int); omega⟩
  intro y7 σ H locs ls ry7 hl hW hS h
  unfold wp_Index_insert_b71 at h
  refine lv_aload_n X.1 X.2.1 dX8_insert_71 rfl (lv_at hl 0 rfl) ?_
  refine w_kload_n (w := w) X dX8_insert_72 rfl (lv_at hl 1 rfl) ?_
  obtain ⟨hz_27, h⟩ := h
  rw [knR hz_27]
  refine wg (v := .ref (wad w 583 x1)) X hT hW 9 7 583 (hV.hv 9 rfl ⟨hz_27, rx1.2⟩) rfl rfl (by decide) rfl (by decide) in_X9 q405 rfl dX8_insert_73 ?_
  refine lv_iload X.1 X.2.1 dX8_insert_76 (lv_at hl 4 rfl) ?_
  obtain ⟨bi, h⟩ := h
  refine w_aald (n := 9) X hT hW 583 (hV.hv 583 rfl ⟨hz_27, rx1.2⟩) (by decide) rfl rfl bi dX8_insert_78 ?_
  refine lv_lload_n X.1 X.2.1 dX8_insert_79 rfl (lv_at hl 2 rfl) ?_
  refine lv_lload X.1 X.2.1 dX8_insert_80 (lv_at hl 3 rfl) ?_
  refine wr_K (rV (As := [va_rf (knO w (gA σ 583 x1 y7)), .long (oL x2), .long (oL x4)]) (rest := []) X hT hW hS (hF o (gA σ 583 x1 y7) x2 x4 _ σ (by omega) (hW.r.ak 583 x1 y7 rfl) rx2 rx4 h) (cwV 3 X.2.2.2.2 (lw_V q934 q936 qs16 q139 q937) rfl rfl rfl (by decide +kernel) ⟨by show _ ≤ _; simp only [headSpec, rm_Index_insert]; omega, by show _ ≤ _; simp only [headSpec, rm_Index_insert]; omega⟩) vl6_o (by decide) rfl rfl hl.1 rfl (by first | exact Nat.le_of_ble_eq_true rfl | simp [catK, catI, catR, catL]) dX8_insert_82 ⟨Nat.le_refl _, Nat.le_refl _⟩) hS (fun r_28 σ_29 H locs rr_28 rkσ_29 h hWσ_29 hS => ?_)
  have h := h rr_28 rkσ_29
  refine w_kstore (i := 8) (lv' := [(8, va_rf (knO w r_28)), (0, .ref (wad w 6 o)), (1, va_rf (knO w x1)), (2, .long (oL x2)), (4, .long (oL x4)), (7, .int (oI y7))]) (w := w) X dX8_insert_85 hl (by decide) (by first | rfl | simp [catK, catI, catR, catL]) (fun ls hl => ?_)
  refine w_kload (w := w) X dX8_insert_87 (lv_at hl 0 rfl) ?_
  refine w_ifnull (w := w) (tgt := 124) X dX8_insert_89 (by decide) (fun hc => ?_) (fun hc => ?_)
  · have h := h.1 hc
    exact hK124 σ_29 _ _ _ (lv_sub hl [1, 2] rfl) hWσ_29 hS h
  · have h := h.2 hc
    refine w_kload_n (w := w) X dX8_insert_92 rfl (lv_at hl 2 rfl) ?_
    refine lv_iload X.1 X.2.1 dX8_insert_93 (lv_at hl 5 rfl) ?_
    refine lv_iconst (v := oI 1) X.1 X.2.1 dX8_insert_95 rfl ?_
    refine w_iadd X dX8_insert_96 ?_
    refine wr_V (rV (As := [.int (oI (w32 (y7 + 1)))]) (rest := []) X hT hWσ_29 hS (met_Knot_part l (w := w) hV x1 (w32 (y7 + 1)) _ σ_29 ⟨hz_27, rx1.2⟩ (w32_r _) h) (cwV 1 X.2.2.2.2 (lw_V q938 q939 q940 q140 q941) rfl rfl rfl (by decide +kernel) ⟨by show _ ≤ _; simp only [headSpec, rm_Index_insert]; omega, by show _ ≤ _; simp only [headSpec, rm_Index_insert]; omega⟩) (hV.hv 9 rfl ⟨hz_27, rx1.2⟩) (by decide) rfl rfl hl.1 (by simp only [knR hz_27]; rfl) (by first | exact Nat.le_of_ble_eq_true rfl | simp [catK, catI, catR, catL]) dX8_insert_97 ⟨Nat.le_refl _, Nat.le_refl _⟩) hS (fun σ_31 H locs rkσ_31 h hWσ_31 hS => ?_)
    have h := h rkσ_31
    refine w_kload_n (w := w) X dX8_insert_100 rfl (lv_at hl 2 rfl) ?_
    refine lv_iload X.1 X.2.1 dX8_insert_101 (lv_at hl 5 rfl) ?_
    refine lv_iconst (v := oI 1) X.1 X.2.1 dX8_insert_103 rfl ?_
    refine w_iadd X dX8_insert_104 ?_
    refine w_kload (w := w) X dX8_insert_105 (lv_at hl 0 rfl) ?_
    obtain ⟨hz_32, h⟩ := h
    rw [knR hz_32]
    refine wg (v := .ref (wad w 578 r_28)) X hT hWσ_31 9 2 578 (hV.hv 9 rfl ⟨hz_32, rr_28.2⟩) rfl rfl (by decide) rfl (by decide) in_X9 q390 rfl dX8_insert_107 ?_
    refine lv_iconst (v := oI 0) X.1 X.2.1 dX8_insert_110 rfl ?_
    obtain ⟨bi, h⟩ := h
    refine w_lald (n := 9) X hT hWσ_31 578 (hV.hv 578 rfl ⟨hz_32, rr_28.2⟩) (by decide) rfl rfl bi dX8_insert_111 ?_
    refine w_kload (w := w) X dX8_insert_112 (lv_at hl 0 rfl) ?_
    rw [knR hz_32]
    refine wg (v := .ref (wad w 579 r_28)) X hT hWσ_31 9 3 579 (hV.hv 9 rfl ⟨hz_32, rr_28.2⟩) rfl rfl (by decide) rfl (by decide) in_X9 q393 rfl dX8_insert_114 ?_
    refine lv_iconst (v := oI 0) X.1 X.2.1 dX8_insert_117 rfl ?_
    obtain ⟨bi, h⟩ := h
    refine w_lald (n := 9) X hT hWσ_31 579 (hV.hv 579 rfl ⟨hz_32, rr_28.2⟩) (by decide) rfl rfl bi dX8_insert_118 ?_
    refine w_kload (w := w) X dX8_insert_119 (lv_at hl 0 rfl) ?_
    refine wr_V (rV (As := [.int (oI (w32 (y7 + 1))), .long (oL (gA σ_31 578 r_28 0)), .long (oL (gA σ_31 579 r_28 0)), va_rf (knO w r_28)]) (rest := []) X hT hWσ_31 hS (met_Knot_set l (w := w) hV x1 (w32 (y7 + 1)) (gA σ_31 578 r_28 0) (gA σ_31 579 r_28 0) r_28 _ σ_31 ⟨hz_27, rx1.2⟩ (w32_r _) (hWσ_31.r.aj 578 r_28 0 rfl) (hWσ_31.r.aj 579 r_28 0 rfl) rr_28 h) (cwV 4 X.2.2.2.2 (lw_V q946 q947 q948 q140 q949) rfl rfl rfl (by decide +kernel) ⟨by show _ ≤ _; simp only [headSpec, rm_Index_insert]; omega, by show _ ≤ _; simp only [headSpec, rm_Index_insert]; omega⟩) (hV.hv 9 rfl ⟨hz_27, rx1.2⟩) (by decide) rfl rfl hl.1 (by simp only [knR hz_27]; rfl) (by first | exact Nat.le_of_ble_eq_true rfl | simp [catK, catI, catR, catL]) dX8_insert_121 ⟨Nat.le_refl _, Nat.le_refl _⟩) hS (fun σ_34 H locs rkσ_34 h hWσ_34 hS => ?_)
    have h := h rkσ_34
    exact hK124 σ_34 _ _ _ (lv_sub hl [1, 2] rfl) hWσ_34 hS h
set_option maxHeartbeats 4000000 in
set_option maxRecDepth 100000 in
theorem met_Index_insert_R (l : Launch) {w : Wp} (hV : Hvl w) {n : Nat} {F : Int → Int → Int → Int → (Int → St → Prop) → St → Prop} (hF : ∀ (o : Int) (x1 : Int) (x2 : Int) (x4 : Int) (Q : Int → St → Prop) (σ : St), 0 ≤ o ∧ o < 2 → rK x1 → rJ x2 → rJ x4 →  F o x1 x2 x4 Q σ → Met l yX8_insert (ws_ yX8_insert cX8_insert 9 (some (.object "NandHouse$Knot"))) (rm_Index_insert n) (PcW w σ [.ref (wad w 6 o), va_rf (knO w x1), .long (oL x2), .long (oL x4)]) (QcK w Q) 0 0 (wA w)) (o : Int) (x1 : Int) (x2 : Int) (x4 : Int) (Q : Int → St → Prop) (σ : St) (ho : 0 ≤ o ∧ o < 2) (rx1 : rK x1) (rx2 : rJ x2) (rx4 : rJ x4) (h : wp_Index_insert_R (wc w) (wtv w) o x1 x2 x4 F Q σ) : Met l yX8_insert (ws_ yX8_insert cX8_insert 9 (some (.object "NandHouse$Knot"))) (rm_Index_insert (n + 1)) (PcW w σ [.ref (wad w 6 o), va_rf (knO w x1), .long (oL x2), .long (oL x4)]) (QcK w Q) 0 0 (wA w) := by
  refine Met.ofW (cc := cX8_insert) (maxL := 9) (ret := (some (.object "NandHouse$Knot"))) (by decide) rfl ?_
  intro p e st m args below meth c s₁ B hml hv
  obtain ⟨hargs, hW, hT⟩ := hv
  have X : CallFix p m c cX8_insert 9 st _ lw_all RX8 := ⟨B.exec, B.bytes, hml, findClass_of_methodNamed B.named, fun w h => atoms_spec (ws := ws_ yX8_insert cX8_insert 9 (some (.object "NandHouse$Knot"))) B.pre w (List.mem_cons_of_mem _ h)⟩
  have hr := B.returns
  have hlk := B.notSynchronized
  have hS : va_S (wA w) st.heap st.heap [] := va_S.rf
  have vl6_o : vl w 6 o := hV.hv 6 rfl ⟨by omega, by show _ < (2 : Int); omega⟩
  have hl := lv_entry ([.ref (wad w 6 o), va_rf (knO w x1), .long (oL x2), .long (oL x4)]) (n := 9) (by simp [lg_sl, catK, catI, catR, catL])
  have hfr := lg_entry_eq m ([.ref (wad w 6 o), va_rf (knO w x1), .long (oL x2), .long (oL x4)]) 9
  rw [← hargs] at hfr
  rw [hfr]
  generalize (lg_sl ([.ref (wad w 6 o), va_rf (knO w x1), .long (oL x2), .long (oL x4)]) ++ List.replicate (9 - (lg_sl ([.ref (wad w 6 o), va_rf (knO w x1), .long (oL x2), .long (oL x4)])).length) Slot.unset).toArray = ls at hl ⊢
  simp [lv_args, catK, catI, catR, catL] at hl
  have hl : lv_has ls 9 [(0, .ref (wad w 6 o)), (1, va_rf (knO w x1)), (2, .long (oL x2)), (4, .long (oL x4))] := hl
  unfold wp_Index_insert_R at h
  refine lv_aload_n X.1 X.2.1 dX8_insert_0 rfl (lv_at hl 0 rfl) ?_
  refine w_kload_n (w := w) X dX8_insert_1 rfl (lv_at hl 1 rfl) ?_
  refine wr_V (rV (As := [va_rf (knO w x1)]) (rest := []) X hT hW hS (met_Index_touch l (w := w) hV o x1 _ σ (by omega) rx1 h) (cwV 1 X.2.2.2.2 (lw_V q930 q932 qs15 q139 q933) rfl rfl rfl (by decide +kernel) ⟨by show _ ≤ _; simp only [headSpec, rm_Index_insert]; omega, by show _ ≤ _; simp only [headSpec, rm_Index_insert]; omega⟩) vl6_o (by decide) rfl rfl hl.1 rfl (by first | exact Nat.le_of_ble_eq_true rfl | simp [catK, catI, catR, catL]) dX8_insert_2 ⟨Nat.le_refl _, Nat.le_refl _⟩) hS (fun σ_36 H locs rkσ_36 h hWσ_36 hS => ?_)
  have h := h rkσ_36
  refine w_kload_n (w := w) X dX8_insert_5 rfl (lv_at hl 1 rfl) ?_
  refine lv_lload_n X.1 X.2.1 dX8_insert_6 rfl (lv_at hl 2 rfl) ?_
  refine lv_lload X.1 X.2.1 dX8_insert_7 (lv_at hl 3 rfl) ?_
  obtain ⟨hz_37, h⟩ := h
  refine wr_I (rV (As := [.long (oL x2), .long (oL x4)]) (rest := []) X hT hWσ_36 hS (met_Knot_slot l (w := w) hV x1 x2 x4 _ σ_36 ⟨hz_37, rx1.2⟩ rx2 rx4 h) (cwV 2 X.2.2.2.2 (lw_V q909 q910 q911 q140 q912) rfl rfl rfl (by decide +kernel) ⟨by show _ ≤ _; simp only [headSpec, rm_Index_insert]; omega, by show _ ≤ _; simp only [headSpec, rm_Index_insert]; omega⟩) (hV.hv 9 rfl ⟨hz_37, rx1.2⟩) (by decide) rfl rfl hl.1 (by simp only [knR hz_37]; rfl) (by first | exact Nat.le_of_ble_eq_true rfl | simp [catK, catI, catR, catL]) dX8_insert_9 ⟨Nat.le_refl _, Nat.le_refl _⟩) hS (fun r_38 σ_39 H locs rr_38 rkσ_39 h hWσ_39 hS => ?_)
  have h := h rr_38 rkσ_39
  refine lv_istore (i := 6) (lv' := [(6, .int (oI r_38)), (0, .ref (wad w 6 o)), (1, va_rf (knO w x1)), (2, .long (oL x2)), (4, .long (oL x4))]) X.1 X.2.1 dX8_insert_12 hl (by decide) (by first | rfl | simp [catK, catI, catR, catL]) (fun ls hl => ?_)
  refine w_kload_n (w := w) X dX8_insert_14 rfl (lv_at hl 2 rfl) ?_
  rw [knR hz_37]
  refine wg (v := .int (oI (gI σ_39 576 x1))) X hT hWσ_39 9 0 576 (hV.hv 9 rfl ⟨hz_37, rx1.2⟩) rfl rfl (by decide) rfl (by decide) in_X9 q384 rfl dX8_insert_15 ?_
  refine w_if_ne (tgt := 44) X (hWσ_39.r.i 576 x1 rfl) dX8_insert_18 (by decide) (fun hc => ?_) (fun hc => ?_)
  · have h := h.1 hc
    refine lv_iconst (v := oI 0) X.1 X.2.1 dX8_insert_44 rfl ?_
    refine lv_iload X.1 X.2.1 dX8_insert_45 (lv_at hl 0 rfl) ?_
    refine w_mmax X rZ_0.i rr_38 hl.1 q923 q924 q149 q925 (Nat.le_of_ble_eq_true rfl) (Nat.le_of_ble_eq_true rfl) (Nat.le_refl _) (Nat.le_refl _) dX8_insert_47 ?_
    refine w_top (fun y7_40 ey7_40 => ?_)
    have h := h y7_40 ey7_40
    have ry7_40 : rI y7_40 := by rw [ey7_40]; exact (max_rI rZ_0.i rr_38)
    refine lv_istore (i := 7) (lv' := [(7, .int (oI y7_40)), (6, .int (oI r_38)), (0, .ref (wad w 6 o)), (1, va_rf (knO w x1)), (2, .long (oL x2)), (4, .long (oL x4))]) X.1 X.2.1 dX8_insert_50 hl (by decide) (by first | rfl | simp [catK, catI, catR, catL]) (fun ls hl => ?_)
    refine lv_iload X.1 X.2.1 dX8_insert_52 (lv_at hl 1 rfl) ?_
    refine w_if_ge (tgt := 71) X rr_38 dX8_insert_54 (by decide) (fun hc => ?_) (fun hc => ?_)
    · have h := h.1 hc
      exact wk_Index_insert_b71 X hr hlk hT hV hF ho rx1 rx2 rx4 (wp_Index_insert_b124 (wc w) (wtv w) o x1 x2 x4 F Q) (wk_Index_insert_b124 X hr hlk hT hV hF ho rx1 rx2 rx4) y7_40 σ_39 _ _ _ ry7_40 (lv_sub hl [2, 3, 4, 5, 0] rfl) hWσ_39 hS h
    · have h := h.2 hc
      refine w_kload_n (w := w) X dX8_insert_57 rfl (lv_at hl 3 rfl) ?_
      refine lv_iconst (v := oI 0) X.1 X.2.1 dX8_insert_58 rfl ?_
      refine lv_lload_n X.1 X.2.1 dX8_insert_59 rfl (lv_at hl 4 rfl) ?_
      refine lv_lload X.1 X.2.1 dX8_insert_60 (lv_at hl 5 rfl) ?_
      refine w_kload_n (w := w) X dX8_insert_62 rfl (lv_at hl 3 rfl) ?_
      rw [knR hz_37]
      refine wg (v := .ref (wad w 583 x1)) X hT hWσ_39 9 7 583 (hV.hv 9 rfl ⟨hz_37, rx1.2⟩) rfl rfl (by decide) rfl (by decide) in_X9 q405 rfl dX8_insert_63 ?_
      refine lv_iconst (v := oI 0) X.1 X.2.1 dX8_insert_66 rfl ?_
      obtain ⟨bi, h⟩ := h
      refine w_aald (n := 9) X hT hWσ_39 583 (hV.hv 583 rfl ⟨hz_37, rx1.2⟩) (by decide) rfl rfl bi dX8_insert_67 ?_
      refine wr_V (rV (As := [.int (oI 0), .long (oL x2), .long (oL x4), va_rf (knO w (gA σ_39 583 x1 0))]) (rest := []) X hT hWσ_39 hS (met_Knot_set l (w := w) hV x1 0 x2 x4 (gA σ_39 583 x1 0) _ σ_39 ⟨hz_37, rx1.2⟩ rZ_0.i rx2 rx4 (hWσ_39.r.ak 583 x1 0 rfl) h) (cwV 4 X.2.2.2.2 (lw_V q946 q947 q948 q140 q949) rfl rfl rfl (by decide +kernel) ⟨by show _ ≤ _; simp only [headSpec, rm_Index_insert]; omega, by show _ ≤ _; simp only [headSpec, rm_Index_insert]; omega⟩) (hV.hv 9 rfl ⟨hz_37, rx1.2⟩) (by decide) rfl rfl hl.1 rfl (by first | exact Nat.le_of_ble_eq_true rfl | simp [catK, catI, catR, catL]) dX8_insert_68 ⟨Nat.le_refl _, Nat.le_refl _⟩) hS (fun σ_42 H locs rkσ_42 h hWσ_42 hS => ?_)
      have h := h rkσ_42
      exact wk_Index_insert_b71 X hr hlk hT hV hF ho rx1 rx2 rx4 (wp_Index_insert_b124 (wc w) (wtv w) o x1 x2 x4 F Q) (wk_Index_insert_b124 X hr hlk hT hV hF ho rx1 rx2 rx4) y7_40 σ_42 _ _ _ ry7_40 (lv_sub hl [2, 3, 4, 5, 0] rfl) hWσ_42 hS h
  · have h := h.2 hc
    refine w_kload_n (w := w) X dX8_insert_21 rfl (lv_at hl 2 rfl) ?_
    refine lv_iload X.1 X.2.1 dX8_insert_22 (lv_at hl 0 rfl) ?_
    refine lv_iconst (v := oI 1) X.1 X.2.1 dX8_insert_24 rfl ?_
    refine w_iadd X dX8_insert_25 ?_
    refine wr_V (rV (As := [.int (oI (w32 (r_38 + 1)))]) (rest := []) X hT hWσ_39 hS (met_Knot_part l (w := w) hV x1 (w32 (r_38 + 1)) _ σ_39 ⟨hz_37, rx1.2⟩ (w32_r _) h) (cwV 1 X.2.2.2.2 (lw_V q938 q939 q940 q140 q941) rfl rfl rfl (by decide +kernel) ⟨by show _ ≤ _; simp only [headSpec, rm_Index_insert]; omega, by show _ ≤ _; simp only [headSpec, rm_Index_insert]; omega⟩) (hV.hv 9 rfl ⟨hz_37, rx1.2⟩) (by decide) rfl rfl hl.1 (by simp only [knR hz_37]; rfl) (by first | exact Nat.le_of_ble_eq_true rfl | simp [catK, catI, catR, catL]) dX8_insert_26 ⟨Nat.le_refl _, Nat.le_refl _⟩) hS (fun σ_44 H locs rkσ_44 h hWσ_44 hS => ?_)
    have h := h rkσ_44
    refine w_kload_n (w := w) X dX8_insert_29 rfl (lv_at hl 2 rfl) ?_
    refine lv_iload X.1 X.2.1 dX8_insert_30 (lv_at hl 0 rfl) ?_
    refine lv_iconst (v := oI 1) X.1 X.2.1 dX8_insert_32 rfl ?_
    refine w_iadd X dX8_insert_33 ?_
    refine lv_lload_n X.1 X.2.1 dX8_insert_34 rfl (lv_at hl 3 rfl) ?_
    refine lv_lload X.1 X.2.1 dX8_insert_35 (lv_at hl 4 rfl) ?_
    refine w_knull (w := w) X dX8_insert_37 ?_
    refine wr_V (rV (As := [.int (oI (w32 (r_38 + 1))), .long (oL x2), .long (oL x4), va_rf (knO w (-1))]) (rest := []) X hT hWσ_44 hS (met_Knot_set l (w := w) hV x1 (w32 (r_38 + 1)) x2 x4 (-1) _ σ_44 ⟨hz_37, rx1.2⟩ (w32_r _) rx2 rx4 rK_n h) (cwV 4 X.2.2.2.2 (lw_V q946 q947 q948 q140 q949) rfl rfl rfl (by decide +kernel) ⟨by show _ ≤ _; simp only [headSpec, rm_Index_insert]; omega, by show _ ≤ _; simp only [headSpec, rm_Index_insert]; omega⟩) (hV.hv 9 rfl ⟨hz_37, rx1.2⟩) (by decide) rfl rfl hl.1 (by simp only [knR hz_37]; rfl) (by first | exact Nat.le_of_ble_eq_true rfl | simp [catK, catI, catR, catL]) dX8_insert_38 ⟨Nat.le_refl _, Nat.le_refl _⟩) hS (fun σ_46 H locs rkσ_46 h hWσ_46 hS => ?_)
    have h := h rkσ_46
    refine lv_goto (tgt := 124) X.1 X.2.1 dX8_insert_41 (by decide) ?_
    exact wk_Index_insert_b124 X hr hlk hT hV hF ho rx1 rx2 rx4 σ_46 _ _ _ (lv_sub hl [1, 2] rfl) hWσ_46 hS h
theorem met_Index_insert (l : Launch) {w : Wp} (hV : Hvl w) (n : Nat) : ∀ (o : Int) (x1 : Int) (x2 : Int) (x4 : Int) (Q : Int → St → Prop) (σ : St), 0 ≤ o ∧ o < 2 → rK x1 → rJ x2 → rJ x4 → wp_Index_insert (wc w) (wtv w) n o x1 x2 x4 Q σ → Met l yX8_insert (ws_ yX8_insert cX8_insert 9 (some (.object "NandHouse$Knot"))) (rm_Index_insert n) (PcW w σ [.ref (wad w 6 o), va_rf (knO w x1), .long (oL x2), .long (oL x4)]) (QcK w Q) 0 0 (wA w) := by
  induction n with
  | zero => intro o x1 x2 x4 Q σ ho rx1 rx2 rx4 h; exact h.elim
  | succ n ih => intro o x1 x2 x4 Q σ ho rx1 rx2 rx4 h; exact met_Index_insert_R l hV ih o x1 x2 x4 Q σ ho rx1 rx2 rx4 h
/-! Index.grow(LNandHouse$Knot;)V -/
set_option maxHeartbeats 4000000 in
set_option maxRecDepth 100000 in
theorem met_Index_grow (l : Launch) {w : Wp} (hV : Hvl w) (o : Int) (x1 : Int) (Q : St → Prop) (σ : St) (ho : 0 ≤ o ∧ o < 2) (rx1 : rK x1) (h : wp_Index_grow (wc w) (wtv w) o x1 Q σ) : Met l yX8_grow (ws_ yX8_grow cX8_grow 3 none) rm_Index_grow (PcW w σ [.ref (wad w 6 o), va_rf (knO w x1)]) (QcV w Q) 0 0 (wA w) := by
  refine Met.ofW (cc := cX8_grow) (maxL := 3) (ret := none) (by decide) rfl ?_
  intro p e st m args below meth c s₁ B hml hv
  obtain ⟨hargs, hW, hT⟩ := hv
  have X : CallFix p m c cX8_grow 3 st _ lw_all RX8 := ⟨B.exec, B.bytes, hml, findClass_of_methodNamed B.named, fun w h => atoms_spec (ws := ws_ yX8_grow cX8_grow 3 none) B.pre w (List.mem_cons_of_mem _ h)⟩
  have hr := B.returns
  have hlk := B.notSynchronized
  have hS : va_S (wA w) st.heap st.heap [] := va_S.rf
  have vl6_o : vl w 6 o := hV.hv 6 rfl ⟨by omega, by show _ < (2 : Int); omega⟩
  have hl := lv_entry ([.ref (wad w 6 o), va_rf (knO w x1)]) (n := 3) (by simp [lg_sl, catK, catI, catR, catL])
  have hfr := lg_entry_eq m ([.ref (wad w 6 o), va_rf (knO w x1)]) 3
  rw [← hargs] at hfr
  rw [hfr]
  generalize (lg_sl ([.ref (wad w 6 o), va_rf (knO w x1)]) ++ List.replicate (3 - (lg_sl ([.ref (wad w 6 o), va_rf (knO w x1)])).length) Slot.unset).toArray = ls at hl ⊢
  simp [lv_args, catK, catI, catR, catL] at hl
  have hl : lv_has ls 3 [(0, .ref (wad w 6 o)), (1, va_rf (knO w x1))] := hl
  unfold wp_Index_grow at h
  refine lv_aload_n X.1 X.2.1 dX8_grow_0 rfl (lv_at hl 0 rfl) ?_
  refine lv_aload_n X.1 X.2.1 dX8_grow_1 rfl (lv_at hl 0 rfl) ?_
  refine wg (v := va_rf (knO w (gI σ 387 o))) X hT hW 6 3 387 vl6_o rfl rfl (by decide) rfl (by decide) in_X8 q445 rfl dX8_grow_2 ?_
  obtain ⟨hz_13, h⟩ := h
  rw [knR hz_13]
  refine wg (v := .int (oI (gI σ 576 (gI σ 387 o)))) X hT hW 9 0 576 (hV.hv 9 rfl ⟨hz_13, (hW.r.k 387 o rfl).2⟩) rfl rfl (by decide) rfl (by decide) in_X9 q384 rfl dX8_grow_5 ?_
  refine lv_iconst (v := oI 1) X.1 X.2.1 dX8_grow_8 rfl ?_
  refine w_iadd X dX8_grow_9 ?_
  refine wr_K (rV (As := [.int (oI (w32 ((gI σ 576 (gI σ 387 o)) + 1)))]) (rest := []) X hT hW hS (met_Index_fetch l (w := w) hV o (w32 ((gI σ 576 (gI σ 387 o)) + 1)) _ σ (by omega) (w32_r _) h) (cwV 1 X.2.2.2.2 (lw_V q728 q729 q730 q139 q731) rfl rfl rfl (by decide +kernel) ⟨Nat.le_of_ble_eq_true rfl, Nat.le_of_ble_eq_true rfl⟩) vl6_o (by decide) rfl rfl hl.1 rfl (by first | exact Nat.le_of_ble_eq_true rfl | simp [catK, catI, catR, catL]) dX8_grow_10 ⟨Nat.le_refl _, Nat.le_refl _⟩) hS (fun r_14 σ_15 H locs rr_14 rkσ_15 h hWσ_15 hS => ?_)
  have h := h rr_14 rkσ_15
  refine w_kstore_n (i := 2) (lv' := [(2, va_rf (knO w r_14)), (0, .ref (wad w 6 o)), (1, va_rf (knO w x1))]) (w := w) X dX8_grow_13 rfl hl (by decide) (by first | rfl | simp [catK, catI, catR, catL]) (fun ls hl => ?_)
  refine w_kload_n (w := w) X dX8_grow_14 rfl (lv_at hl 0 rfl) ?_
  refine lv_iconst (v := oI 2) X.1 X.2.1 dX8_grow_15 rfl ?_
  obtain ⟨hz_16, h⟩ := h
  rw [knR hz_16]
  refine wput (z := 2) X hT hWσ_15 hS 9 1 577 (hV.hv 9 rfl ⟨hz_16, rr_14.2⟩) rfl rfl (by decide) rfl (by decide) in_X9 tyX9 tyX9_ok nmX9 q387 rfl rfl ((rB_lit 2 (by decide)).i) (fv0 w rfl) rfl rfl dX8_grow_16 (fun H locs hN hS => ?_)
  obtain ⟨σ_17, eσ_17⟩ : ∃ x, x = sI σ_15 577 r_14 2 := ⟨_, rfl⟩
  have hWσ_17 : Wo w σ_17 H := eσ_17 ▸ hN
  have h := h σ_17 eσ_17
  clear hN
  refine w_kload_n (w := w) X dX8_grow_19 rfl (lv_at hl 0 rfl) ?_
  refine lv_iconst (v := oI 0) X.1 X.2.1 dX8_grow_20 rfl ?_
  refine lv_aload_n X.1 X.2.1 dX8_grow_21 rfl (lv_at hl 1 rfl) ?_
  refine wg (v := va_rf (knO w (gI σ_17 387 o))) X hT hWσ_17 6 3 387 vl6_o rfl rfl (by decide) rfl (by decide) in_X8 q445 rfl dX8_grow_22 ?_
  obtain ⟨hz_18, h⟩ := h
  rw [knR hz_18]
  refine wg (v := .ref (wad w 578 (gI σ_17 387 o))) X hT hWσ_17 9 2 578 (hV.hv 9 rfl ⟨hz_18, (hWσ_17.r.k 387 o rfl).2⟩) rfl rfl (by decide) rfl (by decide) in_X9 q390 rfl dX8_grow_25 ?_
  refine lv_iconst (v := oI 0) X.1 X.2.1 dX8_grow_28 rfl ?_
  obtain ⟨bi, h⟩ := h
  refine w_lald (n := 9) X hT hWσ_17 578 (hV.hv 578 rfl ⟨hz_18, (hWσ_17.r.k 387 o rfl).2⟩) (by decide) rfl rfl bi dX8_grow_29 ?_
  refine lv_aload_n X.1 X.2.1 dX8_grow_30 rfl (lv_at hl 1 rfl) ?_
  refine wg (v := va_rf (knO w (gI σ_17 387 o))) X hT hWσ_17 6 3 387 vl6_o rfl rfl (by decide) rfl (by decide) in_X8 q445 rfl dX8_grow_31 ?_
  rw [knR hz_18]
  refine wg (v := .ref (wad w 579 (gI σ_17 387 o))) X hT hWσ_17 9 3 579 (hV.hv 9 rfl ⟨hz_18, (hWσ_17.r.k 387 o rfl).2⟩) rfl rfl (by decide) rfl (by decide) in_X9 q393 rfl dX8_grow_34 ?_
  refine lv_iconst (v := oI 0) X.1 X.2.1 dX8_grow_37 rfl ?_
  obtain ⟨bi, h⟩ := h
  refine w_lald (n := 9) X hT hWσ_17 579 (hV.hv 579 rfl ⟨hz_18, (hWσ_17.r.k 387 o rfl).2⟩) (by decide) rfl rfl bi dX8_grow_38 ?_
  refine lv_aload_n X.1 X.2.1 dX8_grow_39 rfl (lv_at hl 1 rfl) ?_
  refine wg (v := va_rf (knO w (gI σ_17 387 o))) X hT hWσ_17 6 3 387 vl6_o rfl rfl (by decide) rfl (by decide) in_X8 q445 rfl dX8_grow_40 ?_
  refine wr_V (rV (As := [.int (oI 0), .long (oL (gA σ_17 578 (gI σ_17 387 o) 0)), .long (oL (gA σ_17 579 (gI σ_17 387 o) 0)), va_rf (knO w (gI σ_17 387 o))]) (rest := []) X hT hWσ_17 hS (met_Knot_set l (w := w) hV r_14 0 (gA σ_17 578 (gI σ_17 387 o) 0) (gA σ_17 579 (gI σ_17 387 o) 0) (gI σ_17 387 o) _ σ_17 ⟨hz_16, rr_14.2⟩ rZ_0.i (hWσ_17.r.aj 578 (gI σ_17 387 o) 0 rfl) (hWσ_17.r.aj 579 (gI σ_17 387 o) 0 rfl) (hWσ_17.r.k 387 o rfl) h) (cwV 4 X.2.2.2.2 (lw_V q946 q947 q948 q140 q949) rfl rfl rfl (by decide +kernel) ⟨Nat.le_of_ble_eq_true rfl, Nat.le_of_ble_eq_true rfl⟩) (hV.hv 9 rfl ⟨hz_16, rr_14.2⟩) (by decide) rfl rfl hl.1 (by simp only [knR hz_16]; rfl) (by first | exact Nat.le_of_ble_eq_true rfl | simp [catK, catI, catR, catL]) dX8_grow_43 ⟨Nat.le_refl _, Nat.le_refl _⟩) hS (fun σ_20 H locs rkσ_20 h hWσ_20 hS => ?_)
  have h := h rkσ_20
  refine w_kload_n (w := w) X dX8_grow_46 rfl (lv_at hl 0 rfl) ?_
  refine lv_iconst (v := oI 1) X.1 X.2.1 dX8_grow_47 rfl ?_
  refine w_kload_n (w := w) X dX8_grow_48 rfl (lv_at hl 2 rfl) ?_
  obtain ⟨hz_21, h⟩ := h
  rw [knR hz_21]
  refine wg (v := .ref (wad w 578 x1)) X hT hWσ_20 9 2 578 (hV.hv 9 rfl ⟨hz_21, rx1.2⟩) rfl rfl (by decide) rfl (by decide) in_X9 q390 rfl dX8_grow_49 ?_
  refine lv_iconst (v := oI 0) X.1 X.2.1 dX8_grow_52 rfl ?_
  obtain ⟨bi, h⟩ := h
  refine w_lald (n := 9) X hT hWσ_20 578 (hV.hv 578 rfl ⟨hz_21, rx1.2⟩) (by decide) rfl rfl bi dX8_grow_53 ?_
  refine w_kload_n (w := w) X dX8_grow_54 rfl (lv_at hl 2 rfl) ?_
  rw [knR hz_21]
  refine wg (v := .ref (wad w 579 x1)) X hT hWσ_20 9 3 579 (hV.hv 9 rfl ⟨hz_21, rx1.2⟩) rfl rfl (by decide) rfl (by decide) in_X9 q393 rfl dX8_grow_55 ?_
  refine lv_iconst (v := oI 0) X.1 X.2.1 dX8_grow_58 rfl ?_
  obtain ⟨bi, h⟩ := h
  refine w_lald (n := 9) X hT hWσ_20 579 (hV.hv 579 rfl ⟨hz_21, rx1.2⟩) (by decide) rfl rfl bi dX8_grow_59 ?_
  refine w_kload_n (w := w) X dX8_grow_60 rfl (lv_at hl 2 rfl) ?_
  refine wr_V (rV (As := [.int (oI 1), .long (oL (gA σ_20 578 x1 0)), .long (oL (gA σ_20 579 x1 0)), va_rf (knO w x1)]) (rest := []) X hT hWσ_20 hS (met_Knot_set l (w := w) hV r_14 1 (gA σ_20 578 x1 0) (gA σ_20 579 x1 0) x1 _ σ_20 ⟨hz_16, rr_14.2⟩ rZ_1.i (hWσ_20.r.aj 578 x1 0 rfl) (hWσ_20.r.aj 579 x1 0 rfl) rx1 h) (cwV 4 X.2.2.2.2 (lw_V q946 q947 q948 q140 q949) rfl rfl rfl (by decide +kernel) ⟨Nat.le_of_ble_eq_true rfl, Nat.le_of_ble_eq_true rfl⟩) (hV.hv 9 rfl ⟨hz_16, rr_14.2⟩) (by decide) rfl rfl hl.1 (by simp only [knR hz_16]; rfl) (by first | exact Nat.le_of_ble_eq_true rfl | simp [catK, catI, catR, catL]) dX8_grow_61 ⟨Nat.le_refl _, Nat.le_refl _⟩) hS (fun σ_23 H locs rkσ_23 h hWσ_23 hS => ?_)
  have h := h rkσ_23
  refine lv_aload_n X.1 X.2.1 dX8_grow_64 rfl (lv_at hl 1 rfl) ?_
  refine w_kload_n (w := w) X dX8_grow_65 rfl (lv_at hl 0 rfl) ?_
  refine wput (z := r_14) X hT hWσ_23 hS 6 3 387 vl6_o rfl rfl (by decide) rfl (by decide) in_X8 tyX8 tyX8_ok nmX8 q445 rfl rfl rr_14 (fv2 w rfl) (nrK w _ _) (ftK w _ _) dX8_grow_66 (fun H locs hN hS => ?_)
  obtain ⟨σ_24, eσ_24⟩ : ∃ x, x = sI σ_23 387 o r_14 := ⟨_, rfl⟩
  have hWσ_24 : Wo w σ_24 H := eσ_24 ▸ hN
  have h := h σ_24 eσ_24
  clear hN
  exact wret_V X hr hlk hWσ_24 hS h dX8_grow_69
/-! Index.put(JJIII)V -/
set_option maxHeartbeats 4000000 in
set_option maxRecDepth 100000 in
theorem wk_Index_put_b64 {p : Program} {l : Launch} {e : Env} {st : State} {m : MethodId} {args : Array Value} {below : List Frame} {meth : Method} {c : Code} {w : Wp} {o : Int} {x1 : Int} {x3 : Int} {x5 : Int} {x6 : Int} {x7 : Int} {Q : St → Prop} (X : CallFix p m c cX8_put 10 st args lw_all RX8) (hr : meth.sig.returnType = none) (hlk : meth.locks = false) (hT : Tb w st) (hV : Hvl w) (ho : 0 ≤ o ∧ o < 2) (rx1 : rJ x1) (rx3 : rJ x3) (rx5 : rI x5) (rx6 : rI x6) (rx7 : rI x7) (K71 : St → Prop) (hK71 : ∀ (σ : St) (H : Heap) (locs : List Loc) (ls : Array Slot), lv_has ls 10 [(0, .ref (wad w 6 o)), (5, .int (oI x5)), (6, .int (oI x6)), (7, .int (oI x7))] → Wo w σ H → va_S (wA w) st.heap H locs → K71 σ → W p l e (headSpec (ws_ yX8_put cX8_put 10 none) rm_Index_put).room st m args below meth c H locs 0 0 (MQ below (QcV w Q) args st 0 0 (wA w)) (F0 m 71 ls [])) : ∀ (σ : St) (H : Heap) (locs : List Loc) (ls : Array Slot), lv_has ls 10 [(0, .ref (wad w 6 o)), (1, .long (oL x1)), (3, .long (oL x3)), (5, .int (oI x5)), (6, .int (oI x6)), (7, .int (oI x7))] → Wo w σ H → va_S (wA w) st.heap H locs → wp_Index_put_b64 (wc w) (wtv w) o x1 x3 x5 x6 x7 Q K71 σ → W p l e (headSpec (ws_ yX8_put cX8_put 10 none) rm_Index_put).room st m args below meth c H locs 0 0 (MQ below (QcV w Q) args st 0 0 (wA w)) (F0 m 64 ls []) := by
  have vl6_o : vl w 6 o := hV.hv 6 rfl ⟨by omega, by show _ < (2 : Int); omega⟩
  intro σ H locs ls hl hW hS h
  unfold wp_Index_put_b64 at h
  refine lv_aload_n X.1 X.2.1 dX8_put_64 rfl (lv_at hl 0 rfl) ?_
  refine lv_lload_n X.1 X.2.1 dX8_put_65 rfl (lv_at hl 1 rfl) ?_
  refine lv_lload_n X.1 X.2.1 dX8_put_66 rfl (lv_at hl 2 rfl) ?_
  refine wr_Z (rV (As := [.long (oL x1), .long (oL x3)]) (rest := []) X hT hW hS (met_Index_find l (w := w) hV o x1 x3 _ σ (by omega) rx1 rx3 h) (cwV 2 X.2.2.2.2 (lw_V q901 q902 q903 q139 q904) rfl rfl rfl (by decide +kernel) ⟨Nat.le_of_ble_eq_true rfl, Nat.le_of_ble_eq_true rfl⟩) vl6_o (by decide) rfl rfl hl.1 rfl (by first | exact Nat.le_of_ble_eq_true rfl | simp [catK, catI, catR, catL]) dX8_put_67 ⟨Nat.le_refl _, Nat.le_refl _⟩) hS (fun r_19 σ_20 H locs rr_19 rkσ_20 h hWσ_20 hS => ?_)
  have h := h rr_19 rkσ_20
  refine lv_pop X.1 X.2.1 dX8_put_70 rfl ?_
  exact hK71 σ_20 _ _ _ (lv_sub hl [0, 3, 4, 5] rfl) hWσ_20 hS h
set_option maxHeartbeats 4000000 in
set_option maxRecDepth 100000 in
theorem wk_Index_put_b71 {p : Program} {l : Launch} {e : Env} {st : State} {m : MethodId} {args : Array Value} {below : List Frame} {meth : Method} {c : Code} {w : Wp} {o : Int} {x1 : Int} {x3 : Int} {x5 : Int} {x6 : Int} {x7 : Int} {Q : St → Prop} (X : CallFix p m c cX8_put 10 st args lw_all RX8) (hr : meth.sig.returnType = none) (hlk : meth.locks = false) (hT : Tb w st) (hV : Hvl w) (ho : 0 ≤ o ∧ o < 2) (rx1 : rJ x1) (rx3 : rJ x3) (rx5 : rI x5) (rx6 : rI x6) (rx7 : rI x7) : ∀ (σ : St) (H : Heap) (locs : List Loc) (ls : Array Slot), lv_has ls 10 [(0, .ref (wad w 6 o)), (5, .int (oI x5)), (6, .int (oI x6)), (7, .int (oI x7))] → Wo w σ H → va_S (wA w) st.heap H locs → wp_Index_put_b71 (wc w) (wtv w) o x1 x3 x5 x6 x7 Q σ → W p l e (headSpec (ws_ yX8_put cX8_put 10 none) rm_Index_put).room st m args below meth c H locs 0 0 (MQ below (QcV w Q) args st 0 0 (wA w)) (F0 m 71 ls []) := by
  have vl324_o : vl w 324 o := hV.hv 324 rfl ⟨by omega, by show _ < (2 : Int); omega⟩
  have vl5_o : vl w 5 o := hV.hv 5 rfl ⟨by omega, by show _ < (2 : Int); omega⟩
  have vl6_o : vl w 6 o := hV.hv 6 rfl ⟨by omega, by show _ < (2 : Int); omega⟩
  intro σ H locs ls hl hW hS h
  unfold wp_Index_put_b71 at h
  refine lv_aload_n X.1 X.2.1 dX8_put_71 rfl (lv_at hl 0 rfl) ?_
  refine wg (v := va_rf (knO w (gI σ 396 o))) X hT hW 6 12 396 vl6_o rfl rfl (by decide) rfl (by decide) in_X8 q468 rfl dX8_put_72 ?_
  obtain ⟨hz_21, h⟩ := h
  rw [knR hz_21]
  refine wg (v := .ref (wad w 580 (gI σ 396 o))) X hT hW 9 4 580 (hV.hv 9 rfl ⟨hz_21, (hW.r.k 396 o rfl).2⟩) rfl rfl (by decide) rfl (by decide) in_X9 q396 rfl dX8_put_75 ?_
  refine lv_aload_n X.1 X.2.1 dX8_put_78 rfl (lv_at hl 0 rfl) ?_
  refine wg (v := .int (oI (gI σ 397 o))) X hT hW 6 13 397 vl6_o rfl rfl (by decide) rfl (by decide) in_X8 q469 rfl dX8_put_79 ?_
  refine lv_iload X.1 X.2.1 dX8_put_82 (lv_at hl 1 rfl) ?_
  obtain ⟨bi, h⟩ := h
  refine w_iast (n := 9) X hT hW hS 580 (hV.hv 580 rfl ⟨hz_21, (hW.r.k 396 o rfl).2⟩) (by decide) rfl rfl bi rx5 dX8_put_84 (fun H locs hN hS => ?_)
  obtain ⟨σ_22, eσ_22⟩ : ∃ x, x = sA σ 580 (gI σ 396 o) (gI σ 397 o) x5 := ⟨_, rfl⟩
  have hWσ_22 : Wo w σ_22 H := eσ_22 ▸ hN
  have h := h σ_22 eσ_22
  clear hN
  refine lv_aload_n X.1 X.2.1 dX8_put_85 rfl (lv_at hl 0 rfl) ?_
  refine wg (v := va_rf (knO w (gI σ_22 396 o))) X hT hWσ_22 6 12 396 vl6_o rfl rfl (by decide) rfl (by decide) in_X8 q468 rfl dX8_put_86 ?_
  obtain ⟨hz_23, h⟩ := h
  rw [knR hz_23]
  refine wg (v := .ref (wad w 581 (gI σ_22 396 o))) X hT hWσ_22 9 5 581 (hV.hv 9 rfl ⟨hz_23, (hWσ_22.r.k 396 o rfl).2⟩) rfl rfl (by decide) rfl (by decide) in_X9 q399 rfl dX8_put_89 ?_
  refine lv_aload_n X.1 X.2.1 dX8_put_92 rfl (lv_at hl 0 rfl) ?_
  refine wg (v := .int (oI (gI σ_22 397 o))) X hT hWσ_22 6 13 397 vl6_o rfl rfl (by decide) rfl (by decide) in_X8 q469 rfl dX8_put_93 ?_
  refine lv_iload X.1 X.2.1 dX8_put_96 (lv_at hl 2 rfl) ?_
  obtain ⟨bi, h⟩ := h
  refine w_iast (n := 9) X hT hWσ_22 hS 581 (hV.hv 581 rfl ⟨hz_23, (hWσ_22.r.k 396 o rfl).2⟩) (by decide) rfl rfl bi rx6 dX8_put_98 (fun H locs hN hS => ?_)
  obtain ⟨σ_24, eσ_24⟩ : ∃ x, x = sA σ_22 581 (gI σ_22 396 o) (gI σ_22 397 o) x6 := ⟨_, rfl⟩
  have hWσ_24 : Wo w σ_24 H := eσ_24 ▸ hN
  have h := h σ_24 eσ_24
  clear hN
  refine lv_aload_n X.1 X.2.1 dX8_put_99 rfl (lv_at hl 0 rfl) ?_
  refine wg (v := va_rf (knO w (gI σ_24 396 o))) X hT hWσ_24 6 12 396 vl6_o rfl rfl (by decide) rfl (by decide) in_X8 q468 rfl dX8_put_100 ?_
  obtain ⟨hz_25, h⟩ := h
  rw [knR hz_25]
  refine wg (v := .ref (wad w 582 (gI σ_24 396 o))) X hT hWσ_24 9 6 582 (hV.hv 9 rfl ⟨hz_25, (hWσ_24.r.k 396 o rfl).2⟩) rfl rfl (by decide) rfl (by decide) in_X9 q402 rfl dX8_put_103 ?_
  refine lv_aload_n X.1 X.2.1 dX8_put_106 rfl (lv_at hl 0 rfl) ?_
  refine wg (v := .int (oI (gI σ_24 397 o))) X hT hWσ_24 6 13 397 vl6_o rfl rfl (by decide) rfl (by decide) in_X8 q469 rfl dX8_put_107 ?_
  refine lv_iload X.1 X.2.1 dX8_put_110 (lv_at hl 3 rfl) ?_
  obtain ⟨bi, h⟩ := h
  refine w_iast (n := 9) X hT hWσ_24 hS 582 (hV.hv 582 rfl ⟨hz_25, (hWσ_24.r.k 396 o rfl).2⟩) (by decide) rfl rfl bi rx7 dX8_put_112 (fun H locs hN hS => ?_)
  obtain ⟨σ_26, eσ_26⟩ : ∃ x, x = sA σ_24 582 (gI σ_24 396 o) (gI σ_24 397 o) x7 := ⟨_, rfl⟩
  have hWσ_26 : Wo w σ_26 H := eσ_26 ▸ hN
  have h := h σ_26 eσ_26
  clear hN
  refine lv_aload_n X.1 X.2.1 dX8_put_113 rfl (lv_at hl 0 rfl) ?_
  refine wg (v := .ref (wad w 5 o)) X hT hWσ_26 6 0 384 vl6_o rfl rfl (by decide) rfl (by decide) in_X8 q442 rfl dX8_put_114 ?_
  refine wg (v := .ref (wad w 324 o)) X hT hWσ_26 5 4 324 vl5_o rfl rfl (by decide) rfl (by decide) in_X7 q346 rfl dX8_put_117 ?_
  refine lv_iload X.1 X.2.1 dX8_put_120 (lv_at hl 1 rfl) ?_
  refine lv_dup2_11 X.1 X.2.1 dX8_put_122 rfl rfl ?_
  obtain ⟨bi, h⟩ := h
  refine w_iald (n := ((wc w).1 - 6)) X hT hWσ_26 324 vl324_o (by decide) rfl rfl bi dX8_put_123 ?_
  refine lv_iload X.1 X.2.1 dX8_put_124 (lv_at hl 3 rfl) ?_
  refine w_iadd X dX8_put_126 ?_
  obtain ⟨bi, h⟩ := h
  refine w_iast (n := ((wc w).1 - 6)) X hT hWσ_26 hS 324 vl324_o (by decide) rfl rfl bi (w32_r _) dX8_put_127 (fun H locs hN hS => ?_)
  obtain ⟨σ_27, eσ_27⟩ : ∃ x, x = sA σ_26 324 o x5 (w32 ((gA σ_26 324 o x5) + x7)) := ⟨_, rfl⟩
  have hWσ_27 : Wo w σ_27 H := eσ_27 ▸ hN
  have h := h σ_27 eσ_27
  clear hN
  exact wret_V X hr hlk hWσ_27 hS h dX8_put_128
set_option maxHeartbeats 4000000 in
set_option maxRecDepth 100000 in
theorem met_Index_put (l : Launch) {w : Wp} (hV : Hvl w) (o : Int) (x1 : Int) (x3 : Int) (x5 : Int) (x6 : Int) (x7 : Int) (Q : St → Prop) (σ : St) (ho : 0 ≤ o ∧ o < 2) (rx1 : rJ x1) (rx3 : rJ x3) (rx5 : rI x5) (rx6 : rI x6) (rx7 : rI x7) (h : wp_Index_put (wc w) (wtv w) o x1 x3 x5 x6 x7 Q σ) : Met l yX8_put (ws_ yX8_put cX8_put 10 none) rm_Index_put (PcW w σ [.ref (wad w 6 o), .long (oL x1), .long (oL x3), .int (oI x5), .int (oI x6), .int (oI x7)]) (QcV w Q) 0 0 (wA w) := by
  refine Met.ofW (cc := cX8_put) (maxL := 10) (ret := none) (by decide) rfl ?_
  intro p e st m args below meth c s₁ B hml hv
  obtain ⟨hargs, hW, hT⟩ := hv
  have X : CallFix p m c cX8_put 10 st _ lw_all RX8 := ⟨B.exec, B.bytes, hml, findClass_of_methodNamed B.named, fun w h => atoms_spec (ws := ws_ yX8_put cX8_put 10 none) B.pre w (List.mem_cons_of_mem _ h)⟩
  have hr := B.returns
  have hlk := B.notSynchronized
  have hS : va_S (wA w) st.heap st.heap [] := va_S.rf
  have vl324_o : vl w 324 o := hV.hv 324 rfl ⟨by omega, by show _ < (2 : Int); omega⟩
  have vl5_o : vl w 5 o := hV.hv 5 rfl ⟨by omega, by show _ < (2 : Int); omega⟩
  have vl6_o : vl w 6 o := hV.hv 6 rfl ⟨by omega, by show _ < (2 : Int); omega⟩
  have hl := lv_entry ([.ref (wad w 6 o), .long (oL x1), .long (oL x3), .int (oI x5), .int (oI x6), .int (oI x7)]) (n := 10) (Nat.le_of_ble_eq_true rfl)
  have hfr := lg_entry_eq m ([.ref (wad w 6 o), .long (oL x1), .long (oL x3), .int (oI x5), .int (oI x6), .int (oI x7)]) 10
  rw [← hargs] at hfr
  rw [hfr]
  generalize (lg_sl ([.ref (wad w 6 o), .long (oL x1), .long (oL x3), .int (oI x5), .int (oI x6), .int (oI x7)]) ++ List.replicate (10 - (lg_sl ([.ref (wad w 6 o), .long (oL x1), .long (oL x3), .int (oI x5), .int (oI x6), .int (oI x7)])).length) Slot.unset).toArray = ls at hl ⊢
  have hl : lv_has ls 10 [(0, .ref (wad w 6 o)), (1, .long (oL x1)), (3, .long (oL x3)), (5, .int (oI x5)), (6, .int (oI x6)), (7, .int (oI x7))] := hl
  unfold wp_Index_put at h
  refine lv_aload_n X.1 X.2.1 dX8_put_0 rfl (lv_at hl 0 rfl) ?_
  refine lv_lload_n X.1 X.2.1 dX8_put_1 rfl (lv_at hl 1 rfl) ?_
  refine lv_lload_n X.1 X.2.1 dX8_put_2 rfl (lv_at hl 2 rfl) ?_
  refine wr_Z (rV (As := [.long (oL x1), .long (oL x3)]) (rest := []) X hT hW hS (met_Index_find l (w := w) hV o x1 x3 _ σ (by omega) rx1 rx3 h) (cwV 2 X.2.2.2.2 (lw_V q901 q902 q903 q139 q904) rfl rfl rfl (by decide +kernel) ⟨Nat.le_of_ble_eq_true rfl, Nat.le_of_ble_eq_true rfl⟩) vl6_o (by decide) rfl rfl hl.1 rfl (by first | exact Nat.le_of_ble_eq_true rfl | simp [catK, catI, catR, catL]) dX8_put_3 ⟨Nat.le_refl _, Nat.le_refl _⟩) hS (fun r_28 σ_29 H locs rr_28 rkσ_29 h hWσ_29 hS => ?_)
  have h := h rr_28 rkσ_29
  refine lv_istore (i := 8) (lv' := [(8, .int (oI r_28)), (0, .ref (wad w 6 o)), (1, .long (oL x1)), (3, .long (oL x3)), (5, .int (oI x5)), (6, .int (oI x6)), (7, .int (oI x7))]) X.1 X.2.1 dX8_put_6 hl (by decide) (by first | rfl | simp [catK, catI, catR, catL]) (fun ls hl => ?_)
  refine lv_iload X.1 X.2.1 dX8_put_8 (lv_at hl 0 rfl) ?_
  refine w_if_eq (tgt := 41) X rr_28.i dX8_put_10 (by decide) (fun hc => ?_) (fun hc => ?_)
  · have h := h.1 hc
    refine lv_aload_n X.1 X.2.1 dX8_put_41 rfl (lv_at hl 1 rfl) ?_
    refine lv_aload_n X.1 X.2.1 dX8_put_42 rfl (lv_at hl 1 rfl) ?_
    refine wg (v := va_rf (knO w (gI σ_29 387 o))) X hT hWσ_29 6 3 387 vl6_o rfl rfl (by decide) rfl (by decide) in_X8 q445 rfl dX8_put_43 ?_
    refine lv_lload_n X.1 X.2.1 dX8_put_46 rfl (lv_at hl 2 rfl) ?_
    refine lv_lload_n X.1 X.2.1 dX8_put_47 rfl (lv_at hl 3 rfl) ?_
    refine wr_K (rV (As := [va_rf (knO w (gI σ_29 387 o)), .long (oL x1), .long (oL x3)]) (rest := []) X hT hWσ_29 hS (met_Index_insert l hV 12 o (gI σ_29 387 o) x1 x3 _ σ_29 (by omega) (hWσ_29.r.k 387 o rfl) rx1 rx3 h) (cwV 3 X.2.2.2.2 (lw_V q934 q936 qs16 q139 q937) rfl rfl rfl (by decide +kernel) ⟨Nat.le_of_ble_eq_true rfl, Nat.le_of_ble_eq_true rfl⟩) vl6_o (by decide) rfl rfl hl.1 rfl (by first | exact Nat.le_of_ble_eq_true rfl | simp [catK, catI, catR, catL]) dX8_put_48 ⟨Nat.le_refl _, Nat.le_refl _⟩) hS (fun r_30 σ_31 H locs rr_30 rkσ_31 h hWσ_31 hS => ?_)
    have h := h rr_30 rkσ_31
    refine w_kstore (i := 9) (lv' := [(9, va_rf (knO w r_30)), (8, .int (oI r_28)), (0, .ref (wad w 6 o)), (1, .long (oL x1)), (3, .long (oL x3)), (5, .int (oI x5)), (6, .int (oI x6)), (7, .int (oI x7))]) (w := w) X dX8_put_51 hl (by decide) (by first | rfl | simp [catK, catI, catR, catL]) (fun ls hl => ?_)
    refine w_kload (w := w) X dX8_put_53 (lv_at hl 0 rfl) ?_
    refine w_ifnull (w := w) (tgt := 64) X dX8_put_55 (by decide) (fun hc => ?_) (fun hc => ?_)
    · have h := h.1 hc
      exact wk_Index_put_b64 X hr hlk hT hV ho rx1 rx3 rx5 rx6 rx7 (wp_Index_put_b71 (wc w) (wtv w) o x1 x3 x5 x6 x7 Q) (wk_Index_put_b71 X hr hlk hT hV ho rx1 rx3 rx5 rx6 rx7) σ_31 _ _ _ (lv_sub hl [2, 3, 4, 5, 6, 7] rfl) hWσ_31 hS h
    · have h := h.2 hc
      refine lv_aload_n X.1 X.2.1 dX8_put_58 rfl (lv_at hl 2 rfl) ?_
      refine w_kload (w := w) X dX8_put_59 (lv_at hl 0 rfl) ?_
      refine wr_V (rV (As := [va_rf (knO w r_30)]) (rest := []) X hT hWσ_31 hS (met_Index_grow l (w := w) hV o r_30 _ σ_31 (by omega) rr_30 h) (cwV 1 X.2.2.2.2 (lw_V q955 q957 qs18 q139 q958) rfl rfl rfl (by decide +kernel) ⟨Nat.le_of_ble_eq_true rfl, Nat.le_of_ble_eq_true rfl⟩) vl6_o (by decide) rfl rfl hl.1 rfl (by first | exact Nat.le_of_ble_eq_true rfl | simp [catK, catI, catR, catL]) dX8_put_61 ⟨Nat.le_refl _, Nat.le_refl _⟩) hS (fun σ_33 H locs rkσ_33 h hWσ_33 hS => ?_)
      have h := h rkσ_33
      exact wk_Index_put_b64 X hr hlk hT hV ho rx1 rx3 rx5 rx6 rx7 (wp_Index_put_b71 (wc w) (wtv w) o x1 x3 x5 x6 x7 Q) (wk_Index_put_b71 X hr hlk hT hV ho rx1 rx3 rx5 rx6 rx7) σ_33 _ _ _ (lv_sub hl [2, 3, 4, 5, 6, 7] rfl) hWσ_33 hS h
  · have h := h.2 hc
    refine lv_aload_n X.1 X.2.1 dX8_put_13 rfl (lv_at hl 1 rfl) ?_
    refine wg (v := .ref (wad w 5 o)) X hT hWσ_29 6 0 384 vl6_o rfl rfl (by decide) rfl (by decide) in_X8 q442 rfl dX8_put_14 ?_
    refine wg (v := .ref (wad w 324 o)) X hT hWσ_29 5 4 324 vl5_o rfl rfl (by decide) rfl (by decide) in_X7 q346 rfl dX8_put_17 ?_
    refine lv_aload_n X.1 X.2.1 dX8_put_20 rfl (lv_at hl 1 rfl) ?_
    refine wg (v := .int (oI (gI σ_29 393 o))) X hT hWσ_29 6 9 393 vl6_o rfl rfl (by decide) rfl (by decide) in_X8 q459 rfl dX8_put_21 ?_
    refine lv_dup2_11 X.1 X.2.1 dX8_put_24 rfl rfl ?_
    obtain ⟨bi, h⟩ := h
    refine w_iald (n := ((wc w).1 - 6)) X hT hWσ_29 324 vl324_o (by decide) rfl rfl bi dX8_put_25 ?_
    refine lv_aload_n X.1 X.2.1 dX8_put_26 rfl (lv_at hl 1 rfl) ?_
    refine wg (v := .int (oI (gI σ_29 395 o))) X hT hWσ_29 6 11 395 vl6_o rfl rfl (by decide) rfl (by decide) in_X8 q465 rfl dX8_put_27 ?_
    refine w_isub X dX8_put_30 ?_
    obtain ⟨bi, h⟩ := h
    refine w_iast (n := ((wc w).1 - 6)) X hT hWσ_29 hS 324 vl324_o (by decide) rfl rfl bi (w32_r _) dX8_put_31 (fun H locs hN hS => ?_)
    obtain ⟨σ_34, eσ_34⟩ : ∃ x, x = sA σ_29 324 o (gI σ_29 393 o) (w32 ((gA σ_29 324 o (gI σ_29 393 o)) - (gI σ_29 395 o))) := ⟨_, rfl⟩
    have hWσ_34 : Wo w σ_34 H := eσ_34 ▸ hN
    have h := h σ_34 eσ_34
    clear hN
    refine lv_aload_n X.1 X.2.1 dX8_put_32 rfl (lv_at hl 1 rfl) ?_
    refine lv_lload_n X.1 X.2.1 dX8_put_33 rfl (lv_at hl 2 rfl) ?_
    refine lv_lload_n X.1 X.2.1 dX8_put_34 rfl (lv_at hl 3 rfl) ?_
    refine wr_V (rV (As := [.long (oL x1), .long (oL x3)]) (rest := []) X hT hWσ_34 hS (met_Index_touchWay l (w := w) hV o x1 x3 _ σ_34 (by omega) rx1 rx3 h) (cwV 2 X.2.2.2.2 (lw_V q926 q928 qs14 q139 q929) rfl rfl rfl (by decide +kernel) ⟨Nat.le_of_ble_eq_true rfl, Nat.le_of_ble_eq_true rfl⟩) vl6_o (by decide) rfl rfl hl.1 rfl (by first | exact Nat.le_of_ble_eq_true rfl | simp [catK, catI, catR, catL]) dX8_put_35 ⟨Nat.le_refl _, Nat.le_refl _⟩) hS (fun σ_36 H locs rkσ_36 h hWσ_36 hS => ?_)
    have h := h rkσ_36
    refine lv_goto (tgt := 71) X.1 X.2.1 dX8_put_38 (by decide) ?_
    exact wk_Index_put_b71 X hr hlk hT hV ho rx1 rx3 rx5 rx6 rx7 σ_36 _ _ _ (lv_sub hl [1, 4, 5, 6] rfl) hWσ_36 hS h
/-! Index.sizeOf(LNandHouse$Knot;)I -/
set_option maxHeartbeats 4000000 in
set_option maxRecDepth 100000 in
theorem met_Index_sizeOf (l : Launch) {w : Wp} (hV : Hvl w) (x0 : Int) (Q : Int → St → Prop) (σ : St) (rx0 : rK x0) (h : wp_Index_sizeOf (wc w) (wtv w) x0 Q σ) : Met l yX8_sizeOf (ws_ yX8_sizeOf cX8_sizeOf 1 (some .int)) rm_Index_sizeOf (PcW w σ [va_rf (knO w x0)]) (QcI w Q) 0 0 (wA w) := by
  refine Met.ofW (cc := cX8_sizeOf) (maxL := 1) (ret := (some .int)) (by decide) rfl ?_
  intro p e st m args below meth c s₁ B hml hv
  obtain ⟨hargs, hW, hT⟩ := hv
  have X : CallFix p m c cX8_sizeOf 1 st _ lw_all RX8 := ⟨B.exec, B.bytes, hml, findClass_of_methodNamed B.named, fun w h => atoms_spec (ws := ws_ yX8_sizeOf cX8_sizeOf 1 (some .int)) B.pre w (List.mem_cons_of_mem _ h)⟩
  have hr := B.returns
  have hlk := B.notSynchronized
  have hS : va_S (wA w) st.heap st.heap [] := va_S.rf
  have hl := lv_entry ([va_rf (knO w x0)]) (n := 1) (by simp [lg_sl, catK, catI, catR, catL])
  have hfr := lg_entry_eq m ([va_rf (knO w x0)]) 1
  rw [← hargs] at hfr
  rw [hfr]
  generalize (lg_sl ([va_rf (knO w x0)]) ++ List.replicate (1 - (lg_sl ([va_rf (knO w x0)])).length) Slot.unset).toArray = ls at hl ⊢
  simp [lv_args, catK, catI, catR, catL] at hl
  have hl : lv_has ls 1 [(0, va_rf (knO w x0))] := hl
  unfold wp_Index_sizeOf at h
  refine lv_bipush (v := oI 32) X.1 X.2.1 dX8_sizeOf_0 (by decide) ?_
  refine lv_bipush (v := oI 28) X.1 X.2.1 dX8_sizeOf_2 (by decide) ?_
  refine w_kload_n (w := w) X dX8_sizeOf_4 rfl (lv_at hl 0 rfl) ?_
  obtain ⟨hz_4, h⟩ := h
  rw [knR hz_4]
  refine wg (v := .int (oI (gI σ 577 x0))) X hT hW 9 1 577 (hV.hv 9 rfl ⟨hz_4, rx0.2⟩) rfl rfl (by decide) rfl (by decide) in_X9 q387 rfl dX8_sizeOf_5 ?_
  refine w_imul X dX8_sizeOf_8 ?_
  refine w_iadd X dX8_sizeOf_9 ?_
  refine wr_I (rSN (As := [.int (oI (w32 (32 + (w32 (28 * (gI σ 577 x0))))))]) (rest := []) X hT hW hS (met_House_eights l (w := w) (w32 (32 + (w32 (28 * (gI σ 577 x0))))) _ σ (w32_r _) h) ⟨va_cnB 1 X.2.2.2.2 (lw_meth q365) rfl rfl rfl (hT.2.1 _ (List.mem_of_getElem? (i := 14) rfl)) (X.2.2.2.2 _ q131) (by decide +kernel) ⟨Nat.le_of_ble_eq_true rfl, Nat.le_of_ble_eq_true rfl⟩, X.2.2.2.2 _ q364, trivial⟩ rfl hl.1 rfl (by first | exact Nat.le_of_ble_eq_true rfl | simp [catK, catI, catR, catL]) dX8_sizeOf_10 ⟨Nat.le_refl _, Nat.le_refl _⟩) hS (fun r_5 σ_6 H locs rr_5 rkσ_6 h hWσ_6 hS => ?_)
  have h := h rr_5 rkσ_6
  exact wret_I X hr hlk hWσ_6 hS rr_5 h dX8_sizeOf_13
/-! Index.written()V -/
set_option maxHeartbeats 4000000 in
set_option maxRecDepth 100000 in
theorem wk_Index_written_L2B {p : Program} {l : Launch} {e : Env} {st : State} {m : MethodId} {args : Array Value} {below : List Frame} {meth : Method} {c : Code} {w : Wp} {o : Int} {Q : St → Prop} (X : CallFix p m c cX8_written 2 st args lw_all RX8) (hr : meth.sig.returnType = none) (hlk : meth.locks = false) (hT : Tb w st) (hV : Hvl w) (ho : 0 ≤ o ∧ o < 2) (K2 : Int → St → Prop) (hK2 : ∀ (y1 : Int) (σ : St) (H : Heap) (locs : List Loc) (ls : Array Slot), rI y1 → lv_has ls 2 [(0, .ref (wad w 6 o)), (1, .int (oI y1))] → Wo w σ H → va_S (wA w) st.heap H locs → K2 y1 σ → W p l e (headSpec (ws_ yX8_written cX8_written 2 none) rm_Index_written).room st m args below meth c H locs 0 0 (MQ below (QcV w Q) args st 0 0 (wA w)) (F0 m 2 ls [])) : ∀ (y1 : Int) (σ : St) (H : Heap) (locs : List Loc) (ls : Array Slot), rI y1 → lv_has ls 2 [(0, .ref (wad w 6 o)), (1, .int (oI y1))] → Wo w σ H → va_S (wA w) st.heap H locs → wp_Index_written_L2 (wc w) (wtv w) o Q K2 y1 σ → W p l e (headSpec (ws_ yX8_written cX8_written 2 none) rm_Index_written).room st m args below meth c H locs 0 0 (MQ below (QcV w Q) args st 0 0 (wA w)) (F0 m 2 ls []) := by
  have vl324_o : vl w 324 o := hV.hv 324 rfl ⟨by omega, by show _ < (2 : Int); omega⟩
  have vl388_o : vl w 388 o := hV.hv 388 rfl ⟨by omega, by show _ < (2 : Int); omega⟩
  have vl389_o : vl w 389 o := hV.hv 389 rfl ⟨by omega, by show _ < (2 : Int); omega⟩
  have vl5_o : vl w 5 o := hV.hv 5 rfl ⟨by omega, by show _ < (2 : Int); omega⟩
  have vl6_o : vl w 6 o := hV.hv 6 rfl ⟨by omega, by show _ < (2 : Int); omega⟩
  intro y1 σ H locs ls ry1 hl hW hS h
  unfold wp_Index_written_L2 at h
  refine lv_iload_n X.1 X.2.1 dX8_written_2 rfl (lv_at hl 1 rfl) ?_
  refine lv_aload_n X.1 X.2.1 dX8_written_3 rfl (lv_at hl 0 rfl) ?_
  refine wg (v := .int (oI (gI σ 390 o))) X hT hW 6 6 390 vl6_o rfl rfl (by decide) rfl (by decide) in_X8 q451 rfl dX8_written_4 ?_
  refine w_icmp_ge (tgt := 39) X ry1 (hW.r.i 390 o rfl) dX8_written_7 (by decide) (fun hc => ?_) (fun hc => ?_)
  · have h := h.1 hc
    refine lv_aload_n X.1 X.2.1 dX8_written_39 rfl (lv_at hl 0 rfl) ?_
    refine lv_iconst (v := oI 0) X.1 X.2.1 dX8_written_40 rfl ?_
    refine wput (z := 0) X hT hW hS 6 6 390 vl6_o rfl rfl (by decide) rfl (by decide) in_X8 tyX8 tyX8_ok nmX8 q451 rfl rfl rZ_0.i (fv0 w rfl) rfl rfl dX8_written_41 (fun H locs hN hS => ?_)
    obtain ⟨σ_7, eσ_7⟩ : ∃ x, x = sI σ 390 o 0 := ⟨_, rfl⟩
    have hWσ_7 : Wo w σ_7 H := eσ_7 ▸ hN
    have h := h σ_7 eσ_7
    clear hN
    exact wret_V X hr hlk hWσ_7 hS h dX8_written_44
  · have h := h.2 hc
    refine lv_aload_n X.1 X.2.1 dX8_written_10 rfl (lv_at hl 0 rfl) ?_
    refine wg (v := .ref (wad w 5 o)) X hT hW 6 0 384 vl6_o rfl rfl (by decide) rfl (by decide) in_X8 q442 rfl dX8_written_11 ?_
    refine wg (v := .ref (wad w 324 o)) X hT hW 5 4 324 vl5_o rfl rfl (by decide) rfl (by decide) in_X7 q346 rfl dX8_written_14 ?_
    refine lv_aload_n X.1 X.2.1 dX8_written_17 rfl (lv_at hl 0 rfl) ?_
    refine wg (v := .ref (wad w 388 o)) X hT hW 6 4 388 vl6_o rfl rfl (by decide) rfl (by decide) in_X8 q447 rfl dX8_written_18 ?_
    refine lv_iload_n X.1 X.2.1 dX8_written_21 rfl (lv_at hl 1 rfl) ?_
    obtain ⟨bi, h⟩ := h
    refine w_iald (n := 640) X hT hW 388 vl388_o (by decide) rfl rfl bi dX8_written_22 ?_
    refine lv_dup2_11 X.1 X.2.1 dX8_written_23 rfl rfl ?_
    obtain ⟨bi, h⟩ := h
    refine w_iald (n := ((wc w).1 - 6)) X hT hW 324 vl324_o (by decide) rfl rfl bi dX8_written_24 ?_
    refine lv_aload_n X.1 X.2.1 dX8_written_25 rfl (lv_at hl 0 rfl) ?_
    refine wg (v := .ref (wad w 389 o)) X hT hW 6 5 389 vl6_o rfl rfl (by decide) rfl (by decide) in_X8 q449 rfl dX8_written_26 ?_
    refine lv_iload_n X.1 X.2.1 dX8_written_29 rfl (lv_at hl 1 rfl) ?_
    obtain ⟨bi, h⟩ := h
    refine w_iald (n := 640) X hT hW 389 vl389_o (by decide) rfl rfl bi dX8_written_30 ?_
    refine w_isub X dX8_written_31 ?_
    obtain ⟨bi, h⟩ := h
    refine w_iast (n := ((wc w).1 - 6)) X hT hW hS 324 vl324_o (by decide) rfl rfl bi (w32_r _) dX8_written_32 (fun H locs hN hS => ?_)
    obtain ⟨σ_8, eσ_8⟩ : ∃ x, x = sA σ 324 o (gA σ 388 o y1) (w32 ((gA σ 324 o (gA σ 388 o y1)) - (gA σ 389 o y1))) := ⟨_, rfl⟩
    have hWσ_8 : Wo w σ_8 H := eσ_8 ▸ hN
    have h := h σ_8 eσ_8
    clear hN
    obtain ⟨y1_9, ey1_9⟩ : ∃ y : Int, y = w32 (y1 + 1) := ⟨_, rfl⟩
    have h := h y1_9 ey1_9
    have ry1_9 : rI y1_9 := by rw [ey1_9]; exact w32_r _
    refine lv_iinc (v := oI y1_9) (lv' := [(1, .int (oI y1_9)), (0, .ref (wad w 6 o))]) X.1 X.2.1 dX8_written_33 hl (k := 1) rfl (by rw [ey1_9]; exact oI_add _ _) (by decide) (by first | rfl | simp [catK, catI, catR, catL]) (fun ls hl => ?_)
    refine lv_goto (tgt := 2) X.1 X.2.1 dX8_written_36 (by decide) ?_
    exact hK2 y1_9 σ_8 _ _ _ ry1_9 (lv_sub hl [1, 0] rfl) hWσ_8 hS h
theorem wk_Index_written_L2 {p : Program} {l : Launch} {e : Env} {st : State} {m : MethodId} {args : Array Value} {below : List Frame} {meth : Method} {c : Code} {w : Wp} {o : Int} {Q : St → Prop} (X : CallFix p m c cX8_written 2 st args lw_all RX8) (hr : meth.sig.returnType = none) (hlk : meth.locks = false) (hT : Tb w st) (hV : Hvl w) (ho : 0 ≤ o ∧ o < 2) : ∀ (y1 : Int) (σ : St) (H : Heap) (locs : List Loc) (ls : Array Slot), rI y1 → lv_has ls 2 [(0, .ref (wad w 6 o)), (1, .int (oI y1))] → Wo w σ H → va_S (wA w) st.heap H locs → lQ1 (wp_Index_written_L2 (wc w) (wtv w) o Q) y1 σ → W p l e (headSpec (ws_ yX8_written cX8_written 2 none) rm_Index_written).room st m args below meth c H locs 0 0 (MQ below (QcV w Q) args st 0 0 (wA w)) (F0 m 2 ls []) := by
  intro y1 σ H locs ls ry1 hl hW hS h
  obtain ⟨fu, h⟩ := h
  induction fu generalizing y1 σ H locs ls with
  | zero => exact h.elim
  | succ fu ih =>
    exact wk_Index_written_L2B X hr hlk hT hV ho (lq1 (wp_Index_written_L2 (wc w) (wtv w) o Q) fu) (fun y1 σ H locs ls ry1 hl hW hS h => ih y1 σ H locs ls ry1 hl hW hS h) y1 σ H locs ls ry1 hl hW hS h
set_option maxHeartbeats 4000000 in
set_option maxRecDepth 100000 in
theorem met_Index_written (l : Launch) {w : Wp} (hV : Hvl w) (o : Int) (Q : St → Prop) (σ : St) (ho : 0 ≤ o ∧ o < 2) (h : wp_Index_written (wc w) (wtv w) o Q σ) : Met l yX8_written (ws_ yX8_written cX8_written 2 none) rm_Index_written (PcW w σ [.ref (wad w 6 o)]) (QcV w Q) 0 0 (wA w) := by
  refine Met.ofW (cc := cX8_written) (maxL := 2) (ret := none) (by decide) rfl ?_
  intro p e st m args below meth c s₁ B hml hv
  obtain ⟨hargs, hW, hT⟩ := hv
  have X : CallFix p m c cX8_written 2 st _ lw_all RX8 := ⟨B.exec, B.bytes, hml, findClass_of_methodNamed B.named, fun w h => atoms_spec (ws := ws_ yX8_written cX8_written 2 none) B.pre w (List.mem_cons_of_mem _ h)⟩
  have hr := B.returns
  have hlk := B.notSynchronized
  have hS : va_S (wA w) st.heap st.heap [] := va_S.rf
  have vl6_o : vl w 6 o := hV.hv 6 rfl ⟨by omega, by show _ < (2 : Int); omega⟩
  have hl := lv_entry ([.ref (wad w 6 o)]) (n := 2) (Nat.le_of_ble_eq_true rfl)
  have hfr := lg_entry_eq m ([.ref (wad w 6 o)]) 2
  rw [← hargs] at hfr
  rw [hfr]
  generalize (lg_sl ([.ref (wad w 6 o)]) ++ List.replicate (2 - (lg_sl ([.ref (wad w 6 o)])).length) Slot.unset).toArray = ls at hl ⊢
  have hl : lv_has ls 2 [(0, .ref (wad w 6 o))] := hl
  unfold wp_Index_written at h
  refine lv_iconst (v := oI 0) X.1 X.2.1 dX8_written_0 rfl ?_
  refine lv_istore_n (i := 1) (lv' := [(1, .int (oI 0)), (0, .ref (wad w 6 o))]) X.1 X.2.1 dX8_written_1 rfl hl (by decide) (by first | rfl | simp [catK, catI, catR, catL]) (fun ls hl => ?_)
  exact wk_Index_written_L2 X hr hlk hT hV ho 0 σ _ _ _ rZ_0.i (lv_sub hl [1, 0] rfl) hW hS h
/-! Index.freshBytes(LNandHouse$Knot;)I -/
set_option maxHeartbeats 4000000 in
set_option maxRecDepth 100000 in
theorem wk_Index_freshBytes_L18B {p : Program} {l : Launch} {e : Env} {st : State} {m : MethodId} {args : Array Value} {below : List Frame} {meth : Method} {c : Code} {w : Wp} {o : Int} {x1 : Int} {Q : Int → St → Prop} {n : Nat} {F : Int → Int → (Int → St → Prop) → St → Prop} (X : CallFix p m c cX8_freshBytes 4 st args lw_all RX8) (hr : meth.sig.returnType = (some .int)) (hlk : meth.locks = false) (hT : Tb w st) (hV : Hvl w) (hF : ∀ (o : Int) (x1 : Int) (Q : Int → St → Prop) (σ : St), 0 ≤ o ∧ o < 2 → rK x1 →  F o x1 Q σ → Met l yX8_freshBytes (ws_ yX8_freshBytes cX8_freshBytes 4 (some .int)) (rm_Index_freshBytes n) (PcW w σ [.ref (wad w 6 o), va_rf (knO w x1)]) (QcI w Q) 0 0 (wA w)) (ho : 0 ≤ o ∧ o < 2) (rx1 : rK x1) (K18 : Int → Int → St → Prop) (hK18 : ∀ (y2 y3 : Int) (σ : St) (H : Heap) (locs : List Loc) (ls : Array Slot), rI y2 → rI y3 → lv_has ls 4 [(0, .ref (wad w 6 o)), (1, va_rf (knO w x1)), (2, .int (oI y2)), (3, .int (oI y3))] → Wo w σ H → va_S (wA w) st.heap H locs → K18 y2 y3 σ → W p l e (headSpec (ws_ yX8_freshBytes cX8_freshBytes 4 (some .int)) (rm_Index_freshBytes (n + 1))).room st m args below meth c H locs 0 0 (MQ below (QcI w Q) args st 0 0 (wA w)) (F0 m 18 ls [])) : ∀ (y2 y3 : Int) (σ : St) (H : Heap) (locs : List Loc) (ls : Array Slot), rI y2 → rI y3 → lv_has ls 4 [(0, .ref (wad w 6 o)), (1, va_rf (knO w x1)), (2, .int (oI y2)), (3, .int (oI y3))] → Wo w σ H → va_S (wA w) st.heap H locs → wp_Index_freshBytes_L18 (wc w) (wtv w) o x1 F Q K18 y2 y3 σ → W p l e (headSpec (ws_ yX8_freshBytes cX8_freshBytes 4 (some .int)) (rm_Index_freshBytes (n + 1))).room st m args below meth c H locs 0 0 (MQ below (QcI w Q) args st 0 0 (wA w)) (F0 m 18 ls []) := by
  have vl6_o : vl w 6 o := hV.hv 6 rfl ⟨by omega, by show _ < (2 : Int); omega⟩
  intro y2 y3 σ H locs ls ry2 ry3 hl hW hS h
  unfold wp_Index_freshBytes_L18 at h
  refine w_kload_n (w := w) X dX8_freshBytes_18 rfl (lv_at hl 1 rfl) ?_
  obtain ⟨hz_17, h⟩ := h
  rw [knR hz_17]
  refine wg (v := .int (oI (gI σ 584 x1))) X hT hW 9 8 584 (hV.hv 9 rfl ⟨hz_17, rx1.2⟩) rfl rfl (by decide) rfl (by decide) in_X9 q408 rfl dX8_freshBytes_19 ?_
  refine w_if_eq (tgt := 59) X ((hW.r.z 584 x1 rfl).i) dX8_freshBytes_22 (by decide) (fun hc => ?_) (fun hc => ?_)
  · have h := h.1 hc
    refine lv_iload_n X.1 X.2.1 dX8_freshBytes_59 rfl (lv_at hl 2 rfl) ?_
    exact wret_I X hr hlk hW hS ry2 h dX8_freshBytes_60
  · have h := h.2 hc
    refine lv_iload_n X.1 X.2.1 dX8_freshBytes_25 rfl (lv_at hl 3 rfl) ?_
    refine w_kload_n (w := w) X dX8_freshBytes_26 rfl (lv_at hl 1 rfl) ?_
    rw [knR hz_17]
    refine wg (v := .int (oI (gI σ 577 x1))) X hT hW 9 1 577 (hV.hv 9 rfl ⟨hz_17, rx1.2⟩) rfl rfl (by decide) rfl (by decide) in_X9 q387 rfl dX8_freshBytes_27 ?_
    refine w_icmp_ge (tgt := 59) X ry3 (hW.r.i 577 x1 rfl) dX8_freshBytes_30 (by decide) (fun hc => ?_) (fun hc => ?_)
    · have h := h.1 hc
      refine lv_iload_n X.1 X.2.1 dX8_freshBytes_59 rfl (lv_at hl 2 rfl) ?_
      exact wret_I X hr hlk hW hS ry2 h dX8_freshBytes_60
    · have h := h.2 hc
      refine w_kload_n (w := w) X dX8_freshBytes_33 rfl (lv_at hl 1 rfl) ?_
      rw [knR hz_17]
      refine wg (v := .int (oI (gI σ 576 x1))) X hT hW 9 0 576 (hV.hv 9 rfl ⟨hz_17, rx1.2⟩) rfl rfl (by decide) rfl (by decide) in_X9 q384 rfl dX8_freshBytes_34 ?_
      refine w_if_le (tgt := 59) X (hW.r.i 576 x1 rfl) dX8_freshBytes_37 (by decide) (fun hc => ?_) (fun hc => ?_)
      · have h := h.1 hc
        refine lv_iload_n X.1 X.2.1 dX8_freshBytes_59 rfl (lv_at hl 2 rfl) ?_
        exact wret_I X hr hlk hW hS ry2 h dX8_freshBytes_60
      · have h := h.2 hc
        refine lv_iload_n X.1 X.2.1 dX8_freshBytes_40 rfl (lv_at hl 2 rfl) ?_
        refine lv_aload_n X.1 X.2.1 dX8_freshBytes_41 rfl (lv_at hl 0 rfl) ?_
        refine w_kload_n (w := w) X dX8_freshBytes_42 rfl (lv_at hl 1 rfl) ?_
        rw [knR hz_17]
        refine wg (v := .ref (wad w 583 x1)) X hT hW 9 7 583 (hV.hv 9 rfl ⟨hz_17, rx1.2⟩) rfl rfl (by decide) rfl (by decide) in_X9 q405 rfl dX8_freshBytes_43 ?_
        refine lv_iload_n X.1 X.2.1 dX8_freshBytes_46 rfl (lv_at hl 3 rfl) ?_
        obtain ⟨bi, h⟩ := h
        refine w_aald (n := 9) X hT hW 583 (hV.hv 583 rfl ⟨hz_17, rx1.2⟩) (by decide) rfl rfl bi dX8_freshBytes_47 ?_
        refine wr_I (rV (As := [va_rf (knO w (gA σ 583 x1 y3))]) (rest := [.int (oI y2)]) X hT hW hS (hF o (gA σ 583 x1 y3) _ σ (by omega) (hW.r.ak 583 x1 y3 rfl) h) (cwV 1 X.2.2.2.2 (lw_V q1046 q1042 q1043 q139 q1044) rfl rfl rfl (by decide +kernel) ⟨by show _ ≤ _; simp only [headSpec, rm_Index_freshBytes]; omega, by show _ ≤ _; simp only [headSpec, rm_Index_freshBytes]; omega⟩) vl6_o (by decide) rfl rfl hl.1 rfl (by first | exact Nat.le_of_ble_eq_true rfl | simp [catK, catI, catR, catL]) dX8_freshBytes_48 ⟨Nat.le_refl _, Nat.le_refl _⟩) hS (fun r_18 σ_19 H locs rr_18 rkσ_19 h hWσ_19 hS => ?_)
        have h := h rr_18 rkσ_19
        refine w_iadd X dX8_freshBytes_51 ?_
        refine w_top (fun y2_20 ey2_20 => ?_)
        have h := h y2_20 ey2_20
        have ry2_20 : rI y2_20 := by rw [ey2_20]; exact (w32_r _)
        refine lv_istore_n (i := 2) (lv' := [(2, .int (oI y2_20)), (0, .ref (wad w 6 o)), (1, va_rf (knO w x1)), (3, .int (oI y3))]) X.1 X.2.1 dX8_freshBytes_52 rfl hl (by decide) (by first | rfl | simp [catK, catI, catR, catL]) (fun ls hl => ?_)
        obtain ⟨y3_21, ey3_21⟩ : ∃ y : Int, y = w32 (y3 + 1) := ⟨_, rfl⟩
        have h := h y3_21 ey3_21
        have ry3_21 : rI y3_21 := by rw [ey3_21]; exact w32_r _
        refine lv_iinc (v := oI y3_21) (lv' := [(3, .int (oI y3_21)), (2, .int (oI y2_20)), (0, .ref (wad w 6 o)), (1, va_rf (knO w x1))]) X.1 X.2.1 dX8_freshBytes_53 hl (k := 3) rfl (by rw [ey3_21]; exact oI_add _ _) (by decide) (by first | rfl | simp [catK, catI, catR, catL]) (fun ls hl => ?_)
        refine lv_goto (tgt := 18) X.1 X.2.1 dX8_freshBytes_56 (by decide) ?_
        exact hK18 y2_20 y3_21 σ_19 _ _ _ ry2_20 ry3_21 (lv_sub hl [2, 3, 1, 0] rfl) hWσ_19 hS h
theorem wk_Index_freshBytes_L18 {p : Program} {l : Launch} {e : Env} {st : State} {m : MethodId} {args : Array Value} {below : List Frame} {meth : Method} {c : Code} {w : Wp} {o : Int} {x1 : Int} {Q : Int → St → Prop} {n : Nat} {F : Int → Int → (Int → St → Prop) → St → Prop} (X : CallFix p m c cX8_freshBytes 4 st args lw_all RX8) (hr : meth.sig.returnType = (some .int)) (hlk : meth.locks = false) (hT : Tb w st) (hV : Hvl w) (hF : ∀ (o : Int) (x1 : Int) (Q : Int → St → Prop) (σ : St), 0 ≤ o ∧ o < 2 → rK x1 →  F o x1 Q σ → Met l yX8_freshBytes (ws_ yX8_freshBytes cX8_freshBytes 4 (some .int)) (rm_Index_freshBytes n) (PcW w σ [.ref (wad w 6 o), va_rf (knO w x1)]) (QcI w Q) 0 0 (wA w)) (ho : 0 ≤ o ∧ o < 2) (rx1 : rK x1) : ∀ (y2 y3 : Int) (σ : St) (H : Heap) (locs : List Loc) (ls : Array Slot), rI y2 → rI y3 → lv_has ls 4 [(0, .ref (wad w 6 o)), (1, va_rf (knO w x1)), (2, .int (oI y2)), (3, .int (oI y3))] → Wo w σ H → va_S (wA w) st.heap H locs → lQ2 (wp_Index_freshBytes_L18 (wc w) (wtv w) o x1 F Q) y2 y3 σ → W p l e (headSpec (ws_ yX8_freshBytes cX8_freshBytes 4 (some .int)) (rm_Index_freshBytes (n + 1))).room st m args below meth c H locs 0 0 (MQ below (QcI w Q) args st 0 0 (wA w)) (F0 m 18 ls []) := by
  intro y2 y3 σ H locs ls ry2 ry3 hl hW hS h
  obtain ⟨fu, h⟩ := h
  induction fu generalizing y2 y3 σ H locs ls with
  | zero => exact h.elim
  | succ fu ih =>
    exact wk_Index_freshBytes_L18B X hr hlk hT hV hF ho rx1 (lq2 (wp_Index_freshBytes_L18 (wc w) (wtv w) o x1 F Q) fu) (fun y2 y3 σ H locs ls ry2 ry3 hl hW hS h => ih y2 y3 σ H locs ls ry2 ry3 hl hW hS h) y2 y3 σ H locs ls ry2 ry3 hl hW hS h
set_option maxHeartbeats 4000000 in
set_option maxRecDepth 100000 in
theorem wk_Index_freshBytes_b15 {p : Program} {l : Launch} {e : Env} {st : State} {m : MethodId} {args : Array Value} {below : List Frame} {meth : Method} {c : Code} {w : Wp} {o : Int} {x1 : Int} {Q : Int → St → Prop} {n : Nat} {F : Int → Int → (Int → St → Prop) → St → Prop} (X : CallFix p m c cX8_freshBytes 4 st args lw_all RX8) (hr : meth.sig.returnType = (some .int)) (hlk : meth.locks = false) (hT : Tb w st) (hV : Hvl w) (hF : ∀ (o : Int) (x1 : Int) (Q : Int → St → Prop) (σ : St), 0 ≤ o ∧ o < 2 → rK x1 →  F o x1 Q σ → Met l yX8_freshBytes (ws_ yX8_freshBytes cX8_freshBytes 4 (some .int)) (rm_Index_freshBytes n) (PcW w σ [.ref (wad w 6 o), va_rf (knO w x1)]) (QcI w Q) 0 0 (wA w)) (ho : 0 ≤ o ∧ o < 2) (rx1 : rK x1) : ∀ (t0 : Int) (σ : St) (H : Heap) (locs : List Loc) (ls : Array Slot), rI t0 → lv_has ls 4 [(0, .ref (wad w 6 o)), (1, va_rf (knO w x1))] → Wo w σ H → va_S (wA w) st.heap H locs → wp_Index_freshBytes_b15 (wc w) (wtv w) o x1 F Q t0 σ → W p l e (headSpec (ws_ yX8_freshBytes cX8_freshBytes 4 (some .int)) (rm_Index_freshBytes (n + 1))).room st m args below meth c H locs 0 0 (MQ below (QcI w Q) args st 0 0 (wA w)) (F0 m 15 ls [.int (oI t0)]) := by

  intro t0 σ H locs ls rt0 hl hW hS h
  unfold wp_Index_freshBytes_b15 at h
  refine lv_istore_n (i := 2) (lv' := [(2, .int (oI t0)), (0, .ref (wad w 6 o)), (1, va_rf (knO w x1))]) X.1 X.2.1 dX8_freshBytes_15 rfl hl (by decide) (by first | rfl | simp [catK, catI, catR, catL]) (fun ls hl => ?_)
  refine lv_iconst (v := oI 0) X.1 X.2.1 dX8_freshBytes_16 rfl ?_
  refine lv_istore_n (i := 3) (lv' := [(3, .int (oI 0)), (2, .int (oI t0)), (0, .ref (wad w 6 o)), (1, va_rf (knO w x1))]) X.1 X.2.1 dX8_freshBytes_17 rfl hl (by decide) (by first | rfl | simp [catK, catI, catR, catL]) (fun ls hl => ?_)
  exact wk_Index_freshBytes_L18 X hr hlk hT hV hF ho rx1 t0 0 σ _ _ _ rt0 rZ_0.i (lv_sub hl [2, 3, 1, 0] rfl) hW hS h
set_option maxHeartbeats 4000000 in
set_option maxRecDepth 100000 in
theorem met_Index_freshBytes_R (l : Launch) {w : Wp} (hV : Hvl w) {n : Nat} {F : Int → Int → (Int → St → Prop) → St → Prop} (hF : ∀ (o : Int) (x1 : Int) (Q : Int → St → Prop) (σ : St), 0 ≤ o ∧ o < 2 → rK x1 →  F o x1 Q σ → Met l yX8_freshBytes (ws_ yX8_freshBytes cX8_freshBytes 4 (some .int)) (rm_Index_freshBytes n) (PcW w σ [.ref (wad w 6 o), va_rf (knO w x1)]) (QcI w Q) 0 0 (wA w)) (o : Int) (x1 : Int) (Q : Int → St → Prop) (σ : St) (ho : 0 ≤ o ∧ o < 2) (rx1 : rK x1) (h : wp_Index_freshBytes_R (wc w) (wtv w) o x1 F Q σ) : Met l yX8_freshBytes (ws_ yX8_freshBytes cX8_freshBytes 4 (some .int)) (rm_Index_freshBytes (n + 1)) (PcW w σ [.ref (wad w 6 o), va_rf (knO w x1)]) (QcI w Q) 0 0 (wA w) := by
  refine Met.ofW (cc := cX8_freshBytes) (maxL := 4) (ret := (some .int)) (by decide) rfl ?_
  intro p e st m args below meth c s₁ B hml hv
  obtain ⟨hargs, hW, hT⟩ := hv
  have X : CallFix p m c cX8_freshBytes 4 st _ lw_all RX8 := ⟨B.exec, B.bytes, hml, findClass_of_methodNamed B.named, fun w h => atoms_spec (ws := ws_ yX8_freshBytes cX8_freshBytes 4 (some .int)) B.pre w (List.mem_cons_of_mem _ h)⟩
  have hr := B.returns
  have hlk := B.notSynchronized
  have hS : va_S (wA w) st.heap st.heap [] := va_S.rf
  have vl6_o : vl w 6 o := hV.hv 6 rfl ⟨by omega, by show _ < (2 : Int); omega⟩
  have hl := lv_entry ([.ref (wad w 6 o), va_rf (knO w x1)]) (n := 4) (by simp [lg_sl, catK, catI, catR, catL])
  have hfr := lg_entry_eq m ([.ref (wad w 6 o), va_rf (knO w x1)]) 4
  rw [← hargs] at hfr
  rw [hfr]
  generalize (lg_sl ([.ref (wad w 6 o), va_rf (knO w x1)]) ++ List.replicate (4 - (lg_sl ([.ref (wad w 6 o), va_rf (knO w x1)])).length) Slot.unset).toArray = ls at hl ⊢
  simp [lv_args, catK, catI, catR, catL] at hl
  have hl : lv_has ls 4 [(0, .ref (wad w 6 o)), (1, va_rf (knO w x1))] := hl
  unfold wp_Index_freshBytes_R at h
  refine w_kload_n (w := w) X dX8_freshBytes_0 rfl (lv_at hl 1 rfl) ?_
  obtain ⟨hz_22, h⟩ := h
  rw [knR hz_22]
  refine wg (v := .int (oI (gI σ 584 x1))) X hT hW 9 8 584 (hV.hv 9 rfl ⟨hz_22, rx1.2⟩) rfl rfl (by decide) rfl (by decide) in_X9 q408 rfl dX8_freshBytes_1 ?_
  refine w_if_eq (tgt := 14) X ((hW.r.z 584 x1 rfl).i) dX8_freshBytes_4 (by decide) (fun hc => ?_) (fun hc => ?_)
  · have h := h.1 hc
    refine lv_iconst (v := oI 0) X.1 X.2.1 dX8_freshBytes_14 rfl ?_
    exact wk_Index_freshBytes_b15 X hr hlk hT hV hF ho rx1 0 σ _ _ _ rZ_0.i (lv_sub hl [0, 1] rfl) hW hS h
  · have h := h.2 hc
    refine w_kload_n (w := w) X dX8_freshBytes_7 rfl (lv_at hl 1 rfl) ?_
    refine wr_I (rS (As := [va_rf (knO w x1)]) (rest := []) X hT hW hS (met_Index_sizeOf l (w := w) hV x1 _ σ rx1 h) (va_cwS 1 X.2.2.2.2 (lw_S q1045 q976 q139 q977) rfl rfl rfl (by decide +kernel) ⟨by show _ ≤ _; simp only [headSpec, rm_Index_freshBytes]; omega, by show _ ≤ _; simp only [headSpec, rm_Index_freshBytes]; omega⟩) rfl hl.1 rfl (by first | exact Nat.le_of_ble_eq_true rfl | simp [catK, catI, catR, catL]) dX8_freshBytes_8 ⟨Nat.le_refl _, Nat.le_refl _⟩) hS (fun r_23 σ_24 H locs rr_23 rkσ_24 h hWσ_24 hS => ?_)
    have h := h rr_23 rkσ_24
    refine lv_goto (tgt := 15) X.1 X.2.1 dX8_freshBytes_11 (by decide) ?_
    exact wk_Index_freshBytes_b15 X hr hlk hT hV hF ho rx1 r_23 σ_24 _ _ _ rr_23 (lv_sub hl [0, 1] rfl) hWσ_24 hS h
theorem met_Index_freshBytes (l : Launch) {w : Wp} (hV : Hvl w) (n : Nat) : ∀ (o : Int) (x1 : Int) (Q : Int → St → Prop) (σ : St), 0 ≤ o ∧ o < 2 → rK x1 → wp_Index_freshBytes (wc w) (wtv w) n o x1 Q σ → Met l yX8_freshBytes (ws_ yX8_freshBytes cX8_freshBytes 4 (some .int)) (rm_Index_freshBytes n) (PcW w σ [.ref (wad w 6 o), va_rf (knO w x1)]) (QcI w Q) 0 0 (wA w) := by
  induction n with
  | zero => intro o x1 Q σ ho rx1 h; exact h.elim
  | succ n ih => intro o x1 Q σ ho rx1 h; exact met_Index_freshBytes_R l hV ih o x1 Q σ ho rx1 h
/-! Index.stirAll(LNandHouse$Knot;)V -/
set_option maxHeartbeats 4000000 in
set_option maxRecDepth 100000 in
theorem wk_Index_stirAll_L7B {p : Program} {l : Launch} {e : Env} {st : State} {m : MethodId} {args : Array Value} {below : List Frame} {meth : Method} {c : Code} {w : Wp} {o : Int} {x1 : Int} {Q : St → Prop} {n : Nat} {F : Int → Int → (St → Prop) → St → Prop} (X : CallFix p m c cX8_stirAll 3 st args lw_all RX8) (hr : meth.sig.returnType = none) (hlk : meth.locks = false) (hT : Tb w st) (hV : Hvl w) (hF : ∀ (o : Int) (x1 : Int) (Q : St → Prop) (σ : St), 0 ≤ o ∧ o < 2 → rK x1 →  F o x1 Q σ → Met l yX8_stirAll (ws_ yX8_stirAll cX8_stirAll 3 none) (rm_Index_stirAll n) (PcW w σ [.ref (wad w 6 o), va_rf (knO w x1)]) (QcV w Q) 0 0 (wA w)) (ho : 0 ≤ o ∧ o < 2) (rx1 : rK x1) (K7 : Int → St → Prop) (hK7 : ∀ (y2 : Int) (σ : St) (H : Heap) (locs : List Loc) (ls : Array Slot), rI y2 → lv_has ls 3 [(0, .ref (wad w 6 o)), (1, va_rf (knO w x1)), (2, .int (oI y2))] → Wo w σ H → va_S (wA w) st.heap H locs → K7 y2 σ → W p l e (headSpec (ws_ yX8_stirAll cX8_stirAll 3 none) (rm_Index_stirAll (n + 1))).room st m args below meth c H locs 0 0 (MQ below (QcV w Q) args st 0 0 (wA w)) (F0 m 7 ls [])) : ∀ (y2 : Int) (σ : St) (H : Heap) (locs : List Loc) (ls : Array Slot), rI y2 → lv_has ls 3 [(0, .ref (wad w 6 o)), (1, va_rf (knO w x1)), (2, .int (oI y2))] → Wo w σ H → va_S (wA w) st.heap H locs → wp_Index_stirAll_L7 (wc w) (wtv w) o x1 F Q K7 y2 σ → W p l e (headSpec (ws_ yX8_stirAll cX8_stirAll 3 none) (rm_Index_stirAll (n + 1))).room st m args below meth c H locs 0 0 (MQ below (QcV w Q) args st 0 0 (wA w)) (F0 m 7 ls []) := by
  have vl6_o : vl w 6 o := hV.hv 6 rfl ⟨by omega, by show _ < (2 : Int); omega⟩
  intro y2 σ H locs ls ry2 hl hW hS h
  unfold wp_Index_stirAll_L7 at h
  refine lv_iload_n X.1 X.2.1 dX8_stirAll_7 rfl (lv_at hl 2 rfl) ?_
  refine w_kload_n (w := w) X dX8_stirAll_8 rfl (lv_at hl 1 rfl) ?_
  obtain ⟨hz_13, h⟩ := h
  rw [knR hz_13]
  refine wg (v := .int (oI (gI σ 577 x1))) X hT hW 9 1 577 (hV.hv 9 rfl ⟨hz_13, rx1.2⟩) rfl rfl (by decide) rfl (by decide) in_X9 q387 rfl dX8_stirAll_9 ?_
  refine w_icmp_ge (tgt := 38) X ry2 (hW.r.i 577 x1 rfl) dX8_stirAll_12 (by decide) (fun hc => ?_) (fun hc => ?_)
  · have h := h.1 hc
    exact wret_V X hr hlk hW hS h dX8_stirAll_38
  · have h := h.2 hc
    refine w_kload_n (w := w) X dX8_stirAll_15 rfl (lv_at hl 1 rfl) ?_
    rw [knR hz_13]
    refine wg (v := .int (oI (gI σ 576 x1))) X hT hW 9 0 576 (hV.hv 9 rfl ⟨hz_13, rx1.2⟩) rfl rfl (by decide) rfl (by decide) in_X9 q384 rfl dX8_stirAll_16 ?_
    refine w_if_le (tgt := 38) X (hW.r.i 576 x1 rfl) dX8_stirAll_19 (by decide) (fun hc => ?_) (fun hc => ?_)
    · have h := h.1 hc
      exact wret_V X hr hlk hW hS h dX8_stirAll_38
    · have h := h.2 hc
      refine lv_aload_n X.1 X.2.1 dX8_stirAll_22 rfl (lv_at hl 0 rfl) ?_
      refine w_kload_n (w := w) X dX8_stirAll_23 rfl (lv_at hl 1 rfl) ?_
      rw [knR hz_13]
      refine wg (v := .ref (wad w 583 x1)) X hT hW 9 7 583 (hV.hv 9 rfl ⟨hz_13, rx1.2⟩) rfl rfl (by decide) rfl (by decide) in_X9 q405 rfl dX8_stirAll_24 ?_
      refine lv_iload_n X.1 X.2.1 dX8_stirAll_27 rfl (lv_at hl 2 rfl) ?_
      obtain ⟨bi, h⟩ := h
      refine w_aald (n := 9) X hT hW 583 (hV.hv 583 rfl ⟨hz_13, rx1.2⟩) (by decide) rfl rfl bi dX8_stirAll_28 ?_
      refine wr_V (rV (As := [va_rf (knO w (gA σ 583 x1 y2))]) (rest := []) X hT hW hS (hF o (gA σ 583 x1 y2) _ σ (by omega) (hW.r.ak 583 x1 y2 rfl) h) (cwV 1 X.2.2.2.2 (lw_V q1051 q1048 q1049 q139 q1050) rfl rfl rfl (by decide +kernel) ⟨by show _ ≤ _; simp only [headSpec, rm_Index_stirAll]; omega, by show _ ≤ _; simp only [headSpec, rm_Index_stirAll]; omega⟩) vl6_o (by decide) rfl rfl hl.1 rfl (by first | exact Nat.le_of_ble_eq_true rfl | simp [catK, catI, catR, catL]) dX8_stirAll_29 ⟨Nat.le_refl _, Nat.le_refl _⟩) hS (fun σ_15 H locs rkσ_15 h hWσ_15 hS => ?_)
      have h := h rkσ_15
      obtain ⟨y2_16, ey2_16⟩ : ∃ y : Int, y = w32 (y2 + 1) := ⟨_, rfl⟩
      have h := h y2_16 ey2_16
      have ry2_16 : rI y2_16 := by rw [ey2_16]; exact w32_r _
      refine lv_iinc (v := oI y2_16) (lv' := [(2, .int (oI y2_16)), (0, .ref (wad w 6 o)), (1, va_rf (knO w x1))]) X.1 X.2.1 dX8_stirAll_32 hl (k := 2) rfl (by rw [ey2_16]; exact oI_add _ _) (by decide) (by first | rfl | simp [catK, catI, catR, catL]) (fun ls hl => ?_)
      refine lv_goto (tgt := 7) X.1 X.2.1 dX8_stirAll_35 (by decide) ?_
      exact hK7 y2_16 σ_15 _ _ _ ry2_16 (lv_sub hl [1, 2, 0] rfl) hWσ_15 hS h
theorem wk_Index_stirAll_L7 {p : Program} {l : Launch} {e : Env} {st : State} {m : MethodId} {args : Array Value} {below : List Frame} {meth : Method} {c : Code} {w : Wp} {o : Int} {x1 : Int} {Q : St → Prop} {n : Nat} {F : Int → Int → (St → Prop) → St → Prop} (X : CallFix p m c cX8_stirAll 3 st args lw_all RX8) (hr : meth.sig.returnType = none) (hlk : meth.locks = false) (hT : Tb w st) (hV : Hvl w) (hF : ∀ (o : Int) (x1 : Int) (Q : St → Prop) (σ : St), 0 ≤ o ∧ o < 2 → rK x1 →  F o x1 Q σ → Met l yX8_stirAll (ws_ yX8_stirAll cX8_stirAll 3 none) (rm_Index_stirAll n) (PcW w σ [.ref (wad w 6 o), va_rf (knO w x1)]) (QcV w Q) 0 0 (wA w)) (ho : 0 ≤ o ∧ o < 2) (rx1 : rK x1) : ∀ (y2 : Int) (σ : St) (H : Heap) (locs : List Loc) (ls : Array Slot), rI y2 → lv_has ls 3 [(0, .ref (wad w 6 o)), (1, va_rf (knO w x1)), (2, .int (oI y2))] → Wo w σ H → va_S (wA w) st.heap H locs → lQ1 (wp_Index_stirAll_L7 (wc w) (wtv w) o x1 F Q) y2 σ → W p l e (headSpec (ws_ yX8_stirAll cX8_stirAll 3 none) (rm_Index_stirAll (n + 1))).room st m args below meth c H locs 0 0 (MQ below (QcV w Q) args st 0 0 (wA w)) (F0 m 7 ls []) := by
  intro y2 σ H locs ls ry2 hl hW hS h
  obtain ⟨fu, h⟩ := h
  induction fu generalizing y2 σ H locs ls with
  | zero => exact h.elim
  | succ fu ih =>
    exact wk_Index_stirAll_L7B X hr hlk hT hV hF ho rx1 (lq1 (wp_Index_stirAll_L7 (wc w) (wtv w) o x1 F Q) fu) (fun y2 σ H locs ls ry2 hl hW hS h => ih y2 σ H locs ls ry2 hl hW hS h) y2 σ H locs ls ry2 hl hW hS h
set_option maxHeartbeats 4000000 in
set_option maxRecDepth 100000 in
theorem met_Index_stirAll_R (l : Launch) {w : Wp} (hV : Hvl w) {n : Nat} {F : Int → Int → (St → Prop) → St → Prop} (hF : ∀ (o : Int) (x1 : Int) (Q : St → Prop) (σ : St), 0 ≤ o ∧ o < 2 → rK x1 →  F o x1 Q σ → Met l yX8_stirAll (ws_ yX8_stirAll cX8_stirAll 3 none) (rm_Index_stirAll n) (PcW w σ [.ref (wad w 6 o), va_rf (knO w x1)]) (QcV w Q) 0 0 (wA w)) (o : Int) (x1 : Int) (Q : St → Prop) (σ : St) (ho : 0 ≤ o ∧ o < 2) (rx1 : rK x1) (h : wp_Index_stirAll_R (wc w) (wtv w) o x1 F Q σ) : Met l yX8_stirAll (ws_ yX8_stirAll cX8_stirAll 3 none) (rm_Index_stirAll (n + 1)) (PcW w σ [.ref (wad w 6 o), va_rf (knO w x1)]) (QcV w Q) 0 0 (wA w) := by
  refine Met.ofW (cc := cX8_stirAll) (maxL := 3) (ret := none) (by decide) rfl ?_
  intro p e st m args below meth c s₁ B hml hv
  obtain ⟨hargs, hW, hT⟩ := hv
  have X : CallFix p m c cX8_stirAll 3 st _ lw_all RX8 := ⟨B.exec, B.bytes, hml, findClass_of_methodNamed B.named, fun w h => atoms_spec (ws := ws_ yX8_stirAll cX8_stirAll 3 none) B.pre w (List.mem_cons_of_mem _ h)⟩
  have hr := B.returns
  have hlk := B.notSynchronized
  have hS : va_S (wA w) st.heap st.heap [] := va_S.rf
  have vl6_o : vl w 6 o := hV.hv 6 rfl ⟨by omega, by show _ < (2 : Int); omega⟩
  have hl := lv_entry ([.ref (wad w 6 o), va_rf (knO w x1)]) (n := 3) (by simp [lg_sl, catK, catI, catR, catL])
  have hfr := lg_entry_eq m ([.ref (wad w 6 o), va_rf (knO w x1)]) 3
  rw [← hargs] at hfr
  rw [hfr]
  generalize (lg_sl ([.ref (wad w 6 o), va_rf (knO w x1)]) ++ List.replicate (3 - (lg_sl ([.ref (wad w 6 o), va_rf (knO w x1)])).length) Slot.unset).toArray = ls at hl ⊢
  simp [lv_args, catK, catI, catR, catL] at hl
  have hl : lv_has ls 3 [(0, .ref (wad w 6 o)), (1, va_rf (knO w x1))] := hl
  unfold wp_Index_stirAll_R at h
  refine lv_aload_n X.1 X.2.1 dX8_stirAll_0 rfl (lv_at hl 0 rfl) ?_
  refine w_kload_n (w := w) X dX8_stirAll_1 rfl (lv_at hl 1 rfl) ?_
  refine wr_V (rV (As := [va_rf (knO w x1)]) (rest := []) X hT hW hS (met_Index_touch l (w := w) hV o x1 _ σ (by omega) rx1 h) (cwV 1 X.2.2.2.2 (lw_V q930 q932 qs15 q139 q933) rfl rfl rfl (by decide +kernel) ⟨by show _ ≤ _; simp only [headSpec, rm_Index_stirAll]; omega, by show _ ≤ _; simp only [headSpec, rm_Index_stirAll]; omega⟩) vl6_o (by decide) rfl rfl hl.1 rfl (by first | exact Nat.le_of_ble_eq_true rfl | simp [catK, catI, catR, catL]) dX8_stirAll_2 ⟨Nat.le_refl _, Nat.le_refl _⟩) hS (fun σ_18 H locs rkσ_18 h hWσ_18 hS => ?_)
  have h := h rkσ_18
  refine lv_iconst (v := oI 0) X.1 X.2.1 dX8_stirAll_5 rfl ?_
  refine lv_istore_n (i := 2) (lv' := [(2, .int (oI 0)), (0, .ref (wad w 6 o)), (1, va_rf (knO w x1))]) X.1 X.2.1 dX8_stirAll_6 rfl hl (by decide) (by first | rfl | simp [catK, catI, catR, catL]) (fun ls hl => ?_)
  exact wk_Index_stirAll_L7 X hr hlk hT hV hF ho rx1 0 σ_18 _ _ _ rZ_0.i (lv_sub hl [1, 2, 0] rfl) hWσ_18 hS h
theorem met_Index_stirAll (l : Launch) {w : Wp} (hV : Hvl w) (n : Nat) : ∀ (o : Int) (x1 : Int) (Q : St → Prop) (σ : St), 0 ≤ o ∧ o < 2 → rK x1 → wp_Index_stirAll (wc w) (wtv w) n o x1 Q σ → Met l yX8_stirAll (ws_ yX8_stirAll cX8_stirAll 3 none) (rm_Index_stirAll n) (PcW w σ [.ref (wad w 6 o), va_rf (knO w x1)]) (QcV w Q) 0 0 (wA w) := by
  induction n with
  | zero => intro o x1 Q σ ho rx1 h; exact h.elim
  | succ n ih => intro o x1 Q σ ho rx1 h; exact met_Index_stirAll_R l hV ih o x1 Q σ ho rx1 h
/-! Index.next()Z -/
set_option maxHeartbeats 4000000 in
set_option maxRecDepth 100000 in
theorem met_Index_next (l : Launch) {w : Wp} (hV : Hvl w) (o : Int) (Q : Int → St → Prop) (σ : St) (ho : 0 ≤ o ∧ o < 2) (h : wp_Index_next (wc w) (wtv w) o Q σ) : Met l yX8_next (ws_ yX8_next cX8_next 1 (some .boolean)) rm_Index_next (PcW w σ [.ref (wad w 6 o)]) (QcZ w Q) 0 0 (wA w) := by
  refine Met.ofW (cc := cX8_next) (maxL := 1) (ret := (some .boolean)) (by decide) rfl ?_
  intro p e st m args below meth c s₁ B hml hv
  obtain ⟨hargs, hW, hT⟩ := hv
  have X : CallFix p m c cX8_next 1 st _ lw_all RX8 := ⟨B.exec, B.bytes, hml, findClass_of_methodNamed B.named, fun w h => atoms_spec (ws := ws_ yX8_next cX8_next 1 (some .boolean)) B.pre w (List.mem_cons_of_mem _ h)⟩
  have hr := B.returns
  have hlk := B.notSynchronized
  have hS : va_S (wA w) st.heap st.heap [] := va_S.rf
  have vl6_o : vl w 6 o := hV.hv 6 rfl ⟨by omega, by show _ < (2 : Int); omega⟩
  have hl := lv_entry ([.ref (wad w 6 o)]) (n := 1) (Nat.le_of_ble_eq_true rfl)
  have hfr := lg_entry_eq m ([.ref (wad w 6 o)]) 1
  rw [← hargs] at hfr
  rw [hfr]
  generalize (lg_sl ([.ref (wad w 6 o)]) ++ List.replicate (1 - (lg_sl ([.ref (wad w 6 o)])).length) Slot.unset).toArray = ls at hl ⊢
  have hl : lv_has ls 1 [(0, .ref (wad w 6 o))] := hl
  unfold wp_Index_next at h
  refine lv_aload_n X.1 X.2.1 dX8_next_0 rfl (lv_at hl 0 rfl) ?_
  refine wg (v := .long (oL (gI σ 392 o))) X hT hW 6 8 392 vl6_o rfl rfl (by decide) rfl (by decide) in_X8 q456 rfl dX8_next_1 ?_
  refine w_ldc2 X (z := (-1)) q1069 (by decide) dX8_next_4 ?_
  refine w_lcmp_ne (tgt := 25) X (hW.r.j 392 o rfl) (rJ_lit (-1) (by decide)) dX8_next_7 dX8_next_8 (by decide) (fun hc => ?_) (fun hc => ?_)
  · have h := h.1 hc
    refine lv_aload_n X.1 X.2.1 dX8_next_25 rfl (lv_at hl 0 rfl) ?_
    refine lv_aload_n X.1 X.2.1 dX8_next_26 rfl (lv_at hl 0 rfl) ?_
    refine wg (v := .long (oL (gI σ 391 o))) X hT hW 6 7 391 vl6_o rfl rfl (by decide) rfl (by decide) in_X8 q453 rfl dX8_next_27 ?_
    refine lv_aload_n X.1 X.2.1 dX8_next_30 rfl (lv_at hl 0 rfl) ?_
    refine wg (v := .long (oL (gI σ 392 o))) X hT hW 6 8 392 vl6_o rfl rfl (by decide) rfl (by decide) in_X8 q456 rfl dX8_next_31 ?_
    refine lv_lconst (v := oL 1) X.1 X.2.1 dX8_next_34 (by decide) ?_
    refine w_ladd X dX8_next_35 ?_
    refine wr_Z (rV (As := [.long (oL (gI σ 391 o)), .long (oL (w64 ((gI σ 392 o) + 1)))]) (rest := []) X hT hW hS (met_Index_seek l (w := w) hV o (gI σ 391 o) (w64 ((gI σ 392 o) + 1)) _ σ (by omega) (hW.r.j 391 o rfl) (w64_r _) h) (cwV 2 X.2.2.2.2 (lw_V q905 q906 q907 q139 q908) rfl rfl rfl (by decide +kernel) ⟨Nat.le_of_ble_eq_true rfl, Nat.le_of_ble_eq_true rfl⟩) vl6_o (by decide) rfl rfl hl.1 rfl (by first | exact Nat.le_of_ble_eq_true rfl | simp [catK, catI, catR, catL]) dX8_next_36 ⟨Nat.le_refl _, Nat.le_refl _⟩) hS (fun r_5 σ_6 H locs rr_5 rkσ_6 h hWσ_6 hS => ?_)
    have h := h rr_5 rkσ_6
    exact wret_Z X hr hlk hWσ_6 hS rr_5 h dX8_next_39
  · have h := h.2 hc
    refine lv_aload_n X.1 X.2.1 dX8_next_11 rfl (lv_at hl 0 rfl) ?_
    refine lv_aload_n X.1 X.2.1 dX8_next_12 rfl (lv_at hl 0 rfl) ?_
    refine wg (v := .long (oL (gI σ 391 o))) X hT hW 6 7 391 vl6_o rfl rfl (by decide) rfl (by decide) in_X8 q453 rfl dX8_next_13 ?_
    refine lv_lconst (v := oL 1) X.1 X.2.1 dX8_next_16 (by decide) ?_
    refine w_ladd X dX8_next_17 ?_
    refine lv_lconst (v := oL 0) X.1 X.2.1 dX8_next_18 (by decide) ?_
    refine wr_Z (rV (As := [.long (oL (w64 ((gI σ 391 o) + 1))), .long (oL 0)]) (rest := []) X hT hW hS (met_Index_seek l (w := w) hV o (w64 ((gI σ 391 o) + 1)) 0 _ σ (by omega) (w64_r _) (rJ_lit 0 (by decide)) h) (cwV 2 X.2.2.2.2 (lw_V q905 q906 q907 q139 q908) rfl rfl rfl (by decide +kernel) ⟨Nat.le_of_ble_eq_true rfl, Nat.le_of_ble_eq_true rfl⟩) vl6_o (by decide) rfl rfl hl.1 rfl (by first | exact Nat.le_of_ble_eq_true rfl | simp [catK, catI, catR, catL]) dX8_next_19 ⟨Nat.le_refl _, Nat.le_refl _⟩) hS (fun r_7 σ_8 H locs rr_7 rkσ_8 h hWσ_8 hS => ?_)
    have h := h rr_7 rkσ_8
    refine lv_goto (tgt := 39) X.1 X.2.1 dX8_next_22 (by decide) ?_
    exact wret_Z X hr hlk hWσ_8 hS rr_7 h dX8_next_39
/-! Index.stir(IJJII)V -/
set_option maxHeartbeats 4000000 in
set_option maxRecDepth 100000 in
theorem wk_Index_stir_L88B {p : Program} {l : Launch} {e : Env} {st : State} {m : MethodId} {args : Array Value} {below : List Frame} {meth : Method} {c : Code} {w : Wp} {o : Int} {x1 : Int} {x2 : Int} {x4 : Int} {x6 : Int} {x7 : Int} {Q : St → Prop} (X : CallFix p m c cX8_stir 10 st args lw_all RX8) (hr : meth.sig.returnType = none) (hlk : meth.locks = false) (hT : Tb w st) (hV : Hvl w) (ho : 0 ≤ o ∧ o < 2) (rx1 : rI x1) (rx2 : rJ x2) (rx4 : rJ x4) (rx6 : rI x6) (rx7 : rI x7) (K88 : Int → St → Prop) (hK88 : ∀ (y9 : Int) (σ : St) (H : Heap) (locs : List Loc) (ls : Array Slot), rK y9 → lv_has ls 10 [(0, .ref (wad w 6 o)), (1, .int (oI x1)), (2, .long (oL x2)), (4, .long (oL x4)), (9, va_rf (knO w y9))] → Wo w σ H → va_S (wA w) st.heap H locs → K88 y9 σ → W p l e (headSpec (ws_ yX8_stir cX8_stir 10 none) rm_Index_stir).room st m args below meth c H locs 0 0 (MQ below (QcV w Q) args st 0 0 (wA w)) (F0 m 88 ls [])) : ∀ (y9 : Int) (σ : St) (H : Heap) (locs : List Loc) (ls : Array Slot), rK y9 → lv_has ls 10 [(0, .ref (wad w 6 o)), (1, .int (oI x1)), (2, .long (oL x2)), (4, .long (oL x4)), (9, va_rf (knO w y9))] → Wo w σ H → va_S (wA w) st.heap H locs → wp_Index_stir_L88 (wc w) (wtv w) o x1 x2 x4 x6 x7 Q K88 y9 σ → W p l e (headSpec (ws_ yX8_stir cX8_stir 10 none) rm_Index_stir).room st m args below meth c H locs 0 0 (MQ below (QcV w Q) args st 0 0 (wA w)) (F0 m 88 ls []) := by
  have vl6_o : vl w 6 o := hV.hv 6 rfl ⟨by omega, by show _ < (2 : Int); omega⟩
  intro y9 σ H locs ls ry9 hl hW hS h
  unfold wp_Index_stir_L88 at h
  refine w_kload (w := w) X dX8_stir_88 (lv_at hl 4 rfl) ?_
  obtain ⟨hz_15, h⟩ := h
  rw [knR hz_15]
  refine wg (v := .int (oI (gI σ 576 y9))) X hT hW 9 0 576 (hV.hv 9 rfl ⟨hz_15, ry9.2⟩) rfl rfl (by decide) rfl (by decide) in_X9 q384 rfl dX8_stir_90 ?_
  refine lv_iload_n X.1 X.2.1 dX8_stir_93 rfl (lv_at hl 1 rfl) ?_
  refine w_icmp_le (tgt := 126) X (hW.r.i 576 y9 rfl) rx1 dX8_stir_94 (by decide) (fun hc => ?_) (fun hc => ?_)
  · have h := h.1 hc
    exact wret_V X hr hlk hW hS h dX8_stir_126
  · have h := h.2 hc
    refine w_kload (w := w) X dX8_stir_97 (lv_at hl 4 rfl) ?_
    rw [knR hz_15]
    refine wg (v := .ref (wad w 583 y9)) X hT hW 9 7 583 (hV.hv 9 rfl ⟨hz_15, ry9.2⟩) rfl rfl (by decide) rfl (by decide) in_X9 q405 rfl dX8_stir_99 ?_
    refine lv_iconst (v := oI 0) X.1 X.2.1 dX8_stir_102 rfl ?_
    refine w_kload (w := w) X dX8_stir_103 (lv_at hl 4 rfl) ?_
    refine lv_lload_n X.1 X.2.1 dX8_stir_105 rfl (lv_at hl 2 rfl) ?_
    refine lv_lload X.1 X.2.1 dX8_stir_106 (lv_at hl 3 rfl) ?_
    refine wr_I (rV (As := [.long (oL x2), .long (oL x4)]) (rest := [.int (oI 0), .ref (wad w 583 y9)]) X hT hW hS (met_Knot_slot l (w := w) hV y9 x2 x4 _ σ ⟨hz_15, ry9.2⟩ rx2 rx4 h) (cwV 2 X.2.2.2.2 (lw_V q909 q910 q911 q140 q912) rfl rfl rfl (by decide +kernel) ⟨Nat.le_of_ble_eq_true rfl, Nat.le_of_ble_eq_true rfl⟩) (hV.hv 9 rfl ⟨hz_15, ry9.2⟩) (by decide) rfl rfl hl.1 (by simp only [knR hz_15]; rfl) (by first | exact Nat.le_of_ble_eq_true rfl | simp [catK, catI, catR, catL]) dX8_stir_108 ⟨Nat.le_refl _, Nat.le_refl _⟩) hS (fun r_16 σ_17 H locs rr_16 rkσ_17 h hWσ_17 hS => ?_)
    have h := h rr_16 rkσ_17
    refine w_mmax X rZ_0.i rr_16 hl.1 q923 q924 q149 q925 (Nat.le_of_ble_eq_true rfl) (Nat.le_of_ble_eq_true rfl) (Nat.le_refl _) (Nat.le_refl _) dX8_stir_111 ?_
    obtain ⟨bi, h⟩ := h
    refine w_aald (n := 9) X hT hWσ_17 583 (hV.hv 583 rfl ⟨hz_15, ry9.2⟩) (by decide) rfl rfl bi dX8_stir_114 ?_
    refine w_topk (w := w) (fun y9_18 ey9_18 => ?_)
    have h := h y9_18 ey9_18
    have ry9_18 : rK y9_18 := by rw [ey9_18]; exact (hWσ_17.r.ak 583 y9 (max 0 r_16) rfl)
    refine w_kstore (i := 9) (lv' := [(9, va_rf (knO w y9_18)), (0, .ref (wad w 6 o)), (1, .int (oI x1)), (2, .long (oL x2)), (4, .long (oL x4))]) (w := w) X dX8_stir_115 hl (by decide) (by first | rfl | simp [catK, catI, catR, catL]) (fun ls hl => ?_)
    refine lv_aload_n X.1 X.2.1 dX8_stir_117 rfl (lv_at hl 1 rfl) ?_
    refine w_kload (w := w) X dX8_stir_118 (lv_at hl 0 rfl) ?_
    refine wr_V (rV (As := [va_rf (knO w y9_18)]) (rest := []) X hT hWσ_17 hS (met_Index_touch l (w := w) hV o y9_18 _ σ_17 (by omega) ry9_18 h) (cwV 1 X.2.2.2.2 (lw_V q930 q932 qs15 q139 q933) rfl rfl rfl (by decide +kernel) ⟨Nat.le_of_ble_eq_true rfl, Nat.le_of_ble_eq_true rfl⟩) vl6_o (by decide) rfl rfl hl.1 rfl (by first | exact Nat.le_of_ble_eq_true rfl | simp [catK, catI, catR, catL]) dX8_stir_120 ⟨Nat.le_refl _, Nat.le_refl _⟩) hS (fun σ_20 H locs rkσ_20 h hWσ_20 hS => ?_)
    have h := h rkσ_20
    refine lv_goto (tgt := 88) X.1 X.2.1 dX8_stir_123 (by decide) ?_
    exact hK88 y9_18 σ_20 _ _ _ ry9_18 (lv_sub hl [1, 2, 3, 4, 0] rfl) hWσ_20 hS h
theorem wk_Index_stir_L88 {p : Program} {l : Launch} {e : Env} {st : State} {m : MethodId} {args : Array Value} {below : List Frame} {meth : Method} {c : Code} {w : Wp} {o : Int} {x1 : Int} {x2 : Int} {x4 : Int} {x6 : Int} {x7 : Int} {Q : St → Prop} (X : CallFix p m c cX8_stir 10 st args lw_all RX8) (hr : meth.sig.returnType = none) (hlk : meth.locks = false) (hT : Tb w st) (hV : Hvl w) (ho : 0 ≤ o ∧ o < 2) (rx1 : rI x1) (rx2 : rJ x2) (rx4 : rJ x4) (rx6 : rI x6) (rx7 : rI x7) : ∀ (y9 : Int) (σ : St) (H : Heap) (locs : List Loc) (ls : Array Slot), rK y9 → lv_has ls 10 [(0, .ref (wad w 6 o)), (1, .int (oI x1)), (2, .long (oL x2)), (4, .long (oL x4)), (9, va_rf (knO w y9))] → Wo w σ H → va_S (wA w) st.heap H locs → lQ1 (wp_Index_stir_L88 (wc w) (wtv w) o x1 x2 x4 x6 x7 Q) y9 σ → W p l e (headSpec (ws_ yX8_stir cX8_stir 10 none) rm_Index_stir).room st m args below meth c H locs 0 0 (MQ below (QcV w Q) args st 0 0 (wA w)) (F0 m 88 ls []) := by
  intro y9 σ H locs ls ry9 hl hW hS h
  obtain ⟨fu, h⟩ := h
  induction fu generalizing y9 σ H locs ls with
  | zero => exact h.elim
  | succ fu ih =>
    exact wk_Index_stir_L88B X hr hlk hT hV ho rx1 rx2 rx4 rx6 rx7 (lq1 (wp_Index_stir_L88 (wc w) (wtv w) o x1 x2 x4 x6 x7 Q) fu) (fun y9 σ H locs ls ry9 hl hW hS h => ih y9 σ H locs ls ry9 hl hW hS h) y9 σ H locs ls ry9 hl hW hS h
set_option maxHeartbeats 4000000 in
set_option maxRecDepth 100000 in
theorem wk_Index_stir_L6B {p : Program} {l : Launch} {e : Env} {st : State} {m : MethodId} {args : Array Value} {below : List Frame} {meth : Method} {c : Code} {w : Wp} {o : Int} {x1 : Int} {x2 : Int} {x4 : Int} {x6 : Int} {x7 : Int} {Q : St → Prop} (X : CallFix p m c cX8_stir 10 st args lw_all RX8) (hr : meth.sig.returnType = none) (hlk : meth.locks = false) (hT : Tb w st) (hV : Hvl w) (ho : 0 ≤ o ∧ o < 2) (rx1 : rI x1) (rx2 : rJ x2) (rx4 : rJ x4) (rx6 : rI x6) (rx7 : rI x7) (K6 : Int → St → Prop) (hK6 : ∀ (y8 : Int) (σ : St) (H : Heap) (locs : List Loc) (ls : Array Slot), rK y8 → lv_has ls 10 [(0, .ref (wad w 6 o)), (1, .int (oI x1)), (2, .long (oL x2)), (4, .long (oL x4)), (6, .int (oI x6)), (7, .int (oI x7)), (8, va_rf (knO w y8))] → Wo w σ H → va_S (wA w) st.heap H locs → K6 y8 σ → W p l e (headSpec (ws_ yX8_stir cX8_stir 10 none) rm_Index_stir).room st m args below meth c H locs 0 0 (MQ below (QcV w Q) args st 0 0 (wA w)) (F0 m 6 ls [])) : ∀ (y8 : Int) (σ : St) (H : Heap) (locs : List Loc) (ls : Array Slot), rK y8 → lv_has ls 10 [(0, .ref (wad w 6 o)), (1, .int (oI x1)), (2, .long (oL x2)), (4, .long (oL x4)), (6, .int (oI x6)), (7, .int (oI x7)), (8, va_rf (knO w y8))] → Wo w σ H → va_S (wA w) st.heap H locs → wp_Index_stir_L6 (wc w) (wtv w) o x1 x2 x4 x6 x7 Q K6 y8 σ → W p l e (headSpec (ws_ yX8_stir cX8_stir 10 none) rm_Index_stir).room st m args below meth c H locs 0 0 (MQ below (QcV w Q) args st 0 0 (wA w)) (F0 m 6 ls []) := by
  have vl6_o : vl w 6 o := hV.hv 6 rfl ⟨by omega, by show _ < (2 : Int); omega⟩
  intro y8 σ H locs ls ry8 hl hW hS h
  unfold wp_Index_stir_L6 at h
  refine w_kload (w := w) X dX8_stir_6 (lv_at hl 6 rfl) ?_
  obtain ⟨hz_21, h⟩ := h
  rw [knR hz_21]
  refine wg (v := .int (oI (gI σ 576 y8))) X hT hW 9 0 576 (hV.hv 9 rfl ⟨hz_21, ry8.2⟩) rfl rfl (by decide) rfl (by decide) in_X9 q384 rfl dX8_stir_8 ?_
  refine lv_iload_n X.1 X.2.1 dX8_stir_11 rfl (lv_at hl 1 rfl) ?_
  refine w_icmp_le (tgt := 38) X (hW.r.i 576 y8 rfl) rx1 dX8_stir_12 (by decide) (fun hc => ?_) (fun hc => ?_)
  · have h := h.1 hc
    refine w_kload (w := w) X dX8_stir_38 (lv_at hl 6 rfl) ?_
    rw [knR hz_21]
    refine wg (v := .int (oI (gI σ 576 y8))) X hT hW 9 0 576 (hV.hv 9 rfl ⟨hz_21, ry8.2⟩) rfl rfl (by decide) rfl (by decide) in_X9 q384 rfl dX8_stir_40 ?_
    refine lv_iload_n X.1 X.2.1 dX8_stir_43 rfl (lv_at hl 1 rfl) ?_
    refine w_icmp_ne (tgt := 75) X (hW.r.i 576 y8 rfl) rx1 dX8_stir_44 (by decide) (fun hc => ?_) (fun hc => ?_)
    · have h := h.1 hc
      exact wret_V X hr hlk hW hS h dX8_stir_75
    · have h := h.2 hc
      refine w_kload (w := w) X dX8_stir_47 (lv_at hl 6 rfl) ?_
      rw [knR hz_21]
      refine wg (v := .int (oI (gI σ 584 y8))) X hT hW 9 8 584 (hV.hv 9 rfl ⟨hz_21, ry8.2⟩) rfl rfl (by decide) rfl (by decide) in_X9 q408 rfl dX8_stir_49 ?_
      refine w_if_ne (tgt := 75) X ((hW.r.z 584 y8 rfl).i) dX8_stir_52 (by decide) (fun hc => ?_) (fun hc => ?_)
      · have h := h.1 hc
        exact wret_V X hr hlk hW hS h dX8_stir_75
      · have h := h.2 hc
        refine w_kload (w := w) X dX8_stir_55 (lv_at hl 6 rfl) ?_
        rw [knR hz_21]
        refine wg (v := .int (oI (gI σ 585 y8))) X hT hW 9 9 585 (hV.hv 9 rfl ⟨hz_21, ry8.2⟩) rfl rfl (by decide) rfl (by decide) in_X9 q411 rfl dX8_stir_57 ?_
        refine lv_iload X.1 X.2.1 dX8_stir_60 (lv_at hl 4 rfl) ?_
        refine w_icmp_ne (tgt := 75) X (hW.r.i 585 y8 rfl) rx6 dX8_stir_62 (by decide) (fun hc => ?_) (fun hc => ?_)
        · have h := h.1 hc
          exact wret_V X hr hlk hW hS h dX8_stir_75
        · have h := h.2 hc
          refine w_kload (w := w) X dX8_stir_65 (lv_at hl 6 rfl) ?_
          rw [knR hz_21]
          refine wg (v := .int (oI (gI σ 586 y8))) X hT hW 9 10 586 (hV.hv 9 rfl ⟨hz_21, ry8.2⟩) rfl rfl (by decide) rfl (by decide) in_X9 q414 rfl dX8_stir_67 ?_
          refine lv_iload X.1 X.2.1 dX8_stir_70 (lv_at hl 5 rfl) ?_
          refine w_icmp_eq (tgt := 76) X (hW.r.i 586 y8 rfl) rx7 dX8_stir_72 (by decide) (fun hc => ?_) (fun hc => ?_)
          · have h := h.1 hc
            refine lv_aload_n X.1 X.2.1 dX8_stir_76 rfl (lv_at hl 0 rfl) ?_
            refine wg (v := va_rf (knO w (gI σ 387 o))) X hT hW 6 3 387 vl6_o rfl rfl (by decide) rfl (by decide) in_X8 q445 rfl dX8_stir_77 ?_
            refine w_topk (w := w) (fun y9_22 ey9_22 => ?_)
            have h := h y9_22 ey9_22
            have ry9_22 : rK y9_22 := by rw [ey9_22]; exact (hW.r.k 387 o rfl)
            refine w_kstore (i := 9) (lv' := [(9, va_rf (knO w y9_22)), (0, .ref (wad w 6 o)), (1, .int (oI x1)), (2, .long (oL x2)), (4, .long (oL x4)), (6, .int (oI x6)), (7, .int (oI x7)), (8, va_rf (knO w y8))]) (w := w) X dX8_stir_80 hl (by decide) (by first | rfl | simp [catK, catI, catR, catL]) (fun ls hl => ?_)
            refine lv_aload_n X.1 X.2.1 dX8_stir_82 rfl (lv_at hl 1 rfl) ?_
            refine w_kload (w := w) X dX8_stir_83 (lv_at hl 0 rfl) ?_
            refine wr_V (rV (As := [va_rf (knO w y9_22)]) (rest := []) X hT hW hS (met_Index_touch l (w := w) hV o y9_22 _ σ (by omega) ry9_22 h) (cwV 1 X.2.2.2.2 (lw_V q930 q932 qs15 q139 q933) rfl rfl rfl (by decide +kernel) ⟨Nat.le_of_ble_eq_true rfl, Nat.le_of_ble_eq_true rfl⟩) vl6_o (by decide) rfl rfl hl.1 rfl (by first | exact Nat.le_of_ble_eq_true rfl | simp [catK, catI, catR, catL]) dX8_stir_85 ⟨Nat.le_refl _, Nat.le_refl _⟩) hS (fun σ_24 H locs rkσ_24 h hWσ_24 hS => ?_)
            have h := h rkσ_24
            exact wk_Index_stir_L88 X hr hlk hT hV ho rx1 rx2 rx4 rx6 rx7 y9_22 σ_24 _ _ _ ry9_22 (lv_sub hl [1, 2, 3, 4, 0] rfl) hWσ_24 hS h
          · have h := h.2 hc
            exact wret_V X hr hlk hW hS h dX8_stir_75
  · have h := h.2 hc
    refine w_kload (w := w) X dX8_stir_15 (lv_at hl 6 rfl) ?_
    rw [knR hz_21]
    refine wg (v := .ref (wad w 583 y8)) X hT hW 9 7 583 (hV.hv 9 rfl ⟨hz_21, ry8.2⟩) rfl rfl (by decide) rfl (by decide) in_X9 q405 rfl dX8_stir_17 ?_
    refine lv_iconst (v := oI 0) X.1 X.2.1 dX8_stir_20 rfl ?_
    refine w_kload (w := w) X dX8_stir_21 (lv_at hl 6 rfl) ?_
    refine lv_lload_n X.1 X.2.1 dX8_stir_23 rfl (lv_at hl 2 rfl) ?_
    refine lv_lload X.1 X.2.1 dX8_stir_24 (lv_at hl 3 rfl) ?_
    refine wr_I (rV (As := [.long (oL x2), .long (oL x4)]) (rest := [.int (oI 0), .ref (wad w 583 y8)]) X hT hW hS (met_Knot_slot l (w := w) hV y8 x2 x4 _ σ ⟨hz_21, ry8.2⟩ rx2 rx4 h) (cwV 2 X.2.2.2.2 (lw_V q909 q910 q911 q140 q912) rfl rfl rfl (by decide +kernel) ⟨Nat.le_of_ble_eq_true rfl, Nat.le_of_ble_eq_true rfl⟩) (hV.hv 9 rfl ⟨hz_21, ry8.2⟩) (by decide) rfl rfl hl.1 (by simp only [knR hz_21]; rfl) (by first | exact Nat.le_of_ble_eq_true rfl | simp [catK, catI, catR, catL]) dX8_stir_26 ⟨Nat.le_refl _, Nat.le_refl _⟩) hS (fun r_25 σ_26 H locs rr_25 rkσ_26 h hWσ_26 hS => ?_)
    have h := h rr_25 rkσ_26
    refine w_mmax X rZ_0.i rr_25 hl.1 q923 q924 q149 q925 (Nat.le_of_ble_eq_true rfl) (Nat.le_of_ble_eq_true rfl) (Nat.le_refl _) (Nat.le_refl _) dX8_stir_29 ?_
    obtain ⟨bi, h⟩ := h
    refine w_aald (n := 9) X hT hWσ_26 583 (hV.hv 583 rfl ⟨hz_21, ry8.2⟩) (by decide) rfl rfl bi dX8_stir_32 ?_
    refine w_topk (w := w) (fun y8_27 ey8_27 => ?_)
    have h := h y8_27 ey8_27
    have ry8_27 : rK y8_27 := by rw [ey8_27]; exact (hWσ_26.r.ak 583 y8 (max 0 r_25) rfl)
    refine w_kstore (i := 8) (lv' := [(8, va_rf (knO w y8_27)), (0, .ref (wad w 6 o)), (1, .int (oI x1)), (2, .long (oL x2)), (4, .long (oL x4)), (6, .int (oI x6)), (7, .int (oI x7))]) (w := w) X dX8_stir_33 hl (by decide) (by first | rfl | simp [catK, catI, catR, catL]) (fun ls hl => ?_)
    refine lv_goto (tgt := 6) X.1 X.2.1 dX8_stir_35 (by decide) ?_
    exact hK6 y8_27 σ_26 _ _ _ ry8_27 (lv_sub hl [1, 2, 3, 4, 5, 6, 0] rfl) hWσ_26 hS h
theorem wk_Index_stir_L6 {p : Program} {l : Launch} {e : Env} {st : State} {m : MethodId} {args : Array Value} {below : List Frame} {meth : Method} {c : Code} {w : Wp} {o : Int} {x1 : Int} {x2 : Int} {x4 : Int} {x6 : Int} {x7 : Int} {Q : St → Prop} (X : CallFix p m c cX8_stir 10 st args lw_all RX8) (hr : meth.sig.returnType = none) (hlk : meth.locks = false) (hT : Tb w st) (hV : Hvl w) (ho : 0 ≤ o ∧ o < 2) (rx1 : rI x1) (rx2 : rJ x2) (rx4 : rJ x4) (rx6 : rI x6) (rx7 : rI x7) : ∀ (y8 : Int) (σ : St) (H : Heap) (locs : List Loc) (ls : Array Slot), rK y8 → lv_has ls 10 [(0, .ref (wad w 6 o)), (1, .int (oI x1)), (2, .long (oL x2)), (4, .long (oL x4)), (6, .int (oI x6)), (7, .int (oI x7)), (8, va_rf (knO w y8))] → Wo w σ H → va_S (wA w) st.heap H locs → lQ1 (wp_Index_stir_L6 (wc w) (wtv w) o x1 x2 x4 x6 x7 Q) y8 σ → W p l e (headSpec (ws_ yX8_stir cX8_stir 10 none) rm_Index_stir).room st m args below meth c H locs 0 0 (MQ below (QcV w Q) args st 0 0 (wA w)) (F0 m 6 ls []) := by
  intro y8 σ H locs ls ry8 hl hW hS h
  obtain ⟨fu, h⟩ := h
  induction fu generalizing y8 σ H locs ls with
  | zero => exact h.elim
  | succ fu ih =>
    exact wk_Index_stir_L6B X hr hlk hT hV ho rx1 rx2 rx4 rx6 rx7 (lq1 (wp_Index_stir_L6 (wc w) (wtv w) o x1 x2 x4 x6 x7 Q) fu) (fun y8 σ H locs ls ry8 hl hW hS h => ih y8 σ H locs ls ry8 hl hW hS h) y8 σ H locs ls ry8 hl hW hS h
set_option maxHeartbeats 4000000 in
set_option maxRecDepth 100000 in
theorem met_Index_stir (l : Launch) {w : Wp} (hV : Hvl w) (o : Int) (x1 : Int) (x2 : Int) (x4 : Int) (x6 : Int) (x7 : Int) (Q : St → Prop) (σ : St) (ho : 0 ≤ o ∧ o < 2) (rx1 : rI x1) (rx2 : rJ x2) (rx4 : rJ x4) (rx6 : rI x6) (rx7 : rI x7) (h : wp_Index_stir (wc w) (wtv w) o x1 x2 x4 x6 x7 Q σ) : Met l yX8_stir (ws_ yX8_stir cX8_stir 10 none) rm_Index_stir (PcW w σ [.ref (wad w 6 o), .int (oI x1), .long (oL x2), .long (oL x4), .int (oI x6), .int (oI x7)]) (QcV w Q) 0 0 (wA w) := by
  refine Met.ofW (cc := cX8_stir) (maxL := 10) (ret := none) (by decide) rfl ?_
  intro p e st m args below meth c s₁ B hml hv
  obtain ⟨hargs, hW, hT⟩ := hv
  have X : CallFix p m c cX8_stir 10 st _ lw_all RX8 := ⟨B.exec, B.bytes, hml, findClass_of_methodNamed B.named, fun w h => atoms_spec (ws := ws_ yX8_stir cX8_stir 10 none) B.pre w (List.mem_cons_of_mem _ h)⟩
  have hr := B.returns
  have hlk := B.notSynchronized
  have hS : va_S (wA w) st.heap st.heap [] := va_S.rf
  have vl6_o : vl w 6 o := hV.hv 6 rfl ⟨by omega, by show _ < (2 : Int); omega⟩
  have hl := lv_entry ([.ref (wad w 6 o), .int (oI x1), .long (oL x2), .long (oL x4), .int (oI x6), .int (oI x7)]) (n := 10) (Nat.le_of_ble_eq_true rfl)
  have hfr := lg_entry_eq m ([.ref (wad w 6 o), .int (oI x1), .long (oL x2), .long (oL x4), .int (oI x6), .int (oI x7)]) 10
  rw [← hargs] at hfr
  rw [hfr]
  generalize (lg_sl ([.ref (wad w 6 o), .int (oI x1), .long (oL x2), .long (oL x4), .int (oI x6), .int (oI x7)]) ++ List.replicate (10 - (lg_sl ([.ref (wad w 6 o), .int (oI x1), .long (oL x2), .long (oL x4), .int (oI x6), .int (oI x7)])).length) Slot.unset).toArray = ls at hl ⊢
  have hl : lv_has ls 10 [(0, .ref (wad w 6 o)), (1, .int (oI x1)), (2, .long (oL x2)), (4, .long (oL x4)), (6, .int (oI x6)), (7, .int (oI x7))] := hl
  unfold wp_Index_stir at h
  refine lv_aload_n X.1 X.2.1 dX8_stir_0 rfl (lv_at hl 0 rfl) ?_
  refine wg (v := va_rf (knO w (gI σ 387 o))) X hT hW 6 3 387 vl6_o rfl rfl (by decide) rfl (by decide) in_X8 q445 rfl dX8_stir_1 ?_
  refine w_topk (w := w) (fun y8_28 ey8_28 => ?_)
  have h := h y8_28 ey8_28
  have ry8_28 : rK y8_28 := by rw [ey8_28]; exact (hW.r.k 387 o rfl)
  refine w_kstore (i := 8) (lv' := [(8, va_rf (knO w y8_28)), (0, .ref (wad w 6 o)), (1, .int (oI x1)), (2, .long (oL x2)), (4, .long (oL x4)), (6, .int (oI x6)), (7, .int (oI x7))]) (w := w) X dX8_stir_4 hl (by decide) (by first | rfl | simp [catK, catI, catR, catL]) (fun ls hl => ?_)
  exact wk_Index_stir_L6 X hr hlk hT hV ho rx1 rx2 rx4 rx6 rx7 y8_28 σ _ _ _ ry8_28 (lv_sub hl [1, 2, 3, 4, 5, 6, 0] rfl) hW hS h
/-! Index.give(LNandHouse$Knot;)V -/
set_option maxHeartbeats 4000000 in
set_option maxRecDepth 100000 in
theorem wk_Index_give_L7B {p : Program} {l : Launch} {e : Env} {st : State} {m : MethodId} {args : Array Value} {below : List Frame} {meth : Method} {c : Code} {w : Wp} {o : Int} {x1 : Int} {Q : St → Prop} (X : CallFix p m c cX8_give 3 st args lw_all RX8) (hr : meth.sig.returnType = none) (hlk : meth.locks = false) (hT : Tb w st) (hV : Hvl w) (ho : 0 ≤ o ∧ o < 2) (rx1 : rK x1) (K7 : Int → St → Prop) (hK7 : ∀ (y2 : Int) (σ : St) (H : Heap) (locs : List Loc) (ls : Array Slot), rI y2 → lv_has ls 3 [(0, .ref (wad w 6 o)), (1, va_rf (knO w x1)), (2, .int (oI y2))] → Wo w σ H → va_S (wA w) st.heap H locs → K7 y2 σ → W p l e (headSpec (ws_ yX8_give cX8_give 3 none) rm_Index_give).room st m args below meth c H locs 0 0 (MQ below (QcV w Q) args st 0 0 (wA w)) (F0 m 7 ls [])) : ∀ (y2 : Int) (σ : St) (H : Heap) (locs : List Loc) (ls : Array Slot), rI y2 → lv_has ls 3 [(0, .ref (wad w 6 o)), (1, va_rf (knO w x1)), (2, .int (oI y2))] → Wo w σ H → va_S (wA w) st.heap H locs → wp_Index_give_L7 (wc w) (wtv w) o x1 Q K7 y2 σ → W p l e (headSpec (ws_ yX8_give cX8_give 3 none) rm_Index_give).room st m args below meth c H locs 0 0 (MQ below (QcV w Q) args st 0 0 (wA w)) (F0 m 7 ls []) := by
  have vl385_o : vl w 385 o := hV.hv 385 rfl ⟨by omega, by show _ < (2 : Int); omega⟩
  have vl6_o : vl w 6 o := hV.hv 6 rfl ⟨by omega, by show _ < (2 : Int); omega⟩
  intro y2 σ H locs ls ry2 hl hW hS h
  unfold wp_Index_give_L7 at h
  refine lv_iload_n X.1 X.2.1 dX8_give_7 rfl (lv_at hl 2 rfl) ?_
  refine w_kload_n (w := w) X dX8_give_8 rfl (lv_at hl 1 rfl) ?_
  obtain ⟨hz_15, h⟩ := h
  rw [knR hz_15]
  refine wg (v := .int (oI (gI σ 577 x1))) X hT hW 9 1 577 (hV.hv 9 rfl ⟨hz_15, rx1.2⟩) rfl rfl (by decide) rfl (by decide) in_X9 q387 rfl dX8_give_9 ?_
  refine w_icmp_ge (tgt := 28) X ry2 (hW.r.i 577 x1 rfl) dX8_give_12 (by decide) (fun hc => ?_) (fun hc => ?_)
  · have h := h.1 hc
    refine lv_aload_n X.1 X.2.1 dX8_give_28 rfl (lv_at hl 0 rfl) ?_
    refine wg (v := .ref (wad w 385 o)) X hT hW 6 1 385 vl6_o rfl rfl (by decide) rfl (by decide) in_X8 q443 rfl dX8_give_29 ?_
    refine lv_aload_n X.1 X.2.1 dX8_give_32 rfl (lv_at hl 0 rfl) ?_
    refine lv_dup X.1 X.2.1 dX8_give_33 rfl ?_
    refine wg (v := .int (oI (gI σ 386 o))) X hT hW 6 2 386 vl6_o rfl rfl (by decide) rfl (by decide) in_X8 q444 rfl dX8_give_34 ?_
    refine lv_iconst (v := oI 1) X.1 X.2.1 dX8_give_37 rfl ?_
    refine w_isub X dX8_give_38 ?_
    refine lv_dup_x1 X.1 X.2.1 dX8_give_39 rfl rfl ?_
    refine wput (z := w32 ((gI σ 386 o) - 1)) X hT hW hS 6 2 386 vl6_o rfl rfl (by decide) rfl (by decide) in_X8 tyX8 tyX8_ok nmX8 q444 rfl rfl (w32_r _) (fv0 w rfl) rfl rfl dX8_give_40 (fun H locs hN hS => ?_)
    obtain ⟨σ_16, eσ_16⟩ : ∃ x, x = sI σ 386 o (w32 ((gI σ 386 o) - 1)) := ⟨_, rfl⟩
    have hWσ_16 : Wo w σ_16 H := eσ_16 ▸ hN
    have h := h σ_16 eσ_16
    clear hN
    refine w_kload_n (w := w) X dX8_give_43 rfl (lv_at hl 1 rfl) ?_
    obtain ⟨bi, h⟩ := h
    refine w_aast (n := 320) X hV hT hWσ_16 hS 385 vl385_o (by decide) rfl rfl bi rx1 dX8_give_44 (fun H locs hN hS => ?_)
    obtain ⟨σ_17, eσ_17⟩ : ∃ x, x = sA σ_16 385 o (w32 ((gI σ 386 o) - 1)) x1 := ⟨_, rfl⟩
    have hWσ_17 : Wo w σ_17 H := eσ_17 ▸ hN
    have h := h σ_17 eσ_17
    clear hN
    exact wret_V X hr hlk hWσ_17 hS h dX8_give_45
  · have h := h.2 hc
    refine w_kload_n (w := w) X dX8_give_15 rfl (lv_at hl 1 rfl) ?_
    rw [knR hz_15]
    refine wg (v := .ref (wad w 583 x1)) X hT hW 9 7 583 (hV.hv 9 rfl ⟨hz_15, rx1.2⟩) rfl rfl (by decide) rfl (by decide) in_X9 q405 rfl dX8_give_16 ?_
    refine lv_iload_n X.1 X.2.1 dX8_give_19 rfl (lv_at hl 2 rfl) ?_
    refine w_knull (w := w) X dX8_give_20 ?_
    obtain ⟨bi, h⟩ := h
    refine w_aast (n := 9) X hV hT hW hS 583 (hV.hv 583 rfl ⟨hz_15, rx1.2⟩) (by decide) rfl rfl bi rK_n dX8_give_21 (fun H locs hN hS => ?_)
    obtain ⟨σ_18, eσ_18⟩ : ∃ x, x = sA σ 583 x1 y2 (-1) := ⟨_, rfl⟩
    have hWσ_18 : Wo w σ_18 H := eσ_18 ▸ hN
    have h := h σ_18 eσ_18
    clear hN
    obtain ⟨y2_19, ey2_19⟩ : ∃ y : Int, y = w32 (y2 + 1) := ⟨_, rfl⟩
    have h := h y2_19 ey2_19
    have ry2_19 : rI y2_19 := by rw [ey2_19]; exact w32_r _
    refine lv_iinc (v := oI y2_19) (lv' := [(2, .int (oI y2_19)), (0, .ref (wad w 6 o)), (1, va_rf (knO w x1))]) X.1 X.2.1 dX8_give_22 hl (k := 2) rfl (by rw [ey2_19]; exact oI_add _ _) (by decide) (by first | rfl | simp [catK, catI, catR, catL]) (fun ls hl => ?_)
    refine lv_goto (tgt := 7) X.1 X.2.1 dX8_give_25 (by decide) ?_
    exact hK7 y2_19 σ_18 _ _ _ ry2_19 (lv_sub hl [1, 2, 0] rfl) hWσ_18 hS h
theorem wk_Index_give_L7 {p : Program} {l : Launch} {e : Env} {st : State} {m : MethodId} {args : Array Value} {below : List Frame} {meth : Method} {c : Code} {w : Wp} {o : Int} {x1 : Int} {Q : St → Prop} (X : CallFix p m c cX8_give 3 st args lw_all RX8) (hr : meth.sig.returnType = none) (hlk : meth.locks = false) (hT : Tb w st) (hV : Hvl w) (ho : 0 ≤ o ∧ o < 2) (rx1 : rK x1) : ∀ (y2 : Int) (σ : St) (H : Heap) (locs : List Loc) (ls : Array Slot), rI y2 → lv_has ls 3 [(0, .ref (wad w 6 o)), (1, va_rf (knO w x1)), (2, .int (oI y2))] → Wo w σ H → va_S (wA w) st.heap H locs → lQ1 (wp_Index_give_L7 (wc w) (wtv w) o x1 Q) y2 σ → W p l e (headSpec (ws_ yX8_give cX8_give 3 none) rm_Index_give).room st m args below meth c H locs 0 0 (MQ below (QcV w Q) args st 0 0 (wA w)) (F0 m 7 ls []) := by
  intro y2 σ H locs ls ry2 hl hW hS h
  obtain ⟨fu, h⟩ := h
  induction fu generalizing y2 σ H locs ls with
  | zero => exact h.elim
  | succ fu ih =>
    exact wk_Index_give_L7B X hr hlk hT hV ho rx1 (lq1 (wp_Index_give_L7 (wc w) (wtv w) o x1 Q) fu) (fun y2 σ H locs ls ry2 hl hW hS h => ih y2 σ H locs ls ry2 hl hW hS h) y2 σ H locs ls ry2 hl hW hS h
set_option maxHeartbeats 4000000 in
set_option maxRecDepth 100000 in
theorem met_Index_give (l : Launch) {w : Wp} (hV : Hvl w) (o : Int) (x1 : Int) (Q : St → Prop) (σ : St) (ho : 0 ≤ o ∧ o < 2) (rx1 : rK x1) (h : wp_Index_give (wc w) (wtv w) o x1 Q σ) : Met l yX8_give (ws_ yX8_give cX8_give 3 none) rm_Index_give (PcW w σ [.ref (wad w 6 o), va_rf (knO w x1)]) (QcV w Q) 0 0 (wA w) := by
  refine Met.ofW (cc := cX8_give) (maxL := 3) (ret := none) (by decide) rfl ?_
  intro p e st m args below meth c s₁ B hml hv
  obtain ⟨hargs, hW, hT⟩ := hv
  have X : CallFix p m c cX8_give 3 st _ lw_all RX8 := ⟨B.exec, B.bytes, hml, findClass_of_methodNamed B.named, fun w h => atoms_spec (ws := ws_ yX8_give cX8_give 3 none) B.pre w (List.mem_cons_of_mem _ h)⟩
  have hr := B.returns
  have hlk := B.notSynchronized
  have hS : va_S (wA w) st.heap st.heap [] := va_S.rf
  have vl6_o : vl w 6 o := hV.hv 6 rfl ⟨by omega, by show _ < (2 : Int); omega⟩
  have hl := lv_entry ([.ref (wad w 6 o), va_rf (knO w x1)]) (n := 3) (by simp [lg_sl, catK, catI, catR, catL])
  have hfr := lg_entry_eq m ([.ref (wad w 6 o), va_rf (knO w x1)]) 3
  rw [← hargs] at hfr
  rw [hfr]
  generalize (lg_sl ([.ref (wad w 6 o), va_rf (knO w x1)]) ++ List.replicate (3 - (lg_sl ([.ref (wad w 6 o), va_rf (knO w x1)])).length) Slot.unset).toArray = ls at hl ⊢
  simp [lv_args, catK, catI, catR, catL] at hl
  have hl : lv_has ls 3 [(0, .ref (wad w 6 o)), (1, va_rf (knO w x1))] := hl
  unfold wp_Index_give at h
  refine lv_aload_n X.1 X.2.1 dX8_give_0 rfl (lv_at hl 0 rfl) ?_
  refine w_kload_n (w := w) X dX8_give_1 rfl (lv_at hl 1 rfl) ?_
  refine wr_V (rV (As := [va_rf (knO w x1)]) (rest := []) X hT hW hS (met_Index_touch l (w := w) hV o x1 _ σ (by omega) rx1 h) (cwV 1 X.2.2.2.2 (lw_V q930 q932 qs15 q139 q933) rfl rfl rfl (by decide +kernel) ⟨Nat.le_of_ble_eq_true rfl, Nat.le_of_ble_eq_true rfl⟩) vl6_o (by decide) rfl rfl hl.1 rfl (by first | exact Nat.le_of_ble_eq_true rfl | simp [catK, catI, catR, catL]) dX8_give_2 ⟨Nat.le_refl _, Nat.le_refl _⟩) hS (fun σ_21 H locs rkσ_21 h hWσ_21 hS => ?_)
  have h := h rkσ_21
  refine lv_iconst (v := oI 0) X.1 X.2.1 dX8_give_5 rfl ?_
  refine lv_istore_n (i := 2) (lv' := [(2, .int (oI 0)), (0, .ref (wad w 6 o)), (1, va_rf (knO w x1))]) X.1 X.2.1 dX8_give_6 rfl hl (by decide) (by first | rfl | simp [catK, catI, catR, catL]) (fun ls hl => ?_)
  exact wk_Index_give_L7 X hr hlk hT hV ho rx1 0 σ_21 _ _ _ rZ_0.i (lv_sub hl [1, 2, 0] rfl) hWσ_21 hS h
/-! Index.mend(LNandHouse$Knot;I)V -/
set_option maxHeartbeats 4000000 in
set_option maxRecDepth 100000 in
theorem wk_Index_mend_L113B {p : Program} {l : Launch} {e : Env} {st : State} {m : MethodId} {args : Array Value} {below : List Frame} {meth : Method} {c : Code} {w : Wp} {o : Int} {x1 : Int} {x2 : Int} {Q : St → Prop} (X : CallFix p m c cX8_mend 7 st args lw_all RX8) (hr : meth.sig.returnType = none) (hlk : meth.locks = false) (hT : Tb w st) (hV : Hvl w) (ho : 0 ≤ o ∧ o < 2) (rx1 : rK x1) (rx2 : rI x2) (K195 : Int → Int → Int → St → Prop) (K113 : Int → Int → Int → St → Prop) (hK195 : ∀ (y3 y4 y5 : Int) (σ : St) (H : Heap) (locs : List Loc) (ls : Array Slot), rK y3 → rK y4 → rI y5 → lv_has ls 7 [(1, va_rf (knO w x1)), (2, .int (oI x2)), (3, va_rf (knO w y3)), (4, va_rf (knO w y4)), (5, .int (oI y5))] → Wo w σ H → va_S (wA w) st.heap H locs → K195 y3 y4 y5 σ → W p l e (headSpec (ws_ yX8_mend cX8_mend 7 none) rm_Index_mend).room st m args below meth c H locs 0 0 (MQ below (QcV w Q) args st 0 0 (wA w)) (F0 m 195 ls [])) (hK113 : ∀ (y3 y4 y5 : Int) (σ : St) (H : Heap) (locs : List Loc) (ls : Array Slot), rK y3 → rK y4 → rI y5 → lv_has ls 7 [(1, va_rf (knO w x1)), (2, .int (oI x2)), (3, va_rf (knO w y3)), (4, va_rf (knO w y4)), (5, .int (oI y5))] → Wo w σ H → va_S (wA w) st.heap H locs → K113 y3 y4 y5 σ → W p l e (headSpec (ws_ yX8_mend cX8_mend 7 none) rm_Index_mend).room st m args below meth c H locs 0 0 (MQ below (QcV w Q) args st 0 0 (wA w)) (F0 m 113 ls [])) : ∀ (y3 y4 y5 : Int) (σ : St) (H : Heap) (locs : List Loc) (ls : Array Slot), rK y3 → rK y4 → rI y5 → lv_has ls 7 [(1, va_rf (knO w x1)), (2, .int (oI x2)), (3, va_rf (knO w y3)), (4, va_rf (knO w y4)), (5, .int (oI y5))] → Wo w σ H → va_S (wA w) st.heap H locs → wp_Index_mend_L113 (wc w) (wtv w) o x1 x2 Q K195 K113 y3 y4 y5 σ → W p l e (headSpec (ws_ yX8_mend cX8_mend 7 none) rm_Index_mend).room st m args below meth c H locs 0 0 (MQ below (QcV w Q) args st 0 0 (wA w)) (F0 m 113 ls []) := by

  intro y3 y4 y5 σ H locs ls ry3 ry4 ry5 hl hW hS h
  unfold wp_Index_mend_L113 at h
  refine w_kload_n (w := w) X dX8_mend_113 rfl (lv_at hl 2 rfl) ?_
  obtain ⟨hz_87, h⟩ := h
  rw [knR hz_87]
  refine wg (v := .int (oI (gI σ 577 y3))) X hT hW 9 1 577 (hV.hv 9 rfl ⟨hz_87, ry3.2⟩) rfl rfl (by decide) rfl (by decide) in_X9 q387 rfl dX8_mend_114 ?_
  refine lv_iload X.1 X.2.1 dX8_mend_117 (lv_at hl 4 rfl) ?_
  refine lv_iconst (v := oI 2) X.1 X.2.1 dX8_mend_119 rfl ?_
  refine w_idiv X ry5 ((rB_lit 2 (by decide)).i) (by decide) dX8_mend_120 ?_
  refine w_icmp_ge (tgt := 195) X (hW.r.i 577 y3 rfl) (jdv_r _ _) dX8_mend_121 (by decide) (fun hc => ?_) (fun hc => ?_)
  · have h := h.1 hc
    exact hK195 y3 y4 y5 σ _ _ _ ry3 ry4 ry5 (lv_sub hl [0, 1, 2, 3, 4] rfl) hW hS h
  · have h := h.2 hc
    refine w_kload_n (w := w) X dX8_mend_124 rfl (lv_at hl 2 rfl) ?_
    refine w_kload_n (w := w) X dX8_mend_125 rfl (lv_at hl 2 rfl) ?_
    refine lv_dup X.1 X.2.1 dX8_mend_126 (catK w _) ?_
    rw [knR hz_87]
    refine wg (v := .int (oI (gI σ 577 y3))) X hT hW 9 1 577 (hV.hv 9 rfl ⟨hz_87, ry3.2⟩) rfl rfl (by decide) rfl (by decide) in_X9 q387 rfl dX8_mend_127 ?_
    refine lv_dup_x1 X.1 X.2.1 dX8_mend_130 rfl rfl ?_
    refine lv_iconst (v := oI 1) X.1 X.2.1 dX8_mend_131 rfl ?_
    refine w_iadd X dX8_mend_132 ?_
    refine wput (z := w32 ((gI σ 577 y3) + 1)) X hT hW hS 9 1 577 (hV.hv 9 rfl ⟨hz_87, ry3.2⟩) rfl rfl (by decide) rfl (by decide) in_X9 tyX9 tyX9_ok nmX9 q387 rfl rfl (w32_r _) (fv0 w rfl) rfl rfl dX8_mend_133 (fun H locs hN hS => ?_)
    obtain ⟨σ_88, eσ_88⟩ : ∃ x, x = sI σ 577 y3 (w32 ((gI σ 577 y3) + 1)) := ⟨_, rfl⟩
    have hWσ_88 : Wo w σ_88 H := eσ_88 ▸ hN
    have h := h σ_88 eσ_88
    clear hN
    refine w_kload (w := w) X dX8_mend_136 (lv_at hl 3 rfl) ?_
    refine lv_iconst (v := oI 0) X.1 X.2.1 dX8_mend_138 rfl ?_
    refine wr_V (rV (As := [.int (oI (gI σ 577 y3)), va_rf (knO w y4), .int (oI 0)]) (rest := []) X hT hWσ_88 hS (met_Knot_take l (w := w) hV y3 (gI σ 577 y3) y4 0 _ σ_88 ⟨hz_87, ry3.2⟩ (hW.r.i 577 y3 rfl) ry4 rZ_0.i h) (cwV 3 X.2.2.2.2 (lw_V q954 q943 q944 q140 q945) rfl rfl rfl (by decide +kernel) ⟨Nat.le_of_ble_eq_true rfl, Nat.le_of_ble_eq_true rfl⟩) (hV.hv 9 rfl ⟨hz_87, ry3.2⟩) (by decide) rfl rfl hl.1 rfl (by first | exact Nat.le_of_ble_eq_true rfl | simp [catK, catI, catR, catL]) dX8_mend_139 ⟨Nat.le_refl _, Nat.le_refl _⟩) hS (fun σ_90 H locs rkσ_90 h hWσ_90 hS => ?_)
    have h := h rkσ_90
    refine w_kload (w := w) X dX8_mend_142 (lv_at hl 3 rfl) ?_
    refine lv_iconst (v := oI 0) X.1 X.2.1 dX8_mend_144 rfl ?_
    obtain ⟨hz_91, h⟩ := h
    refine wr_V (rV (As := [.int (oI 0)]) (rest := []) X hT hWσ_90 hS (met_Knot_leave l (w := w) hV y4 0 _ σ_90 ⟨hz_91, ry4.2⟩ rZ_0.i h) (cwV 1 X.2.2.2.2 (lw_V q1368 q1369 q1370 q140 q1371) rfl rfl rfl (by decide +kernel) ⟨Nat.le_of_ble_eq_true rfl, Nat.le_of_ble_eq_true rfl⟩) (hV.hv 9 rfl ⟨hz_91, ry4.2⟩) (by decide) rfl rfl hl.1 (by simp only [knR hz_91]; rfl) (by first | exact Nat.le_of_ble_eq_true rfl | simp [catK, catI, catR, catL]) dX8_mend_145 ⟨Nat.le_refl _, Nat.le_refl _⟩) hS (fun σ_93 H locs rkσ_93 h hWσ_93 hS => ?_)
    have h := h rkσ_93
    refine lv_goto (tgt := 113) X.1 X.2.1 dX8_mend_148 (by decide) ?_
    exact hK113 y3 y4 y5 σ_93 _ _ _ ry3 ry4 ry5 (lv_sub hl [0, 1, 2, 3, 4] rfl) hWσ_93 hS h
theorem wk_Index_mend_L113 {p : Program} {l : Launch} {e : Env} {st : State} {m : MethodId} {args : Array Value} {below : List Frame} {meth : Method} {c : Code} {w : Wp} {o : Int} {x1 : Int} {x2 : Int} {Q : St → Prop} (X : CallFix p m c cX8_mend 7 st args lw_all RX8) (hr : meth.sig.returnType = none) (hlk : meth.locks = false) (hT : Tb w st) (hV : Hvl w) (ho : 0 ≤ o ∧ o < 2) (rx1 : rK x1) (rx2 : rI x2) (K195 : Int → Int → Int → St → Prop) (hK195 : ∀ (y3 y4 y5 : Int) (σ : St) (H : Heap) (locs : List Loc) (ls : Array Slot), rK y3 → rK y4 → rI y5 → lv_has ls 7 [(1, va_rf (knO w x1)), (2, .int (oI x2)), (3, va_rf (knO w y3)), (4, va_rf (knO w y4)), (5, .int (oI y5))] → Wo w σ H → va_S (wA w) st.heap H locs → K195 y3 y4 y5 σ → W p l e (headSpec (ws_ yX8_mend cX8_mend 7 none) rm_Index_mend).room st m args below meth c H locs 0 0 (MQ below (QcV w Q) args st 0 0 (wA w)) (F0 m 195 ls [])) : ∀ (y3 y4 y5 : Int) (σ : St) (H : Heap) (locs : List Loc) (ls : Array Slot), rK y3 → rK y4 → rI y5 → lv_has ls 7 [(1, va_rf (knO w x1)), (2, .int (oI x2)), (3, va_rf (knO w y3)), (4, va_rf (knO w y4)), (5, .int (oI y5))] → Wo w σ H → va_S (wA w) st.heap H locs → lQ3 (wp_Index_mend_L113 (wc w) (wtv w) o x1 x2 Q K195) y3 y4 y5 σ → W p l e (headSpec (ws_ yX8_mend cX8_mend 7 none) rm_Index_mend).room st m args below meth c H locs 0 0 (MQ below (QcV w Q) args st 0 0 (wA w)) (F0 m 113 ls []) := by
  intro y3 y4 y5 σ H locs ls ry3 ry4 ry5 hl hW hS h
  obtain ⟨fu, h⟩ := h
  induction fu generalizing y3 y4 y5 σ H locs ls with
  | zero => exact h.elim
  | succ fu ih =>
    exact wk_Index_mend_L113B X hr hlk hT hV ho rx1 rx2 K195 (lq3 (wp_Index_mend_L113 (wc w) (wtv w) o x1 x2 Q K195) fu) hK195 (fun y3 y4 y5 σ H locs ls ry3 ry4 ry5 hl hW hS h => ih y3 y4 y5 σ H locs ls ry3 ry4 ry5 hl hW hS h) y3 y4 y5 σ H locs ls ry3 ry4 ry5 hl hW hS h
set_option maxHeartbeats 4000000 in
set_option maxRecDepth 100000 in
theorem wk_Index_mend_L50B {p : Program} {l : Launch} {e : Env} {st : State} {m : MethodId} {args : Array Value} {below : List Frame} {meth : Method} {c : Code} {w : Wp} {o : Int} {x1 : Int} {x2 : Int} {Q : St → Prop} (X : CallFix p m c cX8_mend 7 st args lw_all RX8) (hr : meth.sig.returnType = none) (hlk : meth.locks = false) (hT : Tb w st) (hV : Hvl w) (ho : 0 ≤ o ∧ o < 2) (rx1 : rK x1) (rx2 : rI x2) (K195 : Int → Int → Int → St → Prop) (K50 : Int → Int → Int → Int → St → Prop) (hK195 : ∀ (y3 y4 y5 : Int) (σ : St) (H : Heap) (locs : List Loc) (ls : Array Slot), rK y3 → rK y4 → rI y5 → lv_has ls 7 [(1, va_rf (knO w x1)), (2, .int (oI x2)), (3, va_rf (knO w y3)), (4, va_rf (knO w y4)), (5, .int (oI y5))] → Wo w σ H → va_S (wA w) st.heap H locs → K195 y3 y4 y5 σ → W p l e (headSpec (ws_ yX8_mend cX8_mend 7 none) rm_Index_mend).room st m args below meth c H locs 0 0 (MQ below (QcV w Q) args st 0 0 (wA w)) (F0 m 195 ls [])) (hK50 : ∀ (y3 y4 y5 y6 : Int) (σ : St) (H : Heap) (locs : List Loc) (ls : Array Slot), rK y3 → rK y4 → rI y5 → rI y6 → lv_has ls 7 [(0, .ref (wad w 6 o)), (1, va_rf (knO w x1)), (2, .int (oI x2)), (3, va_rf (knO w y3)), (4, va_rf (knO w y4)), (5, .int (oI y5)), (6, .int (oI y6))] → Wo w σ H → va_S (wA w) st.heap H locs → K50 y3 y4 y5 y6 σ → W p l e (headSpec (ws_ yX8_mend cX8_mend 7 none) rm_Index_mend).room st m args below meth c H locs 0 0 (MQ below (QcV w Q) args st 0 0 (wA w)) (F0 m 50 ls [])) : ∀ (y3 y4 y5 y6 : Int) (σ : St) (H : Heap) (locs : List Loc) (ls : Array Slot), rK y3 → rK y4 → rI y5 → rI y6 → lv_has ls 7 [(0, .ref (wad w 6 o)), (1, va_rf (knO w x1)), (2, .int (oI x2)), (3, va_rf (knO w y3)), (4, va_rf (knO w y4)), (5, .int (oI y5)), (6, .int (oI y6))] → Wo w σ H → va_S (wA w) st.heap H locs → wp_Index_mend_L50 (wc w) (wtv w) o x1 x2 Q K195 K50 y3 y4 y5 y6 σ → W p l e (headSpec (ws_ yX8_mend cX8_mend 7 none) rm_Index_mend).room st m args below meth c H locs 0 0 (MQ below (QcV w Q) args st 0 0 (wA w)) (F0 m 50 ls []) := by
  have vl6_o : vl w 6 o := hV.hv 6 rfl ⟨by omega, by show _ < (2 : Int); omega⟩
  intro y3 y4 y5 y6 σ H locs ls ry3 ry4 ry5 ry6 hl hW hS h
  unfold wp_Index_mend_L50 at h
  refine lv_iload X.1 X.2.1 dX8_mend_50 (lv_at hl 6 rfl) ?_
  refine w_kload (w := w) X dX8_mend_52 (lv_at hl 4 rfl) ?_
  obtain ⟨hz_94, h⟩ := h
  rw [knR hz_94]
  refine wg (v := .int (oI (gI σ 577 y4))) X hT hW 9 1 577 (hV.hv 9 rfl ⟨hz_94, ry4.2⟩) rfl rfl (by decide) rfl (by decide) in_X9 q387 rfl dX8_mend_54 ?_
  refine w_icmp_ge (tgt := 85) X ry6 (hW.r.i 577 y4 rfl) dX8_mend_57 (by decide) (fun hc => ?_) (fun hc => ?_)
  · have h := h.1 hc
    refine lv_aload_n X.1 X.2.1 dX8_mend_85 rfl (lv_at hl 0 rfl) ?_
    refine w_kload (w := w) X dX8_mend_86 (lv_at hl 4 rfl) ?_
    refine wr_V (rV (As := [va_rf (knO w y4)]) (rest := []) X hT hW hS (met_Index_give l (w := w) hV o y4 _ σ (by omega) ry4 h) (cwV 1 X.2.2.2.2 (lw_V q1376 q1378 qs52 q139 q1379) rfl rfl rfl (by decide +kernel) ⟨Nat.le_of_ble_eq_true rfl, Nat.le_of_ble_eq_true rfl⟩) vl6_o (by decide) rfl rfl hl.1 rfl (by first | exact Nat.le_of_ble_eq_true rfl | simp [catK, catI, catR, catL]) dX8_mend_88 ⟨Nat.le_refl _, Nat.le_refl _⟩) hS (fun σ_96 H locs rkσ_96 h hWσ_96 hS => ?_)
    have h := h rkσ_96
    refine w_kload_n (w := w) X dX8_mend_91 rfl (lv_at hl 1 rfl) ?_
    refine lv_iload_n X.1 X.2.1 dX8_mend_92 rfl (lv_at hl 2 rfl) ?_
    refine lv_iconst (v := oI 1) X.1 X.2.1 dX8_mend_93 rfl ?_
    refine w_iadd X dX8_mend_94 ?_
    obtain ⟨hz_97, h⟩ := h
    refine wr_V (rV (As := [.int (oI (w32 (x2 + 1)))]) (rest := []) X hT hWσ_96 hS (met_Knot_leave l (w := w) hV x1 (w32 (x2 + 1)) _ σ_96 ⟨hz_97, rx1.2⟩ (w32_r _) h) (cwV 1 X.2.2.2.2 (lw_V q1368 q1369 q1370 q140 q1371) rfl rfl rfl (by decide +kernel) ⟨Nat.le_of_ble_eq_true rfl, Nat.le_of_ble_eq_true rfl⟩) (hV.hv 9 rfl ⟨hz_97, rx1.2⟩) (by decide) rfl rfl hl.1 (by simp only [knR hz_97]; rfl) (by first | exact Nat.le_of_ble_eq_true rfl | simp [catK, catI, catR, catL]) dX8_mend_95 ⟨Nat.le_refl _, Nat.le_refl _⟩) hS (fun σ_99 H locs rkσ_99 h hWσ_99 hS => ?_)
    have h := h rkσ_99
    refine lv_goto (tgt := 195) X.1 X.2.1 dX8_mend_98 (by decide) ?_
    exact hK195 y3 y4 y5 σ_99 _ _ _ ry3 ry4 ry5 (lv_sub hl [1, 2, 3, 4, 5] rfl) hWσ_99 hS h
  · have h := h.2 hc
    refine w_kload_n (w := w) X dX8_mend_60 rfl (lv_at hl 3 rfl) ?_
    refine w_kload_n (w := w) X dX8_mend_61 rfl (lv_at hl 3 rfl) ?_
    refine lv_dup X.1 X.2.1 dX8_mend_62 (catK w _) ?_
    obtain ⟨hz_100, h⟩ := h
    rw [knR hz_100]
    refine wg (v := .int (oI (gI σ 577 y3))) X hT hW 9 1 577 (hV.hv 9 rfl ⟨hz_100, ry3.2⟩) rfl rfl (by decide) rfl (by decide) in_X9 q387 rfl dX8_mend_63 ?_
    refine lv_dup_x1 X.1 X.2.1 dX8_mend_66 rfl rfl ?_
    refine lv_iconst (v := oI 1) X.1 X.2.1 dX8_mend_67 rfl ?_
    refine w_iadd X dX8_mend_68 ?_
    refine wput (z := w32 ((gI σ 577 y3) + 1)) X hT hW hS 9 1 577 (hV.hv 9 rfl ⟨hz_100, ry3.2⟩) rfl rfl (by decide) rfl (by decide) in_X9 tyX9 tyX9_ok nmX9 q387 rfl rfl (w32_r _) (fv0 w rfl) rfl rfl dX8_mend_69 (fun H locs hN hS => ?_)
    obtain ⟨σ_101, eσ_101⟩ : ∃ x, x = sI σ 577 y3 (w32 ((gI σ 577 y3) + 1)) := ⟨_, rfl⟩
    have hWσ_101 : Wo w σ_101 H := eσ_101 ▸ hN
    have h := h σ_101 eσ_101
    clear hN
    refine w_kload (w := w) X dX8_mend_72 (lv_at hl 4 rfl) ?_
    refine lv_iload X.1 X.2.1 dX8_mend_74 (lv_at hl 6 rfl) ?_
    refine wr_V (rV (As := [.int (oI (gI σ 577 y3)), va_rf (knO w y4), .int (oI y6)]) (rest := []) X hT hWσ_101 hS (met_Knot_take l (w := w) hV y3 (gI σ 577 y3) y4 y6 _ σ_101 ⟨hz_100, ry3.2⟩ (hW.r.i 577 y3 rfl) ry4 ry6 h) (cwV 3 X.2.2.2.2 (lw_V q954 q943 q944 q140 q945) rfl rfl rfl (by decide +kernel) ⟨Nat.le_of_ble_eq_true rfl, Nat.le_of_ble_eq_true rfl⟩) (hV.hv 9 rfl ⟨hz_100, ry3.2⟩) (by decide) rfl rfl hl.1 rfl (by first | exact Nat.le_of_ble_eq_true rfl | simp [catK, catI, catR, catL]) dX8_mend_76 ⟨Nat.le_refl _, Nat.le_refl _⟩) hS (fun σ_103 H locs rkσ_103 h hWσ_103 hS => ?_)
    have h := h rkσ_103
    obtain ⟨y6_104, ey6_104⟩ : ∃ y : Int, y = w32 (y6 + 1) := ⟨_, rfl⟩
    have h := h y6_104 ey6_104
    have ry6_104 : rI y6_104 := by rw [ey6_104]; exact w32_r _
    refine lv_iinc (v := oI y6_104) (lv' := [(6, .int (oI y6_104)), (0, .ref (wad w 6 o)), (1, va_rf (knO w x1)), (2, .int (oI x2)), (3, va_rf (knO w y3)), (4, va_rf (knO w y4)), (5, .int (oI y5))]) X.1 X.2.1 dX8_mend_79 hl (k := 6) rfl (by rw [ey6_104]; exact oI_add _ _) (by decide) (by first | rfl | simp [catK, catI, catR, catL]) (fun ls hl => ?_)
    refine lv_goto (tgt := 50) X.1 X.2.1 dX8_mend_82 (by decide) ?_
    exact hK50 y3 y4 y5 y6_104 σ_103 _ _ _ ry3 ry4 ry5 ry6_104 (lv_sub hl [1, 2, 3, 4, 5, 6, 0] rfl) hWσ_103 hS h
theorem wk_Index_mend_L50 {p : Program} {l : Launch} {e : Env} {st : State} {m : MethodId} {args : Array Value} {below : List Frame} {meth : Method} {c : Code} {w : Wp} {o : Int} {x1 : Int} {x2 : Int} {Q : St → Prop} (X : CallFix p m c cX8_mend 7 st args lw_all RX8) (hr : meth.sig.returnType = none) (hlk : meth.locks = false) (hT : Tb w st) (hV : Hvl w) (ho : 0 ≤ o ∧ o < 2) (rx1 : rK x1) (rx2 : rI x2) (K195 : Int → Int → Int → St → Prop) (hK195 : ∀ (y3 y4 y5 : Int) (σ : St) (H : Heap) (locs : List Loc) (ls : Array Slot), rK y3 → rK y4 → rI y5 → lv_has ls 7 [(1, va_rf (knO w x1)), (2, .int (oI x2)), (3, va_rf (knO w y3)), (4, va_rf (knO w y4)), (5, .int (oI y5))] → Wo w σ H → va_S (wA w) st.heap H locs → K195 y3 y4 y5 σ → W p l e (headSpec (ws_ yX8_mend cX8_mend 7 none) rm_Index_mend).room st m args below meth c H locs 0 0 (MQ below (QcV w Q) args st 0 0 (wA w)) (F0 m 195 ls [])) : ∀ (y3 y4 y5 y6 : Int) (σ : St) (H : Heap) (locs : List Loc) (ls : Array Slot), rK y3 → rK y4 → rI y5 → rI y6 → lv_has ls 7 [(0, .ref (wad w 6 o)), (1, va_rf (knO w x1)), (2, .int (oI x2)), (3, va_rf (knO w y3)), (4, va_rf (knO w y4)), (5, .int (oI y5)), (6, .int (oI y6))] → Wo w σ H → va_S (wA w) st.heap H locs → lQ4 (wp_Index_mend_L50 (wc w) (wtv w) o x1 x2 Q K195) y3 y4 y5 y6 σ → W p l e (headSpec (ws_ yX8_mend cX8_mend 7 none) rm_Index_mend).room st m args below meth c H locs 0 0 (MQ below (QcV w Q) args st 0 0 (wA w)) (F0 m 50 ls []) := by
  intro y3 y4 y5 y6 σ H locs ls ry3 ry4 ry5 ry6 hl hW hS h
  obtain ⟨fu, h⟩ := h
  induction fu generalizing y3 y4 y5 y6 σ H locs ls with
  | zero => exact h.elim
  | succ fu ih =>
    exact wk_Index_mend_L50B X hr hlk hT hV ho rx1 rx2 K195 (lq4 (wp_Index_mend_L50 (wc w) (wtv w) o x1 x2 Q K195) fu) hK195 (fun y3 y4 y5 y6 σ H locs ls ry3 ry4 ry5 ry6 hl hW hS h => ih y3 y4 y5 y6 σ H locs ls ry3 ry4 ry5 ry6 hl hW hS h) y3 y4 y5 y6 σ H locs ls ry3 ry4 ry5 ry6 hl hW hS h
set_option maxHeartbeats 4000000 in
set_option maxRecDepth 100000 in
theorem wk_Index_mend_b195 {p : Program} {l : Launch} {e : Env} {st : State} {m : MethodId} {args : Array Value} {below : List Frame} {meth : Method} {c : Code} {w : Wp} {o : Int} {x1 : Int} {x2 : Int} {Q : St → Prop} (X : CallFix p m c cX8_mend 7 st args lw_all RX8) (hr : meth.sig.returnType = none) (hlk : meth.locks = false) (hT : Tb w st) (hV : Hvl w) (ho : 0 ≤ o ∧ o < 2) (rx1 : rK x1) (rx2 : rI x2) : ∀ (y3 y4 y5 : Int) (σ : St) (H : Heap) (locs : List Loc) (ls : Array Slot), rK y3 → rK y4 → rI y5 → lv_has ls 7 [(1, va_rf (knO w x1)), (2, .int (oI x2)), (3, va_rf (knO w y3)), (4, va_rf (knO w y4)), (5, .int (oI y5))] → Wo w σ H → va_S (wA w) st.heap H locs → wp_Index_mend_b195 (wc w) (wtv w) o x1 x2 Q y3 y4 y5 σ → W p l e (headSpec (ws_ yX8_mend cX8_mend 7 none) rm_Index_mend).room st m args below meth c H locs 0 0 (MQ below (QcV w Q) args st 0 0 (wA w)) (F0 m 195 ls []) := by

  intro y3 y4 y5 σ H locs ls ry3 ry4 ry5 hl hW hS h
  unfold wp_Index_mend_b195 at h
  refine w_kload_n (w := w) X dX8_mend_195 rfl (lv_at hl 0 rfl) ?_
  refine lv_iload_n X.1 X.2.1 dX8_mend_196 rfl (lv_at hl 1 rfl) ?_
  refine w_kload_n (w := w) X dX8_mend_197 rfl (lv_at hl 2 rfl) ?_
  obtain ⟨hz_105, h⟩ := h
  rw [knR hz_105]
  refine wg (v := .ref (wad w 578 y3)) X hT hW 9 2 578 (hV.hv 9 rfl ⟨hz_105, ry3.2⟩) rfl rfl (by decide) rfl (by decide) in_X9 q390 rfl dX8_mend_198 ?_
  refine lv_iconst (v := oI 0) X.1 X.2.1 dX8_mend_201 rfl ?_
  obtain ⟨bi, h⟩ := h
  refine w_lald (n := 9) X hT hW 578 (hV.hv 578 rfl ⟨hz_105, ry3.2⟩) (by decide) rfl rfl bi dX8_mend_202 ?_
  refine w_kload_n (w := w) X dX8_mend_203 rfl (lv_at hl 2 rfl) ?_
  rw [knR hz_105]
  refine wg (v := .ref (wad w 579 y3)) X hT hW 9 3 579 (hV.hv 9 rfl ⟨hz_105, ry3.2⟩) rfl rfl (by decide) rfl (by decide) in_X9 q393 rfl dX8_mend_204 ?_
  refine lv_iconst (v := oI 0) X.1 X.2.1 dX8_mend_207 rfl ?_
  obtain ⟨bi, h⟩ := h
  refine w_lald (n := 9) X hT hW 579 (hV.hv 579 rfl ⟨hz_105, ry3.2⟩) (by decide) rfl rfl bi dX8_mend_208 ?_
  refine w_kload_n (w := w) X dX8_mend_209 rfl (lv_at hl 2 rfl) ?_
  obtain ⟨hz_106, h⟩ := h
  refine wr_V (rV (As := [.int (oI x2), .long (oL (gA σ 578 y3 0)), .long (oL (gA σ 579 y3 0)), va_rf (knO w y3)]) (rest := []) X hT hW hS (met_Knot_set l (w := w) hV x1 x2 (gA σ 578 y3 0) (gA σ 579 y3 0) y3 _ σ ⟨hz_106, rx1.2⟩ rx2 (hW.r.aj 578 y3 0 rfl) (hW.r.aj 579 y3 0 rfl) ry3 h) (cwV 4 X.2.2.2.2 (lw_V q946 q947 q948 q140 q949) rfl rfl rfl (by decide +kernel) ⟨Nat.le_of_ble_eq_true rfl, Nat.le_of_ble_eq_true rfl⟩) (hV.hv 9 rfl ⟨hz_106, rx1.2⟩) (by decide) rfl rfl hl.1 (by simp only [knR hz_106]; rfl) (by first | exact Nat.le_of_ble_eq_true rfl | simp [catK, catI, catR, catL]) dX8_mend_210 ⟨Nat.le_refl _, Nat.le_refl _⟩) hS (fun σ_108 H locs rkσ_108 h hWσ_108 hS => ?_)
  have h := h rkσ_108
  refine lv_iload_n X.1 X.2.1 dX8_mend_213 rfl (lv_at hl 1 rfl) ?_
  refine lv_iconst (v := oI 1) X.1 X.2.1 dX8_mend_214 rfl ?_
  refine w_iadd X dX8_mend_215 ?_
  refine w_kload_n (w := w) X dX8_mend_216 rfl (lv_at hl 0 rfl) ?_
  rw [knR hz_106]
  refine wg (v := .int (oI (gI σ_108 577 x1))) X hT hWσ_108 9 1 577 (hV.hv 9 rfl ⟨hz_106, rx1.2⟩) rfl rfl (by decide) rfl (by decide) in_X9 q387 rfl dX8_mend_217 ?_
  refine w_icmp_ge (tgt := 266) X (w32_r _) (hWσ_108.r.i 577 x1 rfl) dX8_mend_220 (by decide) (fun hc => ?_) (fun hc => ?_)
  · have h := h.1 hc
    exact wret_V X hr hlk hWσ_108 hS h dX8_mend_266
  · have h := h.2 hc
    refine w_kload_n (w := w) X dX8_mend_223 rfl (lv_at hl 0 rfl) ?_
    rw [knR hz_106]
    refine wg (v := .ref (wad w 583 x1)) X hT hWσ_108 9 7 583 (hV.hv 9 rfl ⟨hz_106, rx1.2⟩) rfl rfl (by decide) rfl (by decide) in_X9 q405 rfl dX8_mend_224 ?_
    refine lv_iload_n X.1 X.2.1 dX8_mend_227 rfl (lv_at hl 1 rfl) ?_
    refine lv_iconst (v := oI 1) X.1 X.2.1 dX8_mend_228 rfl ?_
    refine w_iadd X dX8_mend_229 ?_
    obtain ⟨bi, h⟩ := h
    refine w_aald (n := 9) X hT hWσ_108 583 (hV.hv 583 rfl ⟨hz_106, rx1.2⟩) (by decide) rfl rfl bi dX8_mend_230 ?_
    refine w_kload (w := w) X dX8_mend_231 (lv_at hl 3 rfl) ?_
    refine w_kacmp_ne (w := w) (tgt := 266) X hV hWσ_108 (hWσ_108.r.ak 583 x1 (w32 (x2 + 1)) rfl) ry4 dX8_mend_233 (by decide) (fun hc => ?_) (fun hc => ?_)
    · have h := h.1 hc
      exact wret_V X hr hlk hWσ_108 hS h dX8_mend_266
    · have h := h.2 hc
      refine lv_iload X.1 X.2.1 dX8_mend_236 (lv_at hl 4 rfl) ?_
      refine lv_bipush (v := oI 8) X.1 X.2.1 dX8_mend_238 (by decide) ?_
      refine w_icmp_le (tgt := 266) X ry5 ((rB_lit 8 (by decide)).i) dX8_mend_240 (by decide) (fun hc => ?_) (fun hc => ?_)
      · have h := h.1 hc
        exact wret_V X hr hlk hWσ_108 hS h dX8_mend_266
      · have h := h.2 hc
        refine w_kload_n (w := w) X dX8_mend_243 rfl (lv_at hl 0 rfl) ?_
        refine lv_iload_n X.1 X.2.1 dX8_mend_244 rfl (lv_at hl 1 rfl) ?_
        refine lv_iconst (v := oI 1) X.1 X.2.1 dX8_mend_245 rfl ?_
        refine w_iadd X dX8_mend_246 ?_
        refine w_kload (w := w) X dX8_mend_247 (lv_at hl 3 rfl) ?_
        obtain ⟨hz_109, h⟩ := h
        rw [knR hz_109]
        refine wg (v := .ref (wad w 578 y4)) X hT hWσ_108 9 2 578 (hV.hv 9 rfl ⟨hz_109, ry4.2⟩) rfl rfl (by decide) rfl (by decide) in_X9 q390 rfl dX8_mend_249 ?_
        refine lv_iconst (v := oI 0) X.1 X.2.1 dX8_mend_252 rfl ?_
        obtain ⟨bi, h⟩ := h
        refine w_lald (n := 9) X hT hWσ_108 578 (hV.hv 578 rfl ⟨hz_109, ry4.2⟩) (by decide) rfl rfl bi dX8_mend_253 ?_
        refine w_kload (w := w) X dX8_mend_254 (lv_at hl 3 rfl) ?_
        rw [knR hz_109]
        refine wg (v := .ref (wad w 579 y4)) X hT hWσ_108 9 3 579 (hV.hv 9 rfl ⟨hz_109, ry4.2⟩) rfl rfl (by decide) rfl (by decide) in_X9 q393 rfl dX8_mend_256 ?_
        refine lv_iconst (v := oI 0) X.1 X.2.1 dX8_mend_259 rfl ?_
        obtain ⟨bi, h⟩ := h
        refine w_lald (n := 9) X hT hWσ_108 579 (hV.hv 579 rfl ⟨hz_109, ry4.2⟩) (by decide) rfl rfl bi dX8_mend_260 ?_
        refine w_kload (w := w) X dX8_mend_261 (lv_at hl 3 rfl) ?_
        refine wr_V (rV (As := [.int (oI (w32 (x2 + 1))), .long (oL (gA σ_108 578 y4 0)), .long (oL (gA σ_108 579 y4 0)), va_rf (knO w y4)]) (rest := []) X hT hWσ_108 hS (met_Knot_set l (w := w) hV x1 (w32 (x2 + 1)) (gA σ_108 578 y4 0) (gA σ_108 579 y4 0) y4 _ σ_108 ⟨hz_106, rx1.2⟩ (w32_r _) (hWσ_108.r.aj 578 y4 0 rfl) (hWσ_108.r.aj 579 y4 0 rfl) ry4 h) (cwV 4 X.2.2.2.2 (lw_V q946 q947 q948 q140 q949) rfl rfl rfl (by decide +kernel) ⟨Nat.le_of_ble_eq_true rfl, Nat.le_of_ble_eq_true rfl⟩) (hV.hv 9 rfl ⟨hz_106, rx1.2⟩) (by decide) rfl rfl hl.1 (by simp only [knR hz_106]; rfl) (by first | exact Nat.le_of_ble_eq_true rfl | simp [catK, catI, catR, catL]) dX8_mend_263 ⟨Nat.le_refl _, Nat.le_refl _⟩) hS (fun σ_111 H locs rkσ_111 h hWσ_111 hS => ?_)
        have h := h rkσ_111
        exact wret_V X hr hlk hWσ_111 hS h dX8_mend_266
set_option maxHeartbeats 4000000 in
set_option maxRecDepth 100000 in
theorem wk_Index_mend_L151B {p : Program} {l : Launch} {e : Env} {st : State} {m : MethodId} {args : Array Value} {below : List Frame} {meth : Method} {c : Code} {w : Wp} {o : Int} {x1 : Int} {x2 : Int} {Q : St → Prop} (X : CallFix p m c cX8_mend 7 st args lw_all RX8) (hr : meth.sig.returnType = none) (hlk : meth.locks = false) (hT : Tb w st) (hV : Hvl w) (ho : 0 ≤ o ∧ o < 2) (rx1 : rK x1) (rx2 : rI x2) (K195 : Int → Int → Int → St → Prop) (K151 : Int → Int → Int → St → Prop) (hK195 : ∀ (y3 y4 y5 : Int) (σ : St) (H : Heap) (locs : List Loc) (ls : Array Slot), rK y3 → rK y4 → rI y5 → lv_has ls 7 [(1, va_rf (knO w x1)), (2, .int (oI x2)), (3, va_rf (knO w y3)), (4, va_rf (knO w y4)), (5, .int (oI y5))] → Wo w σ H → va_S (wA w) st.heap H locs → K195 y3 y4 y5 σ → W p l e (headSpec (ws_ yX8_mend cX8_mend 7 none) rm_Index_mend).room st m args below meth c H locs 0 0 (MQ below (QcV w Q) args st 0 0 (wA w)) (F0 m 195 ls [])) (hK151 : ∀ (y3 y4 y5 : Int) (σ : St) (H : Heap) (locs : List Loc) (ls : Array Slot), rK y3 → rK y4 → rI y5 → lv_has ls 7 [(1, va_rf (knO w x1)), (2, .int (oI x2)), (3, va_rf (knO w y3)), (4, va_rf (knO w y4)), (5, .int (oI y5))] → Wo w σ H → va_S (wA w) st.heap H locs → K151 y3 y4 y5 σ → W p l e (headSpec (ws_ yX8_mend cX8_mend 7 none) rm_Index_mend).room st m args below meth c H locs 0 0 (MQ below (QcV w Q) args st 0 0 (wA w)) (F0 m 151 ls [])) : ∀ (y3 y4 y5 : Int) (σ : St) (H : Heap) (locs : List Loc) (ls : Array Slot), rK y3 → rK y4 → rI y5 → lv_has ls 7 [(1, va_rf (knO w x1)), (2, .int (oI x2)), (3, va_rf (knO w y3)), (4, va_rf (knO w y4)), (5, .int (oI y5))] → Wo w σ H → va_S (wA w) st.heap H locs → wp_Index_mend_L151 (wc w) (wtv w) o x1 x2 Q K195 K151 y3 y4 y5 σ → W p l e (headSpec (ws_ yX8_mend cX8_mend 7 none) rm_Index_mend).room st m args below meth c H locs 0 0 (MQ below (QcV w Q) args st 0 0 (wA w)) (F0 m 151 ls []) := by

  intro y3 y4 y5 σ H locs ls ry3 ry4 ry5 hl hW hS h
  unfold wp_Index_mend_L151 at h
  refine w_kload (w := w) X dX8_mend_151 (lv_at hl 3 rfl) ?_
  obtain ⟨hz_112, h⟩ := h
  rw [knR hz_112]
  refine wg (v := .int (oI (gI σ 577 y4))) X hT hW 9 1 577 (hV.hv 9 rfl ⟨hz_112, ry4.2⟩) rfl rfl (by decide) rfl (by decide) in_X9 q387 rfl dX8_mend_153 ?_
  refine lv_iload X.1 X.2.1 dX8_mend_156 (lv_at hl 4 rfl) ?_
  refine lv_iconst (v := oI 2) X.1 X.2.1 dX8_mend_158 rfl ?_
  refine w_idiv X ry5 ((rB_lit 2 (by decide)).i) (by decide) dX8_mend_159 ?_
  refine w_icmp_ge (tgt := 195) X (hW.r.i 577 y4 rfl) (jdv_r _ _) dX8_mend_160 (by decide) (fun hc => ?_) (fun hc => ?_)
  · have h := h.1 hc
    exact hK195 y3 y4 y5 σ _ _ _ ry3 ry4 ry5 (lv_sub hl [0, 1, 2, 3, 4] rfl) hW hS h
  · have h := h.2 hc
    refine w_kload (w := w) X dX8_mend_163 (lv_at hl 3 rfl) ?_
    refine lv_iconst (v := oI 0) X.1 X.2.1 dX8_mend_165 rfl ?_
    refine wr_V (rV (As := [.int (oI 0)]) (rest := []) X hT hW hS (met_Knot_part l (w := w) hV y4 0 _ σ ⟨hz_112, ry4.2⟩ rZ_0.i h) (cwV 1 X.2.2.2.2 (lw_V q938 q939 q940 q140 q941) rfl rfl rfl (by decide +kernel) ⟨Nat.le_of_ble_eq_true rfl, Nat.le_of_ble_eq_true rfl⟩) (hV.hv 9 rfl ⟨hz_112, ry4.2⟩) (by decide) rfl rfl hl.1 (by simp only [knR hz_112]; rfl) (by first | exact Nat.le_of_ble_eq_true rfl | simp [catK, catI, catR, catL]) dX8_mend_166 ⟨Nat.le_refl _, Nat.le_refl _⟩) hS (fun σ_114 H locs rkσ_114 h hWσ_114 hS => ?_)
    have h := h rkσ_114
    refine w_kload (w := w) X dX8_mend_169 (lv_at hl 3 rfl) ?_
    refine lv_iconst (v := oI 0) X.1 X.2.1 dX8_mend_171 rfl ?_
    refine w_kload_n (w := w) X dX8_mend_172 rfl (lv_at hl 2 rfl) ?_
    refine w_kload_n (w := w) X dX8_mend_173 rfl (lv_at hl 2 rfl) ?_
    obtain ⟨hz_115, h⟩ := h
    rw [knR hz_115]
    refine wg (v := .int (oI (gI σ_114 577 y3))) X hT hWσ_114 9 1 577 (hV.hv 9 rfl ⟨hz_115, ry3.2⟩) rfl rfl (by decide) rfl (by decide) in_X9 q387 rfl dX8_mend_174 ?_
    refine lv_iconst (v := oI 1) X.1 X.2.1 dX8_mend_177 rfl ?_
    refine w_isub X dX8_mend_178 ?_
    refine wr_V (rV (As := [.int (oI 0), va_rf (knO w y3), .int (oI (w32 ((gI σ_114 577 y3) - 1)))]) (rest := []) X hT hWσ_114 hS (met_Knot_take l (w := w) hV y4 0 y3 (w32 ((gI σ_114 577 y3) - 1)) _ σ_114 ⟨hz_112, ry4.2⟩ rZ_0.i ry3 (w32_r _) h) (cwV 3 X.2.2.2.2 (lw_V q954 q943 q944 q140 q945) rfl rfl rfl (by decide +kernel) ⟨Nat.le_of_ble_eq_true rfl, Nat.le_of_ble_eq_true rfl⟩) (hV.hv 9 rfl ⟨hz_112, ry4.2⟩) (by decide) rfl rfl hl.1 (by simp only [knR hz_112, knR hz_115]; rfl) (by first | exact Nat.le_of_ble_eq_true rfl | simp [catK, catI, catR, catL]) dX8_mend_179 ⟨Nat.le_refl _, Nat.le_refl _⟩) hS (fun σ_117 H locs rkσ_117 h hWσ_117 hS => ?_)
    have h := h rkσ_117
    refine w_kload_n (w := w) X dX8_mend_182 rfl (lv_at hl 2 rfl) ?_
    refine w_kload_n (w := w) X dX8_mend_183 rfl (lv_at hl 2 rfl) ?_
    rw [knR hz_115]
    refine wg (v := .int (oI (gI σ_117 577 y3))) X hT hWσ_117 9 1 577 (hV.hv 9 rfl ⟨hz_115, ry3.2⟩) rfl rfl (by decide) rfl (by decide) in_X9 q387 rfl dX8_mend_184 ?_
    refine lv_iconst (v := oI 1) X.1 X.2.1 dX8_mend_187 rfl ?_
    refine w_isub X dX8_mend_188 ?_
    refine wr_V (rV (As := [.int (oI (w32 ((gI σ_117 577 y3) - 1)))]) (rest := []) X hT hWσ_117 hS (met_Knot_leave l (w := w) hV y3 (w32 ((gI σ_117 577 y3) - 1)) _ σ_117 ⟨hz_115, ry3.2⟩ (w32_r _) h) (cwV 1 X.2.2.2.2 (lw_V q1368 q1369 q1370 q140 q1371) rfl rfl rfl (by decide +kernel) ⟨Nat.le_of_ble_eq_true rfl, Nat.le_of_ble_eq_true rfl⟩) (hV.hv 9 rfl ⟨hz_115, ry3.2⟩) (by decide) rfl rfl hl.1 rfl (by first | exact Nat.le_of_ble_eq_true rfl | simp [catK, catI, catR, catL]) dX8_mend_189 ⟨Nat.le_refl _, Nat.le_refl _⟩) hS (fun σ_119 H locs rkσ_119 h hWσ_119 hS => ?_)
    have h := h rkσ_119
    refine lv_goto (tgt := 151) X.1 X.2.1 dX8_mend_192 (by decide) ?_
    exact hK151 y3 y4 y5 σ_119 _ _ _ ry3 ry4 ry5 (lv_sub hl [0, 1, 2, 3, 4] rfl) hWσ_119 hS h
theorem wk_Index_mend_L151 {p : Program} {l : Launch} {e : Env} {st : State} {m : MethodId} {args : Array Value} {below : List Frame} {meth : Method} {c : Code} {w : Wp} {o : Int} {x1 : Int} {x2 : Int} {Q : St → Prop} (X : CallFix p m c cX8_mend 7 st args lw_all RX8) (hr : meth.sig.returnType = none) (hlk : meth.locks = false) (hT : Tb w st) (hV : Hvl w) (ho : 0 ≤ o ∧ o < 2) (rx1 : rK x1) (rx2 : rI x2) (K195 : Int → Int → Int → St → Prop) (hK195 : ∀ (y3 y4 y5 : Int) (σ : St) (H : Heap) (locs : List Loc) (ls : Array Slot), rK y3 → rK y4 → rI y5 → lv_has ls 7 [(1, va_rf (knO w x1)), (2, .int (oI x2)), (3, va_rf (knO w y3)), (4, va_rf (knO w y4)), (5, .int (oI y5))] → Wo w σ H → va_S (wA w) st.heap H locs → K195 y3 y4 y5 σ → W p l e (headSpec (ws_ yX8_mend cX8_mend 7 none) rm_Index_mend).room st m args below meth c H locs 0 0 (MQ below (QcV w Q) args st 0 0 (wA w)) (F0 m 195 ls [])) : ∀ (y3 y4 y5 : Int) (σ : St) (H : Heap) (locs : List Loc) (ls : Array Slot), rK y3 → rK y4 → rI y5 → lv_has ls 7 [(1, va_rf (knO w x1)), (2, .int (oI x2)), (3, va_rf (knO w y3)), (4, va_rf (knO w y4)), (5, .int (oI y5))] → Wo w σ H → va_S (wA w) st.heap H locs → lQ3 (wp_Index_mend_L151 (wc w) (wtv w) o x1 x2 Q K195) y3 y4 y5 σ → W p l e (headSpec (ws_ yX8_mend cX8_mend 7 none) rm_Index_mend).room st m args below meth c H locs 0 0 (MQ below (QcV w Q) args st 0 0 (wA w)) (F0 m 151 ls []) := by
  intro y3 y4 y5 σ H locs ls ry3 ry4 ry5 hl hW hS h
  obtain ⟨fu, h⟩ := h
  induction fu generalizing y3 y4 y5 σ H locs ls with
  | zero => exact h.elim
  | succ fu ih =>
    exact wk_Index_mend_L151B X hr hlk hT hV ho rx1 rx2 K195 (lq3 (wp_Index_mend_L151 (wc w) (wtv w) o x1 x2 Q K195) fu) hK195 (fun y3 y4 y5 σ H locs ls ry3 ry4 ry5 hl hW hS h => ih y3 y4 y5 σ H locs ls ry3 ry4 ry5 hl hW hS h) y3 y4 y5 σ H locs ls ry3 ry4 ry5 hl hW hS h
set_option maxHeartbeats 4000000 in
set_option maxRecDepth 100000 in
theorem met_Index_mend (l : Launch) {w : Wp} (hV : Hvl w) (o : Int) (x1 : Int) (x2 : Int) (Q : St → Prop) (σ : St) (ho : 0 ≤ o ∧ o < 2) (rx1 : rK x1) (rx2 : rI x2) (h : wp_Index_mend (wc w) (wtv w) o x1 x2 Q σ) : Met l yX8_mend (ws_ yX8_mend cX8_mend 7 none) rm_Index_mend (PcW w σ [.ref (wad w 6 o), va_rf (knO w x1), .int (oI x2)]) (QcV w Q) 0 0 (wA w) := by
  refine Met.ofW (cc := cX8_mend) (maxL := 7) (ret := none) (by decide) rfl ?_
  intro p e st m args below meth c s₁ B hml hv
  obtain ⟨hargs, hW, hT⟩ := hv
  have X : CallFix p m c cX8_mend 7 st _ lw_all RX8 := ⟨B.exec, B.bytes, hml, findClass_of_methodNamed B.named, fun w h => atoms_spec (ws := ws_ yX8_mend cX8_mend 7 none) B.pre w (List.mem_cons_of_mem _ h)⟩
  have hr := B.returns
  have hlk := B.notSynchronized
  have hS : va_S (wA w) st.heap st.heap [] := va_S.rf
  have vl6_o : vl w 6 o := hV.hv 6 rfl ⟨by omega, by show _ < (2 : Int); omega⟩
  have hl := lv_entry ([.ref (wad w 6 o), va_rf (knO w x1), .int (oI x2)]) (n := 7) (by simp [lg_sl, catK, catI, catR, catL])
  have hfr := lg_entry_eq m ([.ref (wad w 6 o), va_rf (knO w x1), .int (oI x2)]) 7
  rw [← hargs] at hfr
  rw [hfr]
  generalize (lg_sl ([.ref (wad w 6 o), va_rf (knO w x1), .int (oI x2)]) ++ List.replicate (7 - (lg_sl ([.ref (wad w 6 o), va_rf (knO w x1), .int (oI x2)])).length) Slot.unset).toArray = ls at hl ⊢
  simp [lv_args, catK, catI, catR, catL] at hl
  have hl : lv_has ls 7 [(0, .ref (wad w 6 o)), (1, va_rf (knO w x1)), (2, .int (oI x2))] := hl
  unfold wp_Index_mend at h
  refine w_kload_n (w := w) X dX8_mend_0 rfl (lv_at hl 1 rfl) ?_
  obtain ⟨hz_120, h⟩ := h
  rw [knR hz_120]
  refine wg (v := .ref (wad w 583 x1)) X hT hW 9 7 583 (hV.hv 9 rfl ⟨hz_120, rx1.2⟩) rfl rfl (by decide) rfl (by decide) in_X9 q405 rfl dX8_mend_1 ?_
  refine lv_iload_n X.1 X.2.1 dX8_mend_4 rfl (lv_at hl 2 rfl) ?_
  obtain ⟨bi, h⟩ := h
  refine w_aald (n := 9) X hT hW 583 (hV.hv 583 rfl ⟨hz_120, rx1.2⟩) (by decide) rfl rfl bi dX8_mend_5 ?_
  refine w_topk (w := w) (fun y3_121 ey3_121 => ?_)
  have h := h y3_121 ey3_121
  have ry3_121 : rK y3_121 := by rw [ey3_121]; exact (hW.r.ak 583 x1 x2 rfl)
  refine w_kstore_n (i := 3) (lv' := [(3, va_rf (knO w y3_121)), (0, .ref (wad w 6 o)), (1, va_rf (knO w x1)), (2, .int (oI x2))]) (w := w) X dX8_mend_6 rfl hl (by decide) (by first | rfl | simp [catK, catI, catR, catL]) (fun ls hl => ?_)
  refine w_kload_n (w := w) X dX8_mend_7 rfl (lv_at hl 2 rfl) ?_
  rw [knR hz_120]
  refine wg (v := .ref (wad w 583 x1)) X hT hW 9 7 583 (hV.hv 9 rfl ⟨hz_120, rx1.2⟩) rfl rfl (by decide) rfl (by decide) in_X9 q405 rfl dX8_mend_8 ?_
  refine lv_iload_n X.1 X.2.1 dX8_mend_11 rfl (lv_at hl 3 rfl) ?_
  refine lv_iconst (v := oI 1) X.1 X.2.1 dX8_mend_12 rfl ?_
  refine w_iadd X dX8_mend_13 ?_
  obtain ⟨bi, h⟩ := h
  refine w_aald (n := 9) X hT hW 583 (hV.hv 583 rfl ⟨hz_120, rx1.2⟩) (by decide) rfl rfl bi dX8_mend_14 ?_
  refine w_topk (w := w) (fun y4_122 ey4_122 => ?_)
  have h := h y4_122 ey4_122
  have ry4_122 : rK y4_122 := by rw [ey4_122]; exact (hW.r.ak 583 x1 (w32 (x2 + 1)) rfl)
  refine w_kstore (i := 4) (lv' := [(4, va_rf (knO w y4_122)), (3, va_rf (knO w y3_121)), (0, .ref (wad w 6 o)), (1, va_rf (knO w x1)), (2, .int (oI x2))]) (w := w) X dX8_mend_15 hl (by decide) (by first | rfl | simp [catK, catI, catR, catL]) (fun ls hl => ?_)
  refine lv_aload_n X.1 X.2.1 dX8_mend_17 rfl (lv_at hl 2 rfl) ?_
  refine w_kload_n (w := w) X dX8_mend_18 rfl (lv_at hl 1 rfl) ?_
  refine wr_V (rV (As := [va_rf (knO w y3_121)]) (rest := []) X hT hW hS (met_Index_touch l (w := w) hV o y3_121 _ σ (by omega) ry3_121 h) (cwV 1 X.2.2.2.2 (lw_V q930 q932 qs15 q139 q933) rfl rfl rfl (by decide +kernel) ⟨Nat.le_of_ble_eq_true rfl, Nat.le_of_ble_eq_true rfl⟩) vl6_o (by decide) rfl rfl hl.1 rfl (by first | exact Nat.le_of_ble_eq_true rfl | simp [catK, catI, catR, catL]) dX8_mend_19 ⟨Nat.le_refl _, Nat.le_refl _⟩) hS (fun σ_124 H locs rkσ_124 h hWσ_124 hS => ?_)
  have h := h rkσ_124
  refine lv_aload_n X.1 X.2.1 dX8_mend_22 rfl (lv_at hl 2 rfl) ?_
  refine w_kload (w := w) X dX8_mend_23 (lv_at hl 0 rfl) ?_
  refine wr_V (rV (As := [va_rf (knO w y4_122)]) (rest := []) X hT hWσ_124 hS (met_Index_touch l (w := w) hV o y4_122 _ σ_124 (by omega) ry4_122 h) (cwV 1 X.2.2.2.2 (lw_V q930 q932 qs15 q139 q933) rfl rfl rfl (by decide +kernel) ⟨Nat.le_of_ble_eq_true rfl, Nat.le_of_ble_eq_true rfl⟩) vl6_o (by decide) rfl rfl hl.1 rfl (by first | exact Nat.le_of_ble_eq_true rfl | simp [catK, catI, catR, catL]) dX8_mend_25 ⟨Nat.le_refl _, Nat.le_refl _⟩) hS (fun σ_126 H locs rkσ_126 h hWσ_126 hS => ?_)
  have h := h rkσ_126
  refine w_kload_n (w := w) X dX8_mend_28 rfl (lv_at hl 1 rfl) ?_
  obtain ⟨hz_127, h⟩ := h
  rw [knR hz_127]
  refine wg (v := .int (oI (gI σ_126 577 y3_121))) X hT hWσ_126 9 1 577 (hV.hv 9 rfl ⟨hz_127, ry3_121.2⟩) rfl rfl (by decide) rfl (by decide) in_X9 q387 rfl dX8_mend_29 ?_
  refine w_kload (w := w) X dX8_mend_32 (lv_at hl 0 rfl) ?_
  obtain ⟨hz_128, h⟩ := h
  rw [knR hz_128]
  refine wg (v := .int (oI (gI σ_126 577 y4_122))) X hT hWσ_126 9 1 577 (hV.hv 9 rfl ⟨hz_128, ry4_122.2⟩) rfl rfl (by decide) rfl (by decide) in_X9 q387 rfl dX8_mend_34 ?_
  refine w_iadd X dX8_mend_37 ?_
  refine w_top (fun y5_129 ey5_129 => ?_)
  have h := h y5_129 ey5_129
  have ry5_129 : rI y5_129 := by rw [ey5_129]; exact (w32_r _)
  refine lv_istore (i := 5) (lv' := [(5, .int (oI y5_129)), (4, va_rf (knO w y4_122)), (3, va_rf (knO w y3_121)), (0, .ref (wad w 6 o)), (1, va_rf (knO w x1)), (2, .int (oI x2))]) X.1 X.2.1 dX8_mend_38 hl (by decide) (by first | rfl | simp [catK, catI, catR, catL]) (fun ls hl => ?_)
  refine lv_iload X.1 X.2.1 dX8_mend_40 (lv_at hl 0 rfl) ?_
  refine lv_bipush (v := oI 8) X.1 X.2.1 dX8_mend_42 (by decide) ?_
  refine w_icmp_gt (tgt := 101) X ry5_129 ((rB_lit 8 (by decide)).i) dX8_mend_44 (by decide) (fun hc => ?_) (fun hc => ?_)
  · have h := h.1 hc
    refine w_kload_n (w := w) X dX8_mend_101 rfl (lv_at hl 2 rfl) ?_
    rw [knR hz_127]
    refine wg (v := .int (oI (gI σ_126 577 y3_121))) X hT hWσ_126 9 1 577 (hV.hv 9 rfl ⟨hz_127, ry3_121.2⟩) rfl rfl (by decide) rfl (by decide) in_X9 q387 rfl dX8_mend_102 ?_
    refine w_kload (w := w) X dX8_mend_105 (lv_at hl 1 rfl) ?_
    rw [knR hz_128]
    refine wg (v := .int (oI (gI σ_126 577 y4_122))) X hT hWσ_126 9 1 577 (hV.hv 9 rfl ⟨hz_128, ry4_122.2⟩) rfl rfl (by decide) rfl (by decide) in_X9 q387 rfl dX8_mend_107 ?_
    refine w_icmp_ge (tgt := 151) X (hWσ_126.r.i 577 y3_121 rfl) (hWσ_126.r.i 577 y4_122 rfl) dX8_mend_110 (by decide) (fun hc => ?_) (fun hc => ?_)
    · have h := h.1 hc
      exact wk_Index_mend_L151 X hr hlk hT hV ho rx1 rx2 (wp_Index_mend_b195 (wc w) (wtv w) o x1 x2 Q) (wk_Index_mend_b195 X hr hlk hT hV ho rx1 rx2) y3_121 y4_122 y5_129 σ_126 _ _ _ ry3_121 ry4_122 ry5_129 (lv_sub hl [4, 5, 2, 1, 0] rfl) hWσ_126 hS h
    · have h := h.2 hc
      exact wk_Index_mend_L113 X hr hlk hT hV ho rx1 rx2 (wp_Index_mend_b195 (wc w) (wtv w) o x1 x2 Q) (wk_Index_mend_b195 X hr hlk hT hV ho rx1 rx2) y3_121 y4_122 y5_129 σ_126 _ _ _ ry3_121 ry4_122 ry5_129 (lv_sub hl [4, 5, 2, 1, 0] rfl) hWσ_126 hS h
  · have h := h.2 hc
    refine lv_iconst (v := oI 0) X.1 X.2.1 dX8_mend_47 rfl ?_
    refine lv_istore (i := 6) (lv' := [(6, .int (oI 0)), (5, .int (oI y5_129)), (4, va_rf (knO w y4_122)), (3, va_rf (knO w y3_121)), (0, .ref (wad w 6 o)), (1, va_rf (knO w x1)), (2, .int (oI x2))]) X.1 X.2.1 dX8_mend_48 hl (by decide) (by first | rfl | simp [catK, catI, catR, catL]) (fun ls hl => ?_)
    exact wk_Index_mend_L50 X hr hlk hT hV ho rx1 rx2 (wp_Index_mend_b195 (wc w) (wtv w) o x1 x2 Q) (wk_Index_mend_b195 X hr hlk hT hV ho rx1 rx2) y3_121 y4_122 y5_129 0 σ_126 _ _ _ ry3_121 ry4_122 ry5_129 rZ_0.i (lv_sub hl [4, 5, 6, 3, 2, 1, 0] rfl) hWσ_126 hS h
/-! Index.take(LNandHouse$Knot;JJ)V -/
set_option maxHeartbeats 4000000 in
set_option maxRecDepth 100000 in
theorem wk_Index_take_b112 {p : Program} {l : Launch} {e : Env} {st : State} {m : MethodId} {args : Array Value} {below : List Frame} {meth : Method} {c : Code} {w : Wp} {o : Int} {x1 : Int} {x2 : Int} {x4 : Int} {Q : St → Prop} {n : Nat} {F : Int → Int → Int → Int → (St → Prop) → St → Prop} (X : CallFix p m c cX8_take 8 st args lw_all RX8) (hr : meth.sig.returnType = none) (hlk : meth.locks = false) (hT : Tb w st) (hV : Hvl w) (hF : ∀ (o : Int) (x1 : Int) (x2 : Int) (x4 : Int) (Q : St → Prop) (σ : St), 0 ≤ o ∧ o < 2 → rK x1 → rJ x2 → rJ x4 →  F o x1 x2 x4 Q σ → Met l yX8_take (ws_ yX8_take cX8_take 8 none) (rm_Index_take n) (PcW w σ [.ref (wad w 6 o), va_rf (knO w x1), .long (oL x2), .long (oL x4)]) (QcV w Q) 0 0 (wA w)) (ho : 0 ≤ o ∧ o < 2) (rx1 : rK x1) (rx2 : rJ x2) (rx4 : rJ x4) : ∀ (t0 t1 : Int) (σ : St) (H : Heap) (locs : List Loc) (ls : Array Slot), rI t0 → rK t1 → lv_has ls 8 [] → Wo w σ H → va_S (wA w) st.heap H locs → wp_Index_take_b112 (wc w) (wtv w) o x1 x2 x4 F Q t0 t1 σ → W p l e (headSpec (ws_ yX8_take cX8_take 8 none) (rm_Index_take (n + 1))).room st m args below meth c H locs 0 0 (MQ below (QcV w Q) args st 0 0 (wA w)) (F0 m 112 ls [.int (oI t0), va_rf (knO w t1), .ref (wad w 6 o)]) := by
  have vl6_o : vl w 6 o := hV.hv 6 rfl ⟨by omega, by show _ < (2 : Int); omega⟩
  intro t0 t1 σ H locs ls rt0 rt1 hl hW hS h
  unfold wp_Index_take_b112 at h
  refine wr_V (rV (As := [va_rf (knO w t1), .int (oI t0)]) (rest := []) X hT hW hS (met_Index_mend l (w := w) hV o t1 t0 _ σ (by omega) rt1 rt0 h) (cwV 2 X.2.2.2.2 (lw_V q1372 q1374 qs51 q139 q1375) rfl rfl rfl (by decide +kernel) ⟨by show _ ≤ _; simp only [headSpec, rm_Index_take]; omega, by show _ ≤ _; simp only [headSpec, rm_Index_take]; omega⟩) vl6_o (by decide) rfl rfl hl.1 rfl (by first | exact Nat.le_of_ble_eq_true rfl | simp [catK, catI, catR, catL]) dX8_take_112 ⟨Nat.le_refl _, Nat.le_refl _⟩) hS (fun σ_20 H locs rkσ_20 h hWσ_20 hS => ?_)
  have h := h rkσ_20
  exact wret_V X hr hlk hWσ_20 hS h dX8_take_115
set_option maxHeartbeats 4000000 in
set_option maxRecDepth 100000 in
theorem wk_Index_take_b80 {p : Program} {l : Launch} {e : Env} {st : State} {m : MethodId} {args : Array Value} {below : List Frame} {meth : Method} {c : Code} {w : Wp} {o : Int} {x1 : Int} {x2 : Int} {x4 : Int} {Q : St → Prop} {n : Nat} {F : Int → Int → Int → Int → (St → Prop) → St → Prop} (X : CallFix p m c cX8_take 8 st args lw_all RX8) (hr : meth.sig.returnType = none) (hlk : meth.locks = false) (hT : Tb w st) (hV : Hvl w) (hF : ∀ (o : Int) (x1 : Int) (x2 : Int) (x4 : Int) (Q : St → Prop) (σ : St), 0 ≤ o ∧ o < 2 → rK x1 → rJ x2 → rJ x4 →  F o x1 x2 x4 Q σ → Met l yX8_take (ws_ yX8_take cX8_take 8 none) (rm_Index_take n) (PcW w σ [.ref (wad w 6 o), va_rf (knO w x1), .long (oL x2), .long (oL x4)]) (QcV w Q) 0 0 (wA w)) (ho : 0 ≤ o ∧ o < 2) (rx1 : rK x1) (rx2 : rJ x2) (rx4 : rJ x4) : ∀ (y6 y7 : Int) (σ : St) (H : Heap) (locs : List Loc) (ls : Array Slot), rI y6 → rK y7 → lv_has ls 8 [(0, .ref (wad w 6 o)), (1, va_rf (knO w x1)), (6, .int (oI y6)), (7, va_rf (knO w y7))] → Wo w σ H → va_S (wA w) st.heap H locs → wp_Index_take_b80 (wc w) (wtv w) o x1 x2 x4 F Q y6 y7 σ → W p l e (headSpec (ws_ yX8_take cX8_take 8 none) (rm_Index_take (n + 1))).room st m args below meth c H locs 0 0 (MQ below (QcV w Q) args st 0 0 (wA w)) (F0 m 80 ls []) := by

  intro y6 y7 σ H locs ls ry6 ry7 hl hW hS h
  unfold wp_Index_take_b80 at h
  refine w_kload (w := w) X dX8_take_80 (lv_at hl 3 rfl) ?_
  obtain ⟨hz_21, h⟩ := h
  rw [knR hz_21]
  refine wg (v := .int (oI (gI σ 577 y7))) X hT hW 9 1 577 (hV.hv 9 rfl ⟨hz_21, ry7.2⟩) rfl rfl (by decide) rfl (by decide) in_X9 q387 rfl dX8_take_82 ?_
  refine lv_iconst (v := oI 4) X.1 X.2.1 dX8_take_85 rfl ?_
  refine w_icmp_ge (tgt := 115) X (hW.r.i 577 y7 rfl) ((rB_lit 4 (by decide)).i) dX8_take_86 (by decide) (fun hc => ?_) (fun hc => ?_)
  · have h := h.1 hc
    exact wret_V X hr hlk hW hS h dX8_take_115
  · have h := h.2 hc
    refine w_kload_n (w := w) X dX8_take_89 rfl (lv_at hl 1 rfl) ?_
    obtain ⟨hz_22, h⟩ := h
    rw [knR hz_22]
    refine wg (v := .int (oI (gI σ 577 x1))) X hT hW 9 1 577 (hV.hv 9 rfl ⟨hz_22, rx1.2⟩) rfl rfl (by decide) rfl (by decide) in_X9 q387 rfl dX8_take_90 ?_
    refine lv_iconst (v := oI 1) X.1 X.2.1 dX8_take_93 rfl ?_
    refine w_icmp_le (tgt := 115) X (hW.r.i 577 x1 rfl) rZ_1.i dX8_take_94 (by decide) (fun hc => ?_) (fun hc => ?_)
    · have h := h.1 hc
      exact wret_V X hr hlk hW hS h dX8_take_115
    · have h := h.2 hc
      refine lv_aload_n X.1 X.2.1 dX8_take_97 rfl (lv_at hl 0 rfl) ?_
      refine w_kload_n (w := w) X dX8_take_98 rfl (lv_at hl 1 rfl) ?_
      refine lv_iload X.1 X.2.1 dX8_take_99 (lv_at hl 2 rfl) ?_
      refine w_if_ne (tgt := 108) X ry6 dX8_take_101 (by decide) (fun hc => ?_) (fun hc => ?_)
      · have h := h.1 hc
        refine lv_iload X.1 X.2.1 dX8_take_108 (lv_at hl 2 rfl) ?_
        refine lv_iconst (v := oI 1) X.1 X.2.1 dX8_take_110 rfl ?_
        refine w_isub X dX8_take_111 ?_
        exact wk_Index_take_b112 X hr hlk hT hV hF ho rx1 rx2 rx4 (w32 (y6 - 1)) x1 σ _ _ _ (w32_r _) rx1 (lv_sub hl [] rfl) hW hS h
      · have h := h.2 hc
        refine lv_iconst (v := oI 0) X.1 X.2.1 dX8_take_104 rfl ?_
        refine lv_goto (tgt := 112) X.1 X.2.1 dX8_take_105 (by decide) ?_
        exact wk_Index_take_b112 X hr hlk hT hV hF ho rx1 rx2 rx4 0 x1 σ _ _ _ rZ_0.i rx1 (lv_sub hl [] rfl) hW hS h
set_option maxHeartbeats 4000000 in
set_option maxRecDepth 100000 in
theorem met_Index_take_R (l : Launch) {w : Wp} (hV : Hvl w) {n : Nat} {F : Int → Int → Int → Int → (St → Prop) → St → Prop} (hF : ∀ (o : Int) (x1 : Int) (x2 : Int) (x4 : Int) (Q : St → Prop) (σ : St), 0 ≤ o ∧ o < 2 → rK x1 → rJ x2 → rJ x4 →  F o x1 x2 x4 Q σ → Met l yX8_take (ws_ yX8_take cX8_take 8 none) (rm_Index_take n) (PcW w σ [.ref (wad w 6 o), va_rf (knO w x1), .long (oL x2), .long (oL x4)]) (QcV w Q) 0 0 (wA w)) (o : Int) (x1 : Int) (x2 : Int) (x4 : Int) (Q : St → Prop) (σ : St) (ho : 0 ≤ o ∧ o < 2) (rx1 : rK x1) (rx2 : rJ x2) (rx4 : rJ x4) (h : wp_Index_take_R (wc w) (wtv w) o x1 x2 x4 F Q σ) : Met l yX8_take (ws_ yX8_take cX8_take 8 none) (rm_Index_take (n + 1)) (PcW w σ [.ref (wad w 6 o), va_rf (knO w x1), .long (oL x2), .long (oL x4)]) (QcV w Q) 0 0 (wA w) := by
  refine Met.ofW (cc := cX8_take) (maxL := 8) (ret := none) (by decide) rfl ?_
  intro p e st m args below meth c s₁ B hml hv
  obtain ⟨hargs, hW, hT⟩ := hv
  have X : CallFix p m c cX8_take 8 st _ lw_all RX8 := ⟨B.exec, B.bytes, hml, findClass_of_methodNamed B.named, fun w h => atoms_spec (ws := ws_ yX8_take cX8_take 8 none) B.pre w (List.mem_cons_of_mem _ h)⟩
  have hr := B.returns
  have hlk := B.notSynchronized
  have hS : va_S (wA w) st.heap st.heap [] := va_S.rf
  have vl6_o : vl w 6 o := hV.hv 6 rfl ⟨by omega, by show _ < (2 : Int); omega⟩
  have hl := lv_entry ([.ref (wad w 6 o), va_rf (knO w x1), .long (oL x2), .long (oL x4)]) (n := 8) (by simp [lg_sl, catK, catI, catR, catL])
  have hfr := lg_entry_eq m ([.ref (wad w 6 o), va_rf (knO w x1), .long (oL x2), .long (oL x4)]) 8
  rw [← hargs] at hfr
  rw [hfr]
  generalize (lg_sl ([.ref (wad w 6 o), va_rf (knO w x1), .long (oL x2), .long (oL x4)]) ++ List.replicate (8 - (lg_sl ([.ref (wad w 6 o), va_rf (knO w x1), .long (oL x2), .long (oL x4)])).length) Slot.unset).toArray = ls at hl ⊢
  simp [lv_args, catK, catI, catR, catL] at hl
  have hl : lv_has ls 8 [(0, .ref (wad w 6 o)), (1, va_rf (knO w x1)), (2, .long (oL x2)), (4, .long (oL x4))] := hl
  unfold wp_Index_take_R at h
  refine lv_aload_n X.1 X.2.1 dX8_take_0 rfl (lv_at hl 0 rfl) ?_
  refine w_kload_n (w := w) X dX8_take_1 rfl (lv_at hl 1 rfl) ?_
  refine wr_V (rV (As := [va_rf (knO w x1)]) (rest := []) X hT hW hS (met_Index_touch l (w := w) hV o x1 _ σ (by omega) rx1 h) (cwV 1 X.2.2.2.2 (lw_V q930 q932 qs15 q139 q933) rfl rfl rfl (by decide +kernel) ⟨by show _ ≤ _; simp only [headSpec, rm_Index_take]; omega, by show _ ≤ _; simp only [headSpec, rm_Index_take]; omega⟩) vl6_o (by decide) rfl rfl hl.1 rfl (by first | exact Nat.le_of_ble_eq_true rfl | simp [catK, catI, catR, catL]) dX8_take_2 ⟨Nat.le_refl _, Nat.le_refl _⟩) hS (fun σ_24 H locs rkσ_24 h hWσ_24 hS => ?_)
  have h := h rkσ_24
  refine lv_iconst (v := oI 0) X.1 X.2.1 dX8_take_5 rfl ?_
  refine w_kload_n (w := w) X dX8_take_6 rfl (lv_at hl 1 rfl) ?_
  refine lv_lload_n X.1 X.2.1 dX8_take_7 rfl (lv_at hl 2 rfl) ?_
  refine lv_lload X.1 X.2.1 dX8_take_8 (lv_at hl 3 rfl) ?_
  obtain ⟨hz_25, h⟩ := h
  refine wr_I (rV (As := [.long (oL x2), .long (oL x4)]) (rest := [.int (oI 0)]) X hT hWσ_24 hS (met_Knot_slot l (w := w) hV x1 x2 x4 _ σ_24 ⟨hz_25, rx1.2⟩ rx2 rx4 h) (cwV 2 X.2.2.2.2 (lw_V q909 q910 q911 q140 q912) rfl rfl rfl (by decide +kernel) ⟨by show _ ≤ _; simp only [headSpec, rm_Index_take]; omega, by show _ ≤ _; simp only [headSpec, rm_Index_take]; omega⟩) (hV.hv 9 rfl ⟨hz_25, rx1.2⟩) (by decide) rfl rfl hl.1 (by simp only [knR hz_25]; rfl) (by first | exact Nat.le_of_ble_eq_true rfl | simp [catK, catI, catR, catL]) dX8_take_10 ⟨Nat.le_refl _, Nat.le_refl _⟩) hS (fun r_26 σ_27 H locs rr_26 rkσ_27 h hWσ_27 hS => ?_)
  have h := h rr_26 rkσ_27
  refine w_mmax X rZ_0.i rr_26 hl.1 q923 q924 q149 q925 (Nat.le_of_ble_eq_true rfl) (Nat.le_of_ble_eq_true rfl) (Nat.le_refl _) (Nat.le_refl _) dX8_take_13 ?_
  refine w_top (fun y6_28 ey6_28 => ?_)
  have h := h y6_28 ey6_28
  have ry6_28 : rI y6_28 := by rw [ey6_28]; exact (max_rI rZ_0.i rr_26)
  refine lv_istore (i := 6) (lv' := [(6, .int (oI y6_28)), (0, .ref (wad w 6 o)), (1, va_rf (knO w x1)), (2, .long (oL x2)), (4, .long (oL x4))]) X.1 X.2.1 dX8_take_16 hl (by decide) (by first | rfl | simp [catK, catI, catR, catL]) (fun ls hl => ?_)
  refine w_kload_n (w := w) X dX8_take_18 rfl (lv_at hl 2 rfl) ?_
  rw [knR hz_25]
  refine wg (v := .int (oI (gI σ_27 576 x1))) X hT hWσ_27 9 0 576 (hV.hv 9 rfl ⟨hz_25, rx1.2⟩) rfl rfl (by decide) rfl (by decide) in_X9 q384 rfl dX8_take_19 ?_
  refine w_if_ne (tgt := 32) X (hWσ_27.r.i 576 x1 rfl) dX8_take_22 (by decide) (fun hc => ?_) (fun hc => ?_)
  · have h := h.1 hc
    refine w_kload_n (w := w) X dX8_take_32 rfl (lv_at hl 2 rfl) ?_
    rw [knR hz_25]
    refine wg (v := .ref (wad w 583 x1)) X hT hWσ_27 9 7 583 (hV.hv 9 rfl ⟨hz_25, rx1.2⟩) rfl rfl (by decide) rfl (by decide) in_X9 q405 rfl dX8_take_33 ?_
    refine lv_iload X.1 X.2.1 dX8_take_36 (lv_at hl 0 rfl) ?_
    obtain ⟨bi, h⟩ := h
    refine w_aald (n := 9) X hT hWσ_27 583 (hV.hv 583 rfl ⟨hz_25, rx1.2⟩) (by decide) rfl rfl bi dX8_take_38 ?_
    refine w_topk (w := w) (fun y7_29 ey7_29 => ?_)
    have h := h y7_29 ey7_29
    have ry7_29 : rK y7_29 := by rw [ey7_29]; exact (hWσ_27.r.ak 583 x1 y6_28 rfl)
    refine w_kstore (i := 7) (lv' := [(7, va_rf (knO w y7_29)), (6, .int (oI y6_28)), (0, .ref (wad w 6 o)), (1, va_rf (knO w x1)), (2, .long (oL x2)), (4, .long (oL x4))]) (w := w) X dX8_take_39 hl (by decide) (by first | rfl | simp [catK, catI, catR, catL]) (fun ls hl => ?_)
    refine lv_aload_n X.1 X.2.1 dX8_take_41 rfl (lv_at hl 2 rfl) ?_
    refine w_kload (w := w) X dX8_take_42 (lv_at hl 0 rfl) ?_
    refine lv_lload_n X.1 X.2.1 dX8_take_44 rfl (lv_at hl 4 rfl) ?_
    refine lv_lload X.1 X.2.1 dX8_take_45 (lv_at hl 5 rfl) ?_
    refine wr_V (rV (As := [va_rf (knO w y7_29), .long (oL x2), .long (oL x4)]) (rest := []) X hT hWσ_27 hS (hF o y7_29 x2 x4 _ σ_27 (by omega) ry7_29 rx2 rx4 h) (cwV 3 X.2.2.2.2 (lw_V q1364 q1366 qs50 q139 q1367) rfl rfl rfl (by decide +kernel) ⟨by show _ ≤ _; simp only [headSpec, rm_Index_take]; omega, by show _ ≤ _; simp only [headSpec, rm_Index_take]; omega⟩) vl6_o (by decide) rfl rfl hl.1 rfl (by first | exact Nat.le_of_ble_eq_true rfl | simp [catK, catI, catR, catL]) dX8_take_47 ⟨Nat.le_refl _, Nat.le_refl _⟩) hS (fun σ_31 H locs rkσ_31 h hWσ_31 hS => ?_)
    have h := h rkσ_31
    refine w_kload (w := w) X dX8_take_50 (lv_at hl 0 rfl) ?_
    obtain ⟨hz_32, h⟩ := h
    rw [knR hz_32]
    refine wg (v := .int (oI (gI σ_31 577 y7_29))) X hT hWσ_31 9 1 577 (hV.hv 9 rfl ⟨hz_32, ry7_29.2⟩) rfl rfl (by decide) rfl (by decide) in_X9 q387 rfl dX8_take_52 ?_
    refine w_if_le (tgt := 80) X (hWσ_31.r.i 577 y7_29 rfl) dX8_take_55 (by decide) (fun hc => ?_) (fun hc => ?_)
    · have h := h.1 hc
      exact wk_Index_take_b80 X hr hlk hT hV hF ho rx1 rx2 rx4 y6_28 y7_29 σ_31 _ _ _ ry6_28 ry7_29 (lv_sub hl [2, 3, 1, 0] rfl) hWσ_31 hS h
    · have h := h.2 hc
      refine w_kload_n (w := w) X dX8_take_58 rfl (lv_at hl 3 rfl) ?_
      refine lv_iload X.1 X.2.1 dX8_take_59 (lv_at hl 1 rfl) ?_
      refine w_kload (w := w) X dX8_take_61 (lv_at hl 0 rfl) ?_
      rw [knR hz_32]
      refine wg (v := .ref (wad w 578 y7_29)) X hT hWσ_31 9 2 578 (hV.hv 9 rfl ⟨hz_32, ry7_29.2⟩) rfl rfl (by decide) rfl (by decide) in_X9 q390 rfl dX8_take_63 ?_
      refine lv_iconst (v := oI 0) X.1 X.2.1 dX8_take_66 rfl ?_
      obtain ⟨bi, h⟩ := h
      refine w_lald (n := 9) X hT hWσ_31 578 (hV.hv 578 rfl ⟨hz_32, ry7_29.2⟩) (by decide) rfl rfl bi dX8_take_67 ?_
      refine w_kload (w := w) X dX8_take_68 (lv_at hl 0 rfl) ?_
      rw [knR hz_32]
      refine wg (v := .ref (wad w 579 y7_29)) X hT hWσ_31 9 3 579 (hV.hv 9 rfl ⟨hz_32, ry7_29.2⟩) rfl rfl (by decide) rfl (by decide) in_X9 q393 rfl dX8_take_70 ?_
      refine lv_iconst (v := oI 0) X.1 X.2.1 dX8_take_73 rfl ?_
      obtain ⟨bi, h⟩ := h
      refine w_lald (n := 9) X hT hWσ_31 579 (hV.hv 579 rfl ⟨hz_32, ry7_29.2⟩) (by decide) rfl rfl bi dX8_take_74 ?_
      refine w_kload (w := w) X dX8_take_75 (lv_at hl 0 rfl) ?_
      refine wr_V (rV (As := [.int (oI y6_28), .long (oL (gA σ_31 578 y7_29 0)), .long (oL (gA σ_31 579 y7_29 0)), va_rf (knO w y7_29)]) (rest := []) X hT hWσ_31 hS (met_Knot_set l (w := w) hV x1 y6_28 (gA σ_31 578 y7_29 0) (gA σ_31 579 y7_29 0) y7_29 _ σ_31 ⟨hz_25, rx1.2⟩ ry6_28 (hWσ_31.r.aj 578 y7_29 0 rfl) (hWσ_31.r.aj 579 y7_29 0 rfl) ry7_29 h) (cwV 4 X.2.2.2.2 (lw_V q946 q947 q948 q140 q949) rfl rfl rfl (by decide +kernel) ⟨by show _ ≤ _; simp only [headSpec, rm_Index_take]; omega, by show _ ≤ _; simp only [headSpec, rm_Index_take]; omega⟩) (hV.hv 9 rfl ⟨hz_25, rx1.2⟩) (by decide) rfl rfl hl.1 (by simp only [knR hz_25]; rfl) (by first | exact Nat.le_of_ble_eq_true rfl | simp [catK, catI, catR, catL]) dX8_take_77 ⟨Nat.le_refl _, Nat.le_refl _⟩) hS (fun σ_34 H locs rkσ_34 h hWσ_34 hS => ?_)
      have h := h rkσ_34
      exact wk_Index_take_b80 X hr hlk hT hV hF ho rx1 rx2 rx4 y6_28 y7_29 σ_34 _ _ _ ry6_28 ry7_29 (lv_sub hl [2, 3, 1, 0] rfl) hWσ_34 hS h
  · have h := h.2 hc
    refine w_kload_n (w := w) X dX8_take_25 rfl (lv_at hl 2 rfl) ?_
    refine lv_iload X.1 X.2.1 dX8_take_26 (lv_at hl 0 rfl) ?_
    refine wr_V (rV (As := [.int (oI y6_28)]) (rest := []) X hT hWσ_27 hS (met_Knot_leave l (w := w) hV x1 y6_28 _ σ_27 ⟨hz_25, rx1.2⟩ ry6_28 h) (cwV 1 X.2.2.2.2 (lw_V q1368 q1369 q1370 q140 q1371) rfl rfl rfl (by decide +kernel) ⟨by show _ ≤ _; simp only [headSpec, rm_Index_take]; omega, by show _ ≤ _; simp only [headSpec, rm_Index_take]; omega⟩) (hV.hv 9 rfl ⟨hz_25, rx1.2⟩) (by decide) rfl rfl hl.1 (by simp only [knR hz_25]; rfl) (by first | exact Nat.le_of_ble_eq_true rfl | simp [catK, catI, catR, catL]) dX8_take_28 ⟨Nat.le_refl _, Nat.le_refl _⟩) hS (fun σ_36 H locs rkσ_36 h hWσ_36 hS => ?_)
    have h := h rkσ_36
    exact wret_V X hr hlk hWσ_36 hS h dX8_take_31
theorem met_Index_take (l : Launch) {w : Wp} (hV : Hvl w) (n : Nat) : ∀ (o : Int) (x1 : Int) (x2 : Int) (x4 : Int) (Q : St → Prop) (σ : St), 0 ≤ o ∧ o < 2 → rK x1 → rJ x2 → rJ x4 → wp_Index_take (wc w) (wtv w) n o x1 x2 x4 Q σ → Met l yX8_take (ws_ yX8_take cX8_take 8 none) (rm_Index_take n) (PcW w σ [.ref (wad w 6 o), va_rf (knO w x1), .long (oL x2), .long (oL x4)]) (QcV w Q) 0 0 (wA w) := by
  induction n with
  | zero => intro o x1 x2 x4 Q σ ho rx1 rx2 rx4 h; exact h.elim
  | succ n ih => intro o x1 x2 x4 Q σ ho rx1 rx2 rx4 h; exact met_Index_take_R l hV ih o x1 x2 x4 Q σ ho rx1 rx2 rx4 h
/-! Index.remove(JJ)V -/
set_option maxHeartbeats 4000000 in
set_option maxRecDepth 100000 in
theorem wk_Index_remove_L39B {p : Program} {l : Launch} {e : Env} {st : State} {m : MethodId} {args : Array Value} {below : List Frame} {meth : Method} {c : Code} {w : Wp} {o : Int} {x1 : Int} {x3 : Int} {Q : St → Prop} (X : CallFix p m c cX8_remove 6 st args lw_all RX8) (hr : meth.sig.returnType = none) (hlk : meth.locks = false) (hT : Tb w st) (hV : Hvl w) (ho : 0 ≤ o ∧ o < 2) (rx1 : rJ x1) (rx3 : rJ x3) (K39 : St → Prop) (hK39 : ∀ (σ : St) (H : Heap) (locs : List Loc) (ls : Array Slot), lv_has ls 6 [(0, .ref (wad w 6 o))] → Wo w σ H → va_S (wA w) st.heap H locs → K39 σ → W p l e (headSpec (ws_ yX8_remove cX8_remove 6 none) rm_Index_remove).room st m args below meth c H locs 0 0 (MQ below (QcV w Q) args st 0 0 (wA w)) (F0 m 39 ls [])) : ∀ (σ : St) (H : Heap) (locs : List Loc) (ls : Array Slot), lv_has ls 6 [(0, .ref (wad w 6 o))] → Wo w σ H → va_S (wA w) st.heap H locs → wp_Index_remove_L39 (wc w) (wtv w) o x1 x3 Q K39 σ → W p l e (headSpec (ws_ yX8_remove cX8_remove 6 none) rm_Index_remove).room st m args below meth c H locs 0 0 (MQ below (QcV w Q) args st 0 0 (wA w)) (F0 m 39 ls []) := by
  have vl6_o : vl w 6 o := hV.hv 6 rfl ⟨by omega, by show _ < (2 : Int); omega⟩
  intro σ H locs ls hl hW hS h
  unfold wp_Index_remove_L39 at h
  refine lv_aload_n X.1 X.2.1 dX8_remove_39 rfl (lv_at hl 0 rfl) ?_
  refine wg (v := va_rf (knO w (gI σ 387 o))) X hT hW 6 3 387 vl6_o rfl rfl (by decide) rfl (by decide) in_X8 q445 rfl dX8_remove_40 ?_
  obtain ⟨hz_11, h⟩ := h
  rw [knR hz_11]
  refine wg (v := .int (oI (gI σ 576 (gI σ 387 o)))) X hT hW 9 0 576 (hV.hv 9 rfl ⟨hz_11, (hW.r.k 387 o rfl).2⟩) rfl rfl (by decide) rfl (by decide) in_X9 q384 rfl dX8_remove_43 ?_
  refine w_if_le (tgt := 86) X (hW.r.i 576 (gI σ 387 o) rfl) dX8_remove_46 (by decide) (fun hc => ?_) (fun hc => ?_)
  · have h := h.1 hc
    exact wret_V X hr hlk hW hS h dX8_remove_86
  · have h := h.2 hc
    refine lv_aload_n X.1 X.2.1 dX8_remove_49 rfl (lv_at hl 0 rfl) ?_
    refine wg (v := va_rf (knO w (gI σ 387 o))) X hT hW 6 3 387 vl6_o rfl rfl (by decide) rfl (by decide) in_X8 q445 rfl dX8_remove_50 ?_
    rw [knR hz_11]
    refine wg (v := .int (oI (gI σ 577 (gI σ 387 o)))) X hT hW 9 1 577 (hV.hv 9 rfl ⟨hz_11, (hW.r.k 387 o rfl).2⟩) rfl rfl (by decide) rfl (by decide) in_X9 q387 rfl dX8_remove_53 ?_
    refine lv_iconst (v := oI 1) X.1 X.2.1 dX8_remove_56 rfl ?_
    refine w_icmp_ne (tgt := 86) X (hW.r.i 577 (gI σ 387 o) rfl) rZ_1.i dX8_remove_57 (by decide) (fun hc => ?_) (fun hc => ?_)
    · have h := h.1 hc
      exact wret_V X hr hlk hW hS h dX8_remove_86
    · have h := h.2 hc
      refine lv_aload_n X.1 X.2.1 dX8_remove_60 rfl (lv_at hl 0 rfl) ?_
      refine wg (v := va_rf (knO w (gI σ 387 o))) X hT hW 6 3 387 vl6_o rfl rfl (by decide) rfl (by decide) in_X8 q445 rfl dX8_remove_61 ?_
      refine w_topk (w := w) (fun y5_12 ey5_12 => ?_)
      have h := h y5_12 ey5_12
      have ry5_12 : rK y5_12 := by rw [ey5_12]; exact (hW.r.k 387 o rfl)
      have ny5_12 : 0 ≤ y5_12 := by rw [ey5_12]; exact hz_11
      refine w_kstore (i := 5) (lv' := [(5, va_rf (knO w y5_12)), (0, .ref (wad w 6 o))]) (w := w) X dX8_remove_64 hl (by decide) (by first | rfl | simp [catK, catI, catR, catL]) (fun ls hl => ?_)
      refine lv_aload_n X.1 X.2.1 dX8_remove_66 rfl (lv_at hl 1 rfl) ?_
      refine w_kload (w := w) X dX8_remove_67 (lv_at hl 0 rfl) ?_
      rw [knR ny5_12]
      refine wg (v := .ref (wad w 583 y5_12)) X hT hW 9 7 583 (hV.hv 9 rfl ⟨ny5_12, ry5_12.2⟩) rfl rfl (by decide) rfl (by decide) in_X9 q405 rfl dX8_remove_69 ?_
      refine lv_iconst (v := oI 0) X.1 X.2.1 dX8_remove_72 rfl ?_
      obtain ⟨bi, h⟩ := h
      refine w_aald (n := 9) X hT hW 583 (hV.hv 583 rfl ⟨ny5_12, ry5_12.2⟩) (by decide) rfl rfl bi dX8_remove_73 ?_
      refine wput (z := gA σ 583 y5_12 0) X hT hW hS 6 3 387 vl6_o rfl rfl (by decide) rfl (by decide) in_X8 tyX8 tyX8_ok nmX8 q445 rfl rfl (hW.r.ak 583 y5_12 0 rfl) (fv2 w rfl) (nrK w _ _) (ftK w _ _) dX8_remove_74 (fun H locs hN hS => ?_)
      obtain ⟨σ_13, eσ_13⟩ : ∃ x, x = sI σ 387 o (gA σ 583 y5_12 0) := ⟨_, rfl⟩
      have hWσ_13 : Wo w σ_13 H := eσ_13 ▸ hN
      have h := h σ_13 eσ_13
      clear hN
      refine lv_aload_n X.1 X.2.1 dX8_remove_77 rfl (lv_at hl 1 rfl) ?_
      refine w_kload (w := w) X dX8_remove_78 (lv_at hl 0 rfl) ?_
      refine wr_V (rV (As := [va_rf (knO w y5_12)]) (rest := []) X hT hWσ_13 hS (met_Index_give l (w := w) hV o y5_12 _ σ_13 (by omega) ry5_12 h) (cwV 1 X.2.2.2.2 (lw_V q1376 q1378 qs52 q139 q1379) rfl rfl rfl (by decide +kernel) ⟨Nat.le_of_ble_eq_true rfl, Nat.le_of_ble_eq_true rfl⟩) vl6_o (by decide) rfl rfl hl.1 rfl (by first | exact Nat.le_of_ble_eq_true rfl | simp [catK, catI, catR, catL]) dX8_remove_80 ⟨Nat.le_refl _, Nat.le_refl _⟩) hS (fun σ_15 H locs rkσ_15 h hWσ_15 hS => ?_)
      have h := h rkσ_15
      refine lv_goto (tgt := 39) X.1 X.2.1 dX8_remove_83 (by decide) ?_
      exact hK39 σ_15 _ _ _ (lv_sub hl [1] rfl) hWσ_15 hS h
theorem wk_Index_remove_L39 {p : Program} {l : Launch} {e : Env} {st : State} {m : MethodId} {args : Array Value} {below : List Frame} {meth : Method} {c : Code} {w : Wp} {o : Int} {x1 : Int} {x3 : Int} {Q : St → Prop} (X : CallFix p m c cX8_remove 6 st args lw_all RX8) (hr : meth.sig.returnType = none) (hlk : meth.locks = false) (hT : Tb w st) (hV : Hvl w) (ho : 0 ≤ o ∧ o < 2) (rx1 : rJ x1) (rx3 : rJ x3) : ∀ (σ : St) (H : Heap) (locs : List Loc) (ls : Array Slot), lv_has ls 6 [(0, .ref (wad w 6 o))] → Wo w σ H → va_S (wA w) st.heap H locs → lQ0 (wp_Index_remove_L39 (wc w) (wtv w) o x1 x3 Q) σ → W p l e (headSpec (ws_ yX8_remove cX8_remove 6 none) rm_Index_remove).room st m args below meth c H locs 0 0 (MQ below (QcV w Q) args st 0 0 (wA w)) (F0 m 39 ls []) := by
  intro σ H locs ls hl hW hS h
  obtain ⟨fu, h⟩ := h
  induction fu generalizing σ H locs ls with
  | zero => exact h.elim
  | succ fu ih =>
    exact wk_Index_remove_L39B X hr hlk hT hV ho rx1 rx3 (lq0 (wp_Index_remove_L39 (wc w) (wtv w) o x1 x3 Q) fu) (fun σ H locs ls hl hW hS h => ih σ H locs ls hl hW hS h) σ H locs ls hl hW hS h
set_option maxHeartbeats 4000000 in
set_option maxRecDepth 100000 in
theorem met_Index_remove (l : Launch) {w : Wp} (hV : Hvl w) (o : Int) (x1 : Int) (x3 : Int) (Q : St → Prop) (σ : St) (ho : 0 ≤ o ∧ o < 2) (rx1 : rJ x1) (rx3 : rJ x3) (h : wp_Index_remove (wc w) (wtv w) o x1 x3 Q σ) : Met l yX8_remove (ws_ yX8_remove cX8_remove 6 none) rm_Index_remove (PcW w σ [.ref (wad w 6 o), .long (oL x1), .long (oL x3)]) (QcV w Q) 0 0 (wA w) := by
  refine Met.ofW (cc := cX8_remove) (maxL := 6) (ret := none) (by decide) rfl ?_
  intro p e st m args below meth c s₁ B hml hv
  obtain ⟨hargs, hW, hT⟩ := hv
  have X : CallFix p m c cX8_remove 6 st _ lw_all RX8 := ⟨B.exec, B.bytes, hml, findClass_of_methodNamed B.named, fun w h => atoms_spec (ws := ws_ yX8_remove cX8_remove 6 none) B.pre w (List.mem_cons_of_mem _ h)⟩
  have hr := B.returns
  have hlk := B.notSynchronized
  have hS : va_S (wA w) st.heap st.heap [] := va_S.rf
  have vl324_o : vl w 324 o := hV.hv 324 rfl ⟨by omega, by show _ < (2 : Int); omega⟩
  have vl5_o : vl w 5 o := hV.hv 5 rfl ⟨by omega, by show _ < (2 : Int); omega⟩
  have vl6_o : vl w 6 o := hV.hv 6 rfl ⟨by omega, by show _ < (2 : Int); omega⟩
  have hl := lv_entry ([.ref (wad w 6 o), .long (oL x1), .long (oL x3)]) (n := 6) (Nat.le_of_ble_eq_true rfl)
  have hfr := lg_entry_eq m ([.ref (wad w 6 o), .long (oL x1), .long (oL x3)]) 6
  rw [← hargs] at hfr
  rw [hfr]
  generalize (lg_sl ([.ref (wad w 6 o), .long (oL x1), .long (oL x3)]) ++ List.replicate (6 - (lg_sl ([.ref (wad w 6 o), .long (oL x1), .long (oL x3)])).length) Slot.unset).toArray = ls at hl ⊢
  have hl : lv_has ls 6 [(0, .ref (wad w 6 o)), (1, .long (oL x1)), (3, .long (oL x3))] := hl
  unfold wp_Index_remove at h
  refine lv_aload_n X.1 X.2.1 dX8_remove_0 rfl (lv_at hl 0 rfl) ?_
  refine lv_lload_n X.1 X.2.1 dX8_remove_1 rfl (lv_at hl 1 rfl) ?_
  refine lv_lload_n X.1 X.2.1 dX8_remove_2 rfl (lv_at hl 2 rfl) ?_
  refine wr_Z (rV (As := [.long (oL x1), .long (oL x3)]) (rest := []) X hT hW hS (met_Index_find l (w := w) hV o x1 x3 _ σ (by omega) rx1 rx3 h) (cwV 2 X.2.2.2.2 (lw_V q901 q902 q903 q139 q904) rfl rfl rfl (by decide +kernel) ⟨Nat.le_of_ble_eq_true rfl, Nat.le_of_ble_eq_true rfl⟩) vl6_o (by decide) rfl rfl hl.1 rfl (by first | exact Nat.le_of_ble_eq_true rfl | simp [catK, catI, catR, catL]) dX8_remove_3 ⟨Nat.le_refl _, Nat.le_refl _⟩) hS (fun r_16 σ_17 H locs rr_16 rkσ_17 h hWσ_17 hS => ?_)
  have h := h rr_16 rkσ_17
  refine w_if_ne (tgt := 10) X rr_16.i dX8_remove_6 (by decide) (fun hc => ?_) (fun hc => ?_)
  · have h := h.1 hc
    refine lv_aload_n X.1 X.2.1 dX8_remove_10 rfl (lv_at hl 0 rfl) ?_
    refine wg (v := .ref (wad w 5 o)) X hT hWσ_17 6 0 384 vl6_o rfl rfl (by decide) rfl (by decide) in_X8 q442 rfl dX8_remove_11 ?_
    refine wg (v := .ref (wad w 324 o)) X hT hWσ_17 5 4 324 vl5_o rfl rfl (by decide) rfl (by decide) in_X7 q346 rfl dX8_remove_14 ?_
    refine lv_aload_n X.1 X.2.1 dX8_remove_17 rfl (lv_at hl 0 rfl) ?_
    refine wg (v := .int (oI (gI σ_17 393 o))) X hT hWσ_17 6 9 393 vl6_o rfl rfl (by decide) rfl (by decide) in_X8 q459 rfl dX8_remove_18 ?_
    refine lv_dup2_11 X.1 X.2.1 dX8_remove_21 rfl rfl ?_
    obtain ⟨bi, h⟩ := h
    refine w_iald (n := ((wc w).1 - 6)) X hT hWσ_17 324 vl324_o (by decide) rfl rfl bi dX8_remove_22 ?_
    refine lv_aload_n X.1 X.2.1 dX8_remove_23 rfl (lv_at hl 0 rfl) ?_
    refine wg (v := .int (oI (gI σ_17 395 o))) X hT hWσ_17 6 11 395 vl6_o rfl rfl (by decide) rfl (by decide) in_X8 q465 rfl dX8_remove_24 ?_
    refine w_isub X dX8_remove_27 ?_
    obtain ⟨bi, h⟩ := h
    refine w_iast (n := ((wc w).1 - 6)) X hT hWσ_17 hS 324 vl324_o (by decide) rfl rfl bi (w32_r _) dX8_remove_28 (fun H locs hN hS => ?_)
    obtain ⟨σ_18, eσ_18⟩ : ∃ x, x = sA σ_17 324 o (gI σ_17 393 o) (w32 ((gA σ_17 324 o (gI σ_17 393 o)) - (gI σ_17 395 o))) := ⟨_, rfl⟩
    have hWσ_18 : Wo w σ_18 H := eσ_18 ▸ hN
    have h := h σ_18 eσ_18
    clear hN
    refine lv_aload_n X.1 X.2.1 dX8_remove_29 rfl (lv_at hl 0 rfl) ?_
    refine lv_aload_n X.1 X.2.1 dX8_remove_30 rfl (lv_at hl 0 rfl) ?_
    refine wg (v := va_rf (knO w (gI σ_18 387 o))) X hT hWσ_18 6 3 387 vl6_o rfl rfl (by decide) rfl (by decide) in_X8 q445 rfl dX8_remove_31 ?_
    refine lv_lload_n X.1 X.2.1 dX8_remove_34 rfl (lv_at hl 1 rfl) ?_
    refine lv_lload_n X.1 X.2.1 dX8_remove_35 rfl (lv_at hl 2 rfl) ?_
    refine wr_V (rV (As := [va_rf (knO w (gI σ_18 387 o)), .long (oL x1), .long (oL x3)]) (rest := []) X hT hWσ_18 hS (met_Index_take l hV 12 o (gI σ_18 387 o) x1 x3 _ σ_18 (by omega) (hWσ_18.r.k 387 o rfl) rx1 rx3 h) (cwV 3 X.2.2.2.2 (lw_V q1364 q1366 qs50 q139 q1367) rfl rfl rfl (by decide +kernel) ⟨Nat.le_of_ble_eq_true rfl, Nat.le_of_ble_eq_true rfl⟩) vl6_o (by decide) rfl rfl hl.1 rfl (by first | exact Nat.le_of_ble_eq_true rfl | simp [catK, catI, catR, catL]) dX8_remove_36 ⟨Nat.le_refl _, Nat.le_refl _⟩) hS (fun σ_20 H locs rkσ_20 h hWσ_20 hS => ?_)
    have h := h rkσ_20
    exact wk_Index_remove_L39 X hr hlk hT hV ho rx1 rx3 σ_20 _ _ _ (lv_sub hl [0] rfl) hWσ_20 hS h
  · have h := h.2 hc
    exact wret_V X hr hlk hWσ_17 hS h dX8_remove_9
/-! Index.plant(LNandHouse$Knot;)V -/
set_option maxHeartbeats 4000000 in
set_option maxRecDepth 100000 in
theorem met_Index_plant (l : Launch) {w : Wp} (hV : Hvl w) (o : Int) (x1 : Int) (Q : St → Prop) (σ : St) (ho : 0 ≤ o ∧ o < 2) (rx1 : rK x1) (h : wp_Index_plant (wc w) (wtv w) o x1 Q σ) : Met l yX8_plant (ws_ yX8_plant cX8_plant 2 none) rm_Index_plant (PcW w σ [.ref (wad w 6 o), va_rf (knO w x1)]) (QcV w Q) 0 0 (wA w) := by
  refine Met.ofW (cc := cX8_plant) (maxL := 2) (ret := none) (by decide) rfl ?_
  intro p e st m args below meth c s₁ B hml hv
  obtain ⟨hargs, hW, hT⟩ := hv
  have X : CallFix p m c cX8_plant 2 st _ lw_all RX8 := ⟨B.exec, B.bytes, hml, findClass_of_methodNamed B.named, fun w h => atoms_spec (ws := ws_ yX8_plant cX8_plant 2 none) B.pre w (List.mem_cons_of_mem _ h)⟩
  have hr := B.returns
  have hlk := B.notSynchronized
  have hS : va_S (wA w) st.heap st.heap [] := va_S.rf
  have vl6_o : vl w 6 o := hV.hv 6 rfl ⟨by omega, by show _ < (2 : Int); omega⟩
  have hl := lv_entry ([.ref (wad w 6 o), va_rf (knO w x1)]) (n := 2) (by simp [lg_sl, catK, catI, catR, catL])
  have hfr := lg_entry_eq m ([.ref (wad w 6 o), va_rf (knO w x1)]) 2
  rw [← hargs] at hfr
  rw [hfr]
  generalize (lg_sl ([.ref (wad w 6 o), va_rf (knO w x1)]) ++ List.replicate (2 - (lg_sl ([.ref (wad w 6 o), va_rf (knO w x1)])).length) Slot.unset).toArray = ls at hl ⊢
  simp [lv_args, catK, catI, catR, catL] at hl
  have hl : lv_has ls 2 [(0, .ref (wad w 6 o)), (1, va_rf (knO w x1))] := hl
  unfold wp_Index_plant at h
  refine lv_aload_n X.1 X.2.1 dX8_plant_0 rfl (lv_at hl 0 rfl) ?_
  refine lv_aload_n X.1 X.2.1 dX8_plant_1 rfl (lv_at hl 0 rfl) ?_
  refine wg (v := va_rf (knO w (gI σ 387 o))) X hT hW 6 3 387 vl6_o rfl rfl (by decide) rfl (by decide) in_X8 q445 rfl dX8_plant_2 ?_
  refine wr_V (rV (As := [va_rf (knO w (gI σ 387 o))]) (rest := []) X hT hW hS (met_Index_giveAll l hV 12 o (gI σ 387 o) _ σ (by omega) (hW.r.k 387 o rfl) h) (cwV 1 X.2.2.2.2 (lw_V q724 q726 qs6 q139 q727) rfl rfl rfl (by decide +kernel) ⟨Nat.le_of_ble_eq_true rfl, Nat.le_of_ble_eq_true rfl⟩) vl6_o (by decide) rfl rfl hl.1 rfl (by first | exact Nat.le_of_ble_eq_true rfl | simp [catK, catI, catR, catL]) dX8_plant_5 ⟨Nat.le_refl _, Nat.le_refl _⟩) hS (fun σ_5 H locs rkσ_5 h hWσ_5 hS => ?_)
  have h := h rkσ_5
  refine lv_aload_n X.1 X.2.1 dX8_plant_8 rfl (lv_at hl 0 rfl) ?_
  refine w_kload_n (w := w) X dX8_plant_9 rfl (lv_at hl 1 rfl) ?_
  refine wput (z := x1) X hT hWσ_5 hS 6 3 387 vl6_o rfl rfl (by decide) rfl (by decide) in_X8 tyX8 tyX8_ok nmX8 q445 rfl rfl rx1 (fv2 w rfl) (nrK w _ _) (ftK w _ _) dX8_plant_10 (fun H locs hN hS => ?_)
  obtain ⟨σ_6, eσ_6⟩ : ∃ x, x = sI σ_5 387 o x1 := ⟨_, rfl⟩
  have hWσ_6 : Wo w σ_6 H := eσ_6 ▸ hN
  have h := h σ_6 eσ_6
  clear hN
  exact wret_V X hr hlk hWσ_6 hS h dX8_plant_13
/-! Index.isSound(LNandHouse$Knot;Z)Z -/
set_option maxHeartbeats 4000000 in
set_option maxRecDepth 100000 in
theorem wk_Index_isSound_b224 {p : Program} {l : Launch} {e : Env} {st : State} {m : MethodId} {args : Array Value} {below : List Frame} {meth : Method} {c : Code} {w : Wp} {o : Int} {x1 : Int} {x2 : Int} {Q : Int → St → Prop} {n : Nat} {F : Int → Int → Int → (Int → St → Prop) → St → Prop} (X : CallFix p m c cX8_isSound 6 st args lw_all RX8) (hr : meth.sig.returnType = (some .boolean)) (hlk : meth.locks = false) (hT : Tb w st) (hV : Hvl w) (hF : ∀ (o : Int) (x1 : Int) (x2 : Int) (Q : Int → St → Prop) (σ : St), 0 ≤ o ∧ o < 2 → rK x1 → rZ x2 →  F o x1 x2 Q σ → Met l yX8_isSound (ws_ yX8_isSound cX8_isSound 6 (some .boolean)) (rm_Index_isSound n) (PcW w σ [.ref (wad w 6 o), va_rf (knO w x1), .int (oI x2)]) (QcZ w Q) 0 0 (wA w)) (ho : 0 ≤ o ∧ o < 2) (rx1 : rK x1) (rx2 : rZ x2) (K269 : Int → Int → St → Prop) (hK269 : ∀ (y3 y4 : Int) (σ : St) (H : Heap) (locs : List Loc) (ls : Array Slot), rZ y3 → rI y4 → lv_has ls 6 [(0, .ref (wad w 6 o)), (1, va_rf (knO w x1)), (3, .int (oI y3)), (4, .int (oI y4))] → Wo w σ H → va_S (wA w) st.heap H locs → K269 y3 y4 σ → W p l e (headSpec (ws_ yX8_isSound cX8_isSound 6 (some .boolean)) (rm_Index_isSound (n + 1))).room st m args below meth c H locs 0 0 (MQ below (QcZ w Q) args st 0 0 (wA w)) (F0 m 269 ls [])) : ∀ (y4 t0 t1 : Int) (σ : St) (H : Heap) (locs : List Loc) (ls : Array Slot), rI y4 → rZ t0 → rZ t1 → lv_has ls 6 [(0, .ref (wad w 6 o)), (1, va_rf (knO w x1)), (4, .int (oI y4))] → Wo w σ H → va_S (wA w) st.heap H locs → wp_Index_isSound_b224 (wc w) (wtv w) o x1 x2 F Q K269 y4 t0 t1 σ → W p l e (headSpec (ws_ yX8_isSound cX8_isSound 6 (some .boolean)) (rm_Index_isSound (n + 1))).room st m args below meth c H locs 0 0 (MQ below (QcZ w Q) args st 0 0 (wA w)) (F0 m 224 ls [.int (oI t0), .int (oI t1)]) := by
  have vl6_o : vl w 6 o := hV.hv 6 rfl ⟨by omega, by show _ < (2 : Int); omega⟩
  intro y4 t0 t1 σ H locs ls ry4 rt0 rt1 hl hW hS h
  unfold wp_Index_isSound_b224 at h
  refine w_iand X dX8_isSound_224 ?_
  refine w_top (fun y3_58 ey3_58 => ?_)
  have h := h y3_58 ey3_58
  have ry3_58 : rZ y3_58 := by rw [ey3_58]; exact (iand_Z rt1 rt0)
  refine lv_istore_n (i := 3) (lv' := [(3, .int (oI y3_58)), (0, .ref (wad w 6 o)), (1, va_rf (knO w x1)), (4, .int (oI y4))]) X.1 X.2.1 dX8_isSound_225 rfl hl (by decide) (by first | rfl | simp [catK, catI, catR, catL]) (fun ls hl => ?_)
  refine lv_iload X.1 X.2.1 dX8_isSound_226 (lv_at hl 3 rfl) ?_
  refine lv_iconst (v := oI 1) X.1 X.2.1 dX8_isSound_228 rfl ?_
  refine w_iadd X dX8_isSound_229 ?_
  refine w_kload_n (w := w) X dX8_isSound_230 rfl (lv_at hl 2 rfl) ?_
  obtain ⟨hz_59, h⟩ := h
  rw [knR hz_59]
  refine wg (v := .int (oI (gI σ 577 x1))) X hT hW 9 1 577 (hV.hv 9 rfl ⟨hz_59, rx1.2⟩) rfl rfl (by decide) rfl (by decide) in_X9 q387 rfl dX8_isSound_231 ?_
  refine w_icmp_ge (tgt := 269) X (w32_r _) (hW.r.i 577 x1 rfl) dX8_isSound_234 (by decide) (fun hc => ?_) (fun hc => ?_)
  · have h := h.1 hc
    exact hK269 y3_58 y4 σ _ _ _ ry3_58 ry4 (lv_sub hl [1, 2, 0, 3] rfl) hW hS h
  · have h := h.2 hc
    refine lv_iload_n X.1 X.2.1 dX8_isSound_237 rfl (lv_at hl 0 rfl) ?_
    refine lv_aload_n X.1 X.2.1 dX8_isSound_238 rfl (lv_at hl 1 rfl) ?_
    refine wg (v := .long (oL (gI σ 391 o))) X hT hW 6 7 391 vl6_o rfl rfl (by decide) rfl (by decide) in_X8 q453 rfl dX8_isSound_239 ?_
    refine lv_aload_n X.1 X.2.1 dX8_isSound_242 rfl (lv_at hl 1 rfl) ?_
    refine wg (v := .long (oL (gI σ 392 o))) X hT hW 6 8 392 vl6_o rfl rfl (by decide) rfl (by decide) in_X8 q456 rfl dX8_isSound_243 ?_
    refine w_kload_n (w := w) X dX8_isSound_246 rfl (lv_at hl 2 rfl) ?_
    rw [knR hz_59]
    refine wg (v := .ref (wad w 578 x1)) X hT hW 9 2 578 (hV.hv 9 rfl ⟨hz_59, rx1.2⟩) rfl rfl (by decide) rfl (by decide) in_X9 q390 rfl dX8_isSound_247 ?_
    refine lv_iload X.1 X.2.1 dX8_isSound_250 (lv_at hl 3 rfl) ?_
    refine lv_iconst (v := oI 1) X.1 X.2.1 dX8_isSound_252 rfl ?_
    refine w_iadd X dX8_isSound_253 ?_
    obtain ⟨bi, h⟩ := h
    refine w_lald (n := 9) X hT hW 578 (hV.hv 578 rfl ⟨hz_59, rx1.2⟩) (by decide) rfl rfl bi dX8_isSound_254 ?_
    refine w_kload_n (w := w) X dX8_isSound_255 rfl (lv_at hl 2 rfl) ?_
    rw [knR hz_59]
    refine wg (v := .ref (wad w 579 x1)) X hT hW 9 3 579 (hV.hv 9 rfl ⟨hz_59, rx1.2⟩) rfl rfl (by decide) rfl (by decide) in_X9 q393 rfl dX8_isSound_256 ?_
    refine lv_iload X.1 X.2.1 dX8_isSound_259 (lv_at hl 3 rfl) ?_
    refine lv_iconst (v := oI 1) X.1 X.2.1 dX8_isSound_261 rfl ?_
    refine w_iadd X dX8_isSound_262 ?_
    obtain ⟨bi, h⟩ := h
    refine w_lald (n := 9) X hT hW 579 (hV.hv 579 rfl ⟨hz_59, rx1.2⟩) (by decide) rfl rfl bi dX8_isSound_263 ?_
    refine wr_Z (rS (As := [.long (oL (gI σ 391 o)), .long (oL (gI σ 392 o)), .long (oL (gA σ 578 x1 (w32 (y4 + 1)))), .long (oL (gA σ 579 x1 (w32 (y4 + 1))))]) (rest := [.int (oI y3_58)]) X hT hW hS (met_Knot_isBefore l (w := w) (gI σ 391 o) (gI σ 392 o) (gA σ 578 x1 (w32 (y4 + 1))) (gA σ 579 x1 (w32 (y4 + 1))) _ σ (hW.r.j 391 o rfl) (hW.r.j 392 o rfl) (hW.r.aj 578 x1 (w32 (y4 + 1)) rfl) (hW.r.aj 579 x1 (w32 (y4 + 1)) rfl) h) (va_cwS 4 X.2.2.2.2 (lw_S q1814 q914 q140 q915) rfl rfl rfl (by decide +kernel) ⟨by show _ ≤ _; simp only [headSpec, rm_Index_isSound]; omega, by show _ ≤ _; simp only [headSpec, rm_Index_isSound]; omega⟩) rfl hl.1 rfl (by first | exact Nat.le_of_ble_eq_true rfl | simp [catK, catI, catR, catL]) dX8_isSound_264 ⟨Nat.le_refl _, Nat.le_refl _⟩) hS (fun r_60 σ_61 H locs rr_60 rkσ_61 h hWσ_61 hS => ?_)
    have h := h rr_60 rkσ_61
    refine w_iand X dX8_isSound_267 ?_
    refine w_top (fun y3_62 ey3_62 => ?_)
    have h := h y3_62 ey3_62
    have ry3_62 : rZ y3_62 := by rw [ey3_62]; exact (iand_Z ry3_58 rr_60)
    refine lv_istore_n (i := 3) (lv' := [(3, .int (oI y3_62)), (0, .ref (wad w 6 o)), (1, va_rf (knO w x1)), (4, .int (oI y4))]) X.1 X.2.1 dX8_isSound_268 rfl hl (by decide) (by first | rfl | simp [catK, catI, catR, catL]) (fun ls hl => ?_)
    exact hK269 y3_62 y4 σ_61 _ _ _ ry3_62 ry4 (lv_sub hl [1, 2, 0, 3] rfl) hWσ_61 hS h
set_option maxHeartbeats 4000000 in
set_option maxRecDepth 100000 in
theorem wk_Index_isSound_b269 {p : Program} {l : Launch} {e : Env} {st : State} {m : MethodId} {args : Array Value} {below : List Frame} {meth : Method} {c : Code} {w : Wp} {o : Int} {x1 : Int} {x2 : Int} {Q : Int → St → Prop} {n : Nat} {F : Int → Int → Int → (Int → St → Prop) → St → Prop} (X : CallFix p m c cX8_isSound 6 st args lw_all RX8) (hr : meth.sig.returnType = (some .boolean)) (hlk : meth.locks = false) (hT : Tb w st) (hV : Hvl w) (hF : ∀ (o : Int) (x1 : Int) (x2 : Int) (Q : Int → St → Prop) (σ : St), 0 ≤ o ∧ o < 2 → rK x1 → rZ x2 →  F o x1 x2 Q σ → Met l yX8_isSound (ws_ yX8_isSound cX8_isSound 6 (some .boolean)) (rm_Index_isSound n) (PcW w σ [.ref (wad w 6 o), va_rf (knO w x1), .int (oI x2)]) (QcZ w Q) 0 0 (wA w)) (ho : 0 ≤ o ∧ o < 2) (rx1 : rK x1) (rx2 : rZ x2) (K49 : Int → Int → St → Prop) (hK49 : ∀ (y3 y4 : Int) (σ : St) (H : Heap) (locs : List Loc) (ls : Array Slot), rZ y3 → rI y4 → lv_has ls 6 [(0, .ref (wad w 6 o)), (1, va_rf (knO w x1)), (3, .int (oI y3)), (4, .int (oI y4))] → Wo w σ H → va_S (wA w) st.heap H locs → K49 y3 y4 σ → W p l e (headSpec (ws_ yX8_isSound cX8_isSound 6 (some .boolean)) (rm_Index_isSound (n + 1))).room st m args below meth c H locs 0 0 (MQ below (QcZ w Q) args st 0 0 (wA w)) (F0 m 49 ls [])) : ∀ (y3 y4 : Int) (σ : St) (H : Heap) (locs : List Loc) (ls : Array Slot), rZ y3 → rI y4 → lv_has ls 6 [(0, .ref (wad w 6 o)), (1, va_rf (knO w x1)), (3, .int (oI y3)), (4, .int (oI y4))] → Wo w σ H → va_S (wA w) st.heap H locs → wp_Index_isSound_b269 (wc w) (wtv w) o x1 x2 F Q K49 y3 y4 σ → W p l e (headSpec (ws_ yX8_isSound cX8_isSound 6 (some .boolean)) (rm_Index_isSound (n + 1))).room st m args below meth c H locs 0 0 (MQ below (QcZ w Q) args st 0 0 (wA w)) (F0 m 269 ls []) := by

  intro y3 y4 σ H locs ls ry3 ry4 hl hW hS h
  unfold wp_Index_isSound_b269 at h
  obtain ⟨y4_63, ey4_63⟩ : ∃ y : Int, y = w32 (y4 + 1) := ⟨_, rfl⟩
  have h := h y4_63 ey4_63
  have ry4_63 : rI y4_63 := by rw [ey4_63]; exact w32_r _
  refine lv_iinc (v := oI y4_63) (lv' := [(4, .int (oI y4_63)), (0, .ref (wad w 6 o)), (1, va_rf (knO w x1)), (3, .int (oI y3))]) X.1 X.2.1 dX8_isSound_269 hl (k := 3) rfl (by rw [ey4_63]; exact oI_add _ _) (by decide) (by first | rfl | simp [catK, catI, catR, catL]) (fun ls hl => ?_)
  refine lv_goto (tgt := 49) X.1 X.2.1 dX8_isSound_272 (by decide) ?_
  exact hK49 y3 y4_63 σ _ _ _ ry3 ry4_63 (lv_sub hl [1, 2, 3, 0] rfl) hW hS h
set_option maxHeartbeats 4000000 in
set_option maxRecDepth 100000 in
theorem wk_Index_isSound_b223 {p : Program} {l : Launch} {e : Env} {st : State} {m : MethodId} {args : Array Value} {below : List Frame} {meth : Method} {c : Code} {w : Wp} {o : Int} {x1 : Int} {x2 : Int} {Q : Int → St → Prop} {n : Nat} {F : Int → Int → Int → (Int → St → Prop) → St → Prop} (X : CallFix p m c cX8_isSound 6 st args lw_all RX8) (hr : meth.sig.returnType = (some .boolean)) (hlk : meth.locks = false) (hT : Tb w st) (hV : Hvl w) (hF : ∀ (o : Int) (x1 : Int) (x2 : Int) (Q : Int → St → Prop) (σ : St), 0 ≤ o ∧ o < 2 → rK x1 → rZ x2 →  F o x1 x2 Q σ → Met l yX8_isSound (ws_ yX8_isSound cX8_isSound 6 (some .boolean)) (rm_Index_isSound n) (PcW w σ [.ref (wad w 6 o), va_rf (knO w x1), .int (oI x2)]) (QcZ w Q) 0 0 (wA w)) (ho : 0 ≤ o ∧ o < 2) (rx1 : rK x1) (rx2 : rZ x2) (K224 : Int → Int → Int → St → Prop) (hK224 : ∀ (y4 t0 t1 : Int) (σ : St) (H : Heap) (locs : List Loc) (ls : Array Slot), rI y4 → rZ t0 → rZ t1 → lv_has ls 6 [(0, .ref (wad w 6 o)), (1, va_rf (knO w x1)), (4, .int (oI y4))] → Wo w σ H → va_S (wA w) st.heap H locs → K224 y4 t0 t1 σ → W p l e (headSpec (ws_ yX8_isSound cX8_isSound 6 (some .boolean)) (rm_Index_isSound (n + 1))).room st m args below meth c H locs 0 0 (MQ below (QcZ w Q) args st 0 0 (wA w)) (F0 m 224 ls [.int (oI t0), .int (oI t1)])) : ∀ (y4 t0 : Int) (σ : St) (H : Heap) (locs : List Loc) (ls : Array Slot), rI y4 → rZ t0 → lv_has ls 6 [(0, .ref (wad w 6 o)), (1, va_rf (knO w x1)), (4, .int (oI y4))] → Wo w σ H → va_S (wA w) st.heap H locs → wp_Index_isSound_b223 (wc w) (wtv w) o x1 x2 F Q K224 y4 t0 σ → W p l e (headSpec (ws_ yX8_isSound cX8_isSound 6 (some .boolean)) (rm_Index_isSound (n + 1))).room st m args below meth c H locs 0 0 (MQ below (QcZ w Q) args st 0 0 (wA w)) (F0 m 223 ls [.int (oI t0)]) := by

  intro y4 t0 σ H locs ls ry4 rt0 hl hW hS h
  unfold wp_Index_isSound_b223 at h
  refine lv_iconst (v := oI 0) X.1 X.2.1 dX8_isSound_223 rfl ?_
  exact hK224 y4 0 t0 σ _ _ _ ry4 rZ_0 rt0 (lv_sub hl [0, 1, 2] rfl) hW hS h
set_option maxHeartbeats 4000000 in
set_option maxRecDepth 100000 in
theorem wk_Index_isSound_b102 {p : Program} {l : Launch} {e : Env} {st : State} {m : MethodId} {args : Array Value} {below : List Frame} {meth : Method} {c : Code} {w : Wp} {o : Int} {x1 : Int} {x2 : Int} {Q : Int → St → Prop} {n : Nat} {F : Int → Int → Int → (Int → St → Prop) → St → Prop} (X : CallFix p m c cX8_isSound 6 st args lw_all RX8) (hr : meth.sig.returnType = (some .boolean)) (hlk : meth.locks = false) (hT : Tb w st) (hV : Hvl w) (hF : ∀ (o : Int) (x1 : Int) (x2 : Int) (Q : Int → St → Prop) (σ : St), 0 ≤ o ∧ o < 2 → rK x1 → rZ x2 →  F o x1 x2 Q σ → Met l yX8_isSound (ws_ yX8_isSound cX8_isSound 6 (some .boolean)) (rm_Index_isSound n) (PcW w σ [.ref (wad w 6 o), va_rf (knO w x1), .int (oI x2)]) (QcZ w Q) 0 0 (wA w)) (ho : 0 ≤ o ∧ o < 2) (rx1 : rK x1) (rx2 : rZ x2) (K107 : Int → Int → Int → St → Prop) (hK107 : ∀ (y4 t0 t1 : Int) (σ : St) (H : Heap) (locs : List Loc) (ls : Array Slot), rI y4 → rZ t0 → rZ t1 → lv_has ls 6 [(0, .ref (wad w 6 o)), (1, va_rf (knO w x1)), (4, .int (oI y4))] → Wo w σ H → va_S (wA w) st.heap H locs → K107 y4 t0 t1 σ → W p l e (headSpec (ws_ yX8_isSound cX8_isSound 6 (some .boolean)) (rm_Index_isSound (n + 1))).room st m args below meth c H locs 0 0 (MQ below (QcZ w Q) args st 0 0 (wA w)) (F0 m 107 ls [.int (oI t0), .int (oI t1)])) : ∀ (y4 t0 : Int) (σ : St) (H : Heap) (locs : List Loc) (ls : Array Slot), rI y4 → rZ t0 → lv_has ls 6 [(0, .ref (wad w 6 o)), (1, va_rf (knO w x1)), (4, .int (oI y4))] → Wo w σ H → va_S (wA w) st.heap H locs → wp_Index_isSound_b102 (wc w) (wtv w) o x1 x2 F Q K107 y4 t0 σ → W p l e (headSpec (ws_ yX8_isSound cX8_isSound 6 (some .boolean)) (rm_Index_isSound (n + 1))).room st m args below meth c H locs 0 0 (MQ below (QcZ w Q) args st 0 0 (wA w)) (F0 m 102 ls [.int (oI t0)]) := by

  intro y4 t0 σ H locs ls ry4 rt0 hl hW hS h
  unfold wp_Index_isSound_b102 at h
  refine lv_iconst (v := oI 1) X.1 X.2.1 dX8_isSound_102 rfl ?_
  refine lv_goto (tgt := 107) X.1 X.2.1 dX8_isSound_103 (by decide) ?_
  exact hK107 y4 1 t0 σ _ _ _ ry4 rZ_1 rt0 (lv_sub hl [0, 1, 2] rfl) hW hS h
set_option maxHeartbeats 4000000 in
set_option maxRecDepth 100000 in
theorem wk_Index_isSound_b107 {p : Program} {l : Launch} {e : Env} {st : State} {m : MethodId} {args : Array Value} {below : List Frame} {meth : Method} {c : Code} {w : Wp} {o : Int} {x1 : Int} {x2 : Int} {Q : Int → St → Prop} {n : Nat} {F : Int → Int → Int → (Int → St → Prop) → St → Prop} (X : CallFix p m c cX8_isSound 6 st args lw_all RX8) (hr : meth.sig.returnType = (some .boolean)) (hlk : meth.locks = false) (hT : Tb w st) (hV : Hvl w) (hF : ∀ (o : Int) (x1 : Int) (x2 : Int) (Q : Int → St → Prop) (σ : St), 0 ≤ o ∧ o < 2 → rK x1 → rZ x2 →  F o x1 x2 Q σ → Met l yX8_isSound (ws_ yX8_isSound cX8_isSound 6 (some .boolean)) (rm_Index_isSound n) (PcW w σ [.ref (wad w 6 o), va_rf (knO w x1), .int (oI x2)]) (QcZ w Q) 0 0 (wA w)) (ho : 0 ≤ o ∧ o < 2) (rx1 : rK x1) (rx2 : rZ x2) (K49 : Int → Int → St → Prop) (hK49 : ∀ (y3 y4 : Int) (σ : St) (H : Heap) (locs : List Loc) (ls : Array Slot), rZ y3 → rI y4 → lv_has ls 6 [(0, .ref (wad w 6 o)), (1, va_rf (knO w x1)), (3, .int (oI y3)), (4, .int (oI y4))] → Wo w σ H → va_S (wA w) st.heap H locs → K49 y3 y4 σ → W p l e (headSpec (ws_ yX8_isSound cX8_isSound 6 (some .boolean)) (rm_Index_isSound (n + 1))).room st m args below meth c H locs 0 0 (MQ below (QcZ w Q) args st 0 0 (wA w)) (F0 m 49 ls [])) : ∀ (y4 t0 t1 : Int) (σ : St) (H : Heap) (locs : List Loc) (ls : Array Slot), rI y4 → rZ t0 → rZ t1 → lv_has ls 6 [(0, .ref (wad w 6 o)), (1, va_rf (knO w x1)), (4, .int (oI y4))] → Wo w σ H → va_S (wA w) st.heap H locs → wp_Index_isSound_b107 (wc w) (wtv w) o x1 x2 F Q K49 y4 t0 t1 σ → W p l e (headSpec (ws_ yX8_isSound cX8_isSound 6 (some .boolean)) (rm_Index_isSound (n + 1))).room st m args below meth c H locs 0 0 (MQ below (QcZ w Q) args st 0 0 (wA w)) (F0 m 107 ls [.int (oI t0), .int (oI t1)]) := by
  have vl6_o : vl w 6 o := hV.hv 6 rfl ⟨by omega, by show _ < (2 : Int); omega⟩
  intro y4 t0 t1 σ H locs ls ry4 rt0 rt1 hl hW hS h
  unfold wp_Index_isSound_b107 at h
  refine w_iand X dX8_isSound_107 ?_
  refine w_top (fun y3_64 ey3_64 => ?_)
  have h := h y3_64 ey3_64
  have ry3_64 : rZ y3_64 := by rw [ey3_64]; exact (iand_Z rt1 rt0)
  refine lv_istore_n (i := 3) (lv' := [(3, .int (oI y3_64)), (0, .ref (wad w 6 o)), (1, va_rf (knO w x1)), (4, .int (oI y4))]) X.1 X.2.1 dX8_isSound_108 rfl hl (by decide) (by first | rfl | simp [catK, catI, catR, catL]) (fun ls hl => ?_)
  refine w_kload_n (w := w) X dX8_isSound_109 rfl (lv_at hl 2 rfl) ?_
  obtain ⟨hz_65, h⟩ := h
  rw [knR hz_65]
  refine wg (v := .int (oI (gI σ 576 x1))) X hT hW 9 0 576 (hV.hv 9 rfl ⟨hz_65, rx1.2⟩) rfl rfl (by decide) rfl (by decide) in_X9 q384 rfl dX8_isSound_110 ?_
  refine w_if_ne (tgt := 141) X (hW.r.i 576 x1 rfl) dX8_isSound_113 (by decide) (fun hc => ?_) (fun hc => ?_)
  · have h := h.1 hc
    refine w_kload_n (w := w) X dX8_isSound_141 rfl (lv_at hl 2 rfl) ?_
    rw [knR hz_65]
    refine wg (v := .ref (wad w 583 x1)) X hT hW 9 7 583 (hV.hv 9 rfl ⟨hz_65, rx1.2⟩) rfl rfl (by decide) rfl (by decide) in_X9 q405 rfl dX8_isSound_142 ?_
    refine lv_iload X.1 X.2.1 dX8_isSound_145 (lv_at hl 3 rfl) ?_
    obtain ⟨bi, h⟩ := h
    refine w_aald (n := 9) X hT hW 583 (hV.hv 583 rfl ⟨hz_65, rx1.2⟩) (by decide) rfl rfl bi dX8_isSound_147 ?_
    refine w_topk (w := w) (fun y5_66 ey5_66 => ?_)
    have h := h y5_66 ey5_66
    have ry5_66 : rK y5_66 := by rw [ey5_66]; exact (hW.r.ak 583 x1 y4 rfl)
    refine w_kstore (i := 5) (lv' := [(5, va_rf (knO w y5_66)), (3, .int (oI y3_64)), (0, .ref (wad w 6 o)), (1, va_rf (knO w x1)), (4, .int (oI y4))]) (w := w) X dX8_isSound_148 hl (by decide) (by first | rfl | simp [catK, catI, catR, catL]) (fun ls hl => ?_)
    refine lv_iload_n X.1 X.2.1 dX8_isSound_150 rfl (lv_at hl 1 rfl) ?_
    refine w_kload (w := w) X dX8_isSound_151 (lv_at hl 0 rfl) ?_
    obtain ⟨hz_67, h⟩ := h
    rw [knR hz_67]
    refine wg (v := .int (oI (gI σ 576 y5_66))) X hT hW 9 0 576 (hV.hv 9 rfl ⟨hz_67, ry5_66.2⟩) rfl rfl (by decide) rfl (by decide) in_X9 q384 rfl dX8_isSound_153 ?_
    refine w_kload_n (w := w) X dX8_isSound_156 rfl (lv_at hl 3 rfl) ?_
    rw [knR hz_65]
    refine wg (v := .int (oI (gI σ 576 x1))) X hT hW 9 0 576 (hV.hv 9 rfl ⟨hz_65, rx1.2⟩) rfl rfl (by decide) rfl (by decide) in_X9 q384 rfl dX8_isSound_157 ?_
    refine lv_iconst (v := oI 1) X.1 X.2.1 dX8_isSound_160 rfl ?_
    refine w_isub X dX8_isSound_161 ?_
    refine w_icmp_ne (tgt := 223) X (hW.r.i 576 y5_66 rfl) (w32_r _) dX8_isSound_162 (by decide) (fun hc => ?_) (fun hc => ?_)
    · have h := h.1 hc
      exact wk_Index_isSound_b223 X hr hlk hT hV hF ho rx1 rx2 (wp_Index_isSound_b224 (wc w) (wtv w) o x1 x2 F Q (wp_Index_isSound_b269 (wc w) (wtv w) o x1 x2 F Q K49)) (wk_Index_isSound_b224 X hr hlk hT hV hF ho rx1 rx2 (wp_Index_isSound_b269 (wc w) (wtv w) o x1 x2 F Q K49) (wk_Index_isSound_b269 X hr hlk hT hV hF ho rx1 rx2 K49 hK49)) y4 y3_64 σ _ _ _ ry4 ry3_64 (lv_sub hl [2, 3, 4] rfl) hW hS h
    · have h := h.2 hc
      refine w_kload (w := w) X dX8_isSound_165 (lv_at hl 0 rfl) ?_
      rw [knR hz_67]
      refine wg (v := .int (oI (gI σ 577 y5_66))) X hT hW 9 1 577 (hV.hv 9 rfl ⟨hz_67, ry5_66.2⟩) rfl rfl (by decide) rfl (by decide) in_X9 q387 rfl dX8_isSound_167 ?_
      refine w_if_le (tgt := 223) X (hW.r.i 577 y5_66 rfl) dX8_isSound_170 (by decide) (fun hc => ?_) (fun hc => ?_)
      · have h := h.1 hc
        exact wk_Index_isSound_b223 X hr hlk hT hV hF ho rx1 rx2 (wp_Index_isSound_b224 (wc w) (wtv w) o x1 x2 F Q (wp_Index_isSound_b269 (wc w) (wtv w) o x1 x2 F Q K49)) (wk_Index_isSound_b224 X hr hlk hT hV hF ho rx1 rx2 (wp_Index_isSound_b269 (wc w) (wtv w) o x1 x2 F Q K49) (wk_Index_isSound_b269 X hr hlk hT hV hF ho rx1 rx2 K49 hK49)) y4 y3_64 σ _ _ _ ry4 ry3_64 (lv_sub hl [2, 3, 4] rfl) hW hS h
      · have h := h.2 hc
        refine w_kload (w := w) X dX8_isSound_173 (lv_at hl 0 rfl) ?_
        rw [knR hz_67]
        refine wg (v := .ref (wad w 578 y5_66)) X hT hW 9 2 578 (hV.hv 9 rfl ⟨hz_67, ry5_66.2⟩) rfl rfl (by decide) rfl (by decide) in_X9 q390 rfl dX8_isSound_175 ?_
        refine lv_iconst (v := oI 0) X.1 X.2.1 dX8_isSound_178 rfl ?_
        obtain ⟨bi, h⟩ := h
        refine w_lald (n := 9) X hT hW 578 (hV.hv 578 rfl ⟨hz_67, ry5_66.2⟩) (by decide) rfl rfl bi dX8_isSound_179 ?_
        refine w_kload_n (w := w) X dX8_isSound_180 rfl (lv_at hl 3 rfl) ?_
        rw [knR hz_65]
        refine wg (v := .ref (wad w 578 x1)) X hT hW 9 2 578 (hV.hv 9 rfl ⟨hz_65, rx1.2⟩) rfl rfl (by decide) rfl (by decide) in_X9 q390 rfl dX8_isSound_181 ?_
        refine lv_iload X.1 X.2.1 dX8_isSound_184 (lv_at hl 4 rfl) ?_
        obtain ⟨bi, h⟩ := h
        refine w_lald (n := 9) X hT hW 578 (hV.hv 578 rfl ⟨hz_65, rx1.2⟩) (by decide) rfl rfl bi dX8_isSound_186 ?_
        refine w_lcmp_ne (tgt := 223) X (hW.r.aj 578 y5_66 0 rfl) (hW.r.aj 578 x1 y4 rfl) dX8_isSound_187 dX8_isSound_188 (by decide) (fun hc => ?_) (fun hc => ?_)
        · have h := h.1 hc
          exact wk_Index_isSound_b223 X hr hlk hT hV hF ho rx1 rx2 (wp_Index_isSound_b224 (wc w) (wtv w) o x1 x2 F Q (wp_Index_isSound_b269 (wc w) (wtv w) o x1 x2 F Q K49)) (wk_Index_isSound_b224 X hr hlk hT hV hF ho rx1 rx2 (wp_Index_isSound_b269 (wc w) (wtv w) o x1 x2 F Q K49) (wk_Index_isSound_b269 X hr hlk hT hV hF ho rx1 rx2 K49 hK49)) y4 y3_64 σ _ _ _ ry4 ry3_64 (lv_sub hl [2, 3, 4] rfl) hW hS h
        · have h := h.2 hc
          refine w_kload (w := w) X dX8_isSound_191 (lv_at hl 0 rfl) ?_
          rw [knR hz_67]
          refine wg (v := .ref (wad w 579 y5_66)) X hT hW 9 3 579 (hV.hv 9 rfl ⟨hz_67, ry5_66.2⟩) rfl rfl (by decide) rfl (by decide) in_X9 q393 rfl dX8_isSound_193 ?_
          refine lv_iconst (v := oI 0) X.1 X.2.1 dX8_isSound_196 rfl ?_
          obtain ⟨bi, h⟩ := h
          refine w_lald (n := 9) X hT hW 579 (hV.hv 579 rfl ⟨hz_67, ry5_66.2⟩) (by decide) rfl rfl bi dX8_isSound_197 ?_
          refine w_kload_n (w := w) X dX8_isSound_198 rfl (lv_at hl 3 rfl) ?_
          rw [knR hz_65]
          refine wg (v := .ref (wad w 579 x1)) X hT hW 9 3 579 (hV.hv 9 rfl ⟨hz_65, rx1.2⟩) rfl rfl (by decide) rfl (by decide) in_X9 q393 rfl dX8_isSound_199 ?_
          refine lv_iload X.1 X.2.1 dX8_isSound_202 (lv_at hl 4 rfl) ?_
          obtain ⟨bi, h⟩ := h
          refine w_lald (n := 9) X hT hW 579 (hV.hv 579 rfl ⟨hz_65, rx1.2⟩) (by decide) rfl rfl bi dX8_isSound_204 ?_
          refine w_lcmp_ne (tgt := 223) X (hW.r.aj 579 y5_66 0 rfl) (hW.r.aj 579 x1 y4 rfl) dX8_isSound_205 dX8_isSound_206 (by decide) (fun hc => ?_) (fun hc => ?_)
          · have h := h.1 hc
            exact wk_Index_isSound_b223 X hr hlk hT hV hF ho rx1 rx2 (wp_Index_isSound_b224 (wc w) (wtv w) o x1 x2 F Q (wp_Index_isSound_b269 (wc w) (wtv w) o x1 x2 F Q K49)) (wk_Index_isSound_b224 X hr hlk hT hV hF ho rx1 rx2 (wp_Index_isSound_b269 (wc w) (wtv w) o x1 x2 F Q K49) (wk_Index_isSound_b269 X hr hlk hT hV hF ho rx1 rx2 K49 hK49)) y4 y3_64 σ _ _ _ ry4 ry3_64 (lv_sub hl [2, 3, 4] rfl) hW hS h
          · have h := h.2 hc
            refine lv_aload_n X.1 X.2.1 dX8_isSound_209 rfl (lv_at hl 2 rfl) ?_
            refine w_kload (w := w) X dX8_isSound_210 (lv_at hl 0 rfl) ?_
            refine lv_iconst (v := oI 0) X.1 X.2.1 dX8_isSound_212 rfl ?_
            refine wr_Z (rV (As := [va_rf (knO w y5_66), .int (oI 0)]) (rest := [.int (oI y3_64)]) X hT hW hS (hF o y5_66 0 _ σ (by omega) ry5_66 rZ_0 h) (cwV 2 X.2.2.2.2 (lw_V q1815 q1811 q1812 q139 q1813) rfl rfl rfl (by decide +kernel) ⟨by show _ ≤ _; simp only [headSpec, rm_Index_isSound]; omega, by show _ ≤ _; simp only [headSpec, rm_Index_isSound]; omega⟩) vl6_o (by decide) rfl rfl hl.1 rfl (by first | exact Nat.le_of_ble_eq_true rfl | simp [catK, catI, catR, catL]) dX8_isSound_213 ⟨Nat.le_refl _, Nat.le_refl _⟩) hS (fun r_68 σ_69 H locs rr_68 rkσ_69 h hWσ_69 hS => ?_)
            have h := h rr_68 rkσ_69
            refine w_if_eq (tgt := 223) X rr_68.i dX8_isSound_216 (by decide) (fun hc => ?_) (fun hc => ?_)
            · have h := h.1 hc
              exact wk_Index_isSound_b223 X hr hlk hT hV hF ho rx1 rx2 (wp_Index_isSound_b224 (wc w) (wtv w) o x1 x2 F Q (wp_Index_isSound_b269 (wc w) (wtv w) o x1 x2 F Q K49)) (wk_Index_isSound_b224 X hr hlk hT hV hF ho rx1 rx2 (wp_Index_isSound_b269 (wc w) (wtv w) o x1 x2 F Q K49) (wk_Index_isSound_b269 X hr hlk hT hV hF ho rx1 rx2 K49 hK49)) y4 y3_64 σ_69 _ _ _ ry4 ry3_64 (lv_sub hl [2, 3, 4] rfl) hWσ_69 hS h
            · have h := h.2 hc
              refine lv_iconst (v := oI 1) X.1 X.2.1 dX8_isSound_219 rfl ?_
              refine lv_goto (tgt := 224) X.1 X.2.1 dX8_isSound_220 (by decide) ?_
              exact wk_Index_isSound_b224 X hr hlk hT hV hF ho rx1 rx2 (wp_Index_isSound_b269 (wc w) (wtv w) o x1 x2 F Q K49) (wk_Index_isSound_b269 X hr hlk hT hV hF ho rx1 rx2 K49 hK49) y4 1 y3_64 σ_69 _ _ _ ry4 rZ_1 ry3_64 (lv_sub hl [2, 3, 4] rfl) hWσ_69 hS h
  · have h := h.2 hc
    refine lv_aload_n X.1 X.2.1 dX8_isSound_116 rfl (lv_at hl 1 rfl) ?_
    refine w_kload_n (w := w) X dX8_isSound_117 rfl (lv_at hl 2 rfl) ?_
    rw [knR hz_65]
    refine wg (v := .ref (wad w 578 x1)) X hT hW 9 2 578 (hV.hv 9 rfl ⟨hz_65, rx1.2⟩) rfl rfl (by decide) rfl (by decide) in_X9 q390 rfl dX8_isSound_118 ?_
    refine lv_iload X.1 X.2.1 dX8_isSound_121 (lv_at hl 3 rfl) ?_
    obtain ⟨bi, h⟩ := h
    refine w_lald (n := 9) X hT hW 578 (hV.hv 578 rfl ⟨hz_65, rx1.2⟩) (by decide) rfl rfl bi dX8_isSound_123 ?_
    refine wput (z := gA σ 578 x1 y4) X hT hW hS 6 7 391 vl6_o rfl rfl (by decide) rfl (by decide) in_X8 tyX8 tyX8_ok nmX8 q453 rfl rfl (hW.r.aj 578 x1 y4 rfl) (fv1 w rfl) rfl rfl dX8_isSound_124 (fun H locs hN hS => ?_)
    obtain ⟨σ_70, eσ_70⟩ : ∃ x, x = sI σ 391 o (gA σ 578 x1 y4) := ⟨_, rfl⟩
    have hWσ_70 : Wo w σ_70 H := eσ_70 ▸ hN
    have h := h σ_70 eσ_70
    clear hN
    refine lv_aload_n X.1 X.2.1 dX8_isSound_127 rfl (lv_at hl 1 rfl) ?_
    refine w_kload_n (w := w) X dX8_isSound_128 rfl (lv_at hl 2 rfl) ?_
    rw [knR hz_65]
    refine wg (v := .ref (wad w 579 x1)) X hT hWσ_70 9 3 579 (hV.hv 9 rfl ⟨hz_65, rx1.2⟩) rfl rfl (by decide) rfl (by decide) in_X9 q393 rfl dX8_isSound_129 ?_
    refine lv_iload X.1 X.2.1 dX8_isSound_132 (lv_at hl 3 rfl) ?_
    obtain ⟨bi, h⟩ := h
    refine w_lald (n := 9) X hT hWσ_70 579 (hV.hv 579 rfl ⟨hz_65, rx1.2⟩) (by decide) rfl rfl bi dX8_isSound_134 ?_
    refine wput (z := gA σ_70 579 x1 y4) X hT hWσ_70 hS 6 8 392 vl6_o rfl rfl (by decide) rfl (by decide) in_X8 tyX8 tyX8_ok nmX8 q456 rfl rfl (hWσ_70.r.aj 579 x1 y4 rfl) (fv1 w rfl) rfl rfl dX8_isSound_135 (fun H locs hN hS => ?_)
    obtain ⟨σ_71, eσ_71⟩ : ∃ x, x = sI σ_70 392 o (gA σ_70 579 x1 y4) := ⟨_, rfl⟩
    have hWσ_71 : Wo w σ_71 H := eσ_71 ▸ hN
    have h := h σ_71 eσ_71
    clear hN
    refine lv_goto (tgt := 269) X.1 X.2.1 dX8_isSound_138 (by decide) ?_
    exact wk_Index_isSound_b269 X hr hlk hT hV hF ho rx1 rx2 K49 hK49 y3_64 y4 σ_71 _ _ _ ry3_64 ry4 (lv_sub hl [1, 2, 0, 3] rfl) hWσ_71 hS h
set_option maxHeartbeats 4000000 in
set_option maxRecDepth 100000 in
theorem wk_Index_isSound_b40 {p : Program} {l : Launch} {e : Env} {st : State} {m : MethodId} {args : Array Value} {below : List Frame} {meth : Method} {c : Code} {w : Wp} {o : Int} {x1 : Int} {x2 : Int} {Q : Int → St → Prop} {n : Nat} {F : Int → Int → Int → (Int → St → Prop) → St → Prop} (X : CallFix p m c cX8_isSound 6 st args lw_all RX8) (hr : meth.sig.returnType = (some .boolean)) (hlk : meth.locks = false) (hT : Tb w st) (hV : Hvl w) (hF : ∀ (o : Int) (x1 : Int) (x2 : Int) (Q : Int → St → Prop) (σ : St), 0 ≤ o ∧ o < 2 → rK x1 → rZ x2 →  F o x1 x2 Q σ → Met l yX8_isSound (ws_ yX8_isSound cX8_isSound 6 (some .boolean)) (rm_Index_isSound n) (PcW w σ [.ref (wad w 6 o), va_rf (knO w x1), .int (oI x2)]) (QcZ w Q) 0 0 (wA w)) (ho : 0 ≤ o ∧ o < 2) (rx1 : rK x1) (rx2 : rZ x2) (K45 : Int → St → Prop) (hK45 : ∀ (t0 : Int) (σ : St) (H : Heap) (locs : List Loc) (ls : Array Slot), rZ t0 → lv_has ls 6 [(0, .ref (wad w 6 o)), (1, va_rf (knO w x1))] → Wo w σ H → va_S (wA w) st.heap H locs → K45 t0 σ → W p l e (headSpec (ws_ yX8_isSound cX8_isSound 6 (some .boolean)) (rm_Index_isSound (n + 1))).room st m args below meth c H locs 0 0 (MQ below (QcZ w Q) args st 0 0 (wA w)) (F0 m 45 ls [.int (oI t0)])) : ∀ (σ : St) (H : Heap) (locs : List Loc) (ls : Array Slot), lv_has ls 6 [(0, .ref (wad w 6 o)), (1, va_rf (knO w x1))] → Wo w σ H → va_S (wA w) st.heap H locs → wp_Index_isSound_b40 (wc w) (wtv w) o x1 x2 F Q K45 σ → W p l e (headSpec (ws_ yX8_isSound cX8_isSound 6 (some .boolean)) (rm_Index_isSound (n + 1))).room st m args below meth c H locs 0 0 (MQ below (QcZ w Q) args st 0 0 (wA w)) (F0 m 40 ls []) := by

  intro σ H locs ls hl hW hS h
  unfold wp_Index_isSound_b40 at h
  refine lv_iconst (v := oI 1) X.1 X.2.1 dX8_isSound_40 rfl ?_
  refine lv_goto (tgt := 45) X.1 X.2.1 dX8_isSound_41 (by decide) ?_
  exact hK45 1 σ _ _ _ rZ_1 (lv_sub hl [0, 1] rfl) hW hS h
set_option maxHeartbeats 4000000 in
set_option maxRecDepth 100000 in
theorem wk_Index_isSound_L49B {p : Program} {l : Launch} {e : Env} {st : State} {m : MethodId} {args : Array Value} {below : List Frame} {meth : Method} {c : Code} {w : Wp} {o : Int} {x1 : Int} {x2 : Int} {Q : Int → St → Prop} {n : Nat} {F : Int → Int → Int → (Int → St → Prop) → St → Prop} (X : CallFix p m c cX8_isSound 6 st args lw_all RX8) (hr : meth.sig.returnType = (some .boolean)) (hlk : meth.locks = false) (hT : Tb w st) (hV : Hvl w) (hF : ∀ (o : Int) (x1 : Int) (x2 : Int) (Q : Int → St → Prop) (σ : St), 0 ≤ o ∧ o < 2 → rK x1 → rZ x2 →  F o x1 x2 Q σ → Met l yX8_isSound (ws_ yX8_isSound cX8_isSound 6 (some .boolean)) (rm_Index_isSound n) (PcW w σ [.ref (wad w 6 o), va_rf (knO w x1), .int (oI x2)]) (QcZ w Q) 0 0 (wA w)) (ho : 0 ≤ o ∧ o < 2) (rx1 : rK x1) (rx2 : rZ x2) (K49 : Int → Int → St → Prop) (hK49 : ∀ (y3 y4 : Int) (σ : St) (H : Heap) (locs : List Loc) (ls : Array Slot), rZ y3 → rI y4 → lv_has ls 6 [(0, .ref (wad w 6 o)), (1, va_rf (knO w x1)), (3, .int (oI y3)), (4, .int (oI y4))] → Wo w σ H → va_S (wA w) st.heap H locs → K49 y3 y4 σ → W p l e (headSpec (ws_ yX8_isSound cX8_isSound 6 (some .boolean)) (rm_Index_isSound (n + 1))).room st m args below meth c H locs 0 0 (MQ below (QcZ w Q) args st 0 0 (wA w)) (F0 m 49 ls [])) : ∀ (y3 y4 : Int) (σ : St) (H : Heap) (locs : List Loc) (ls : Array Slot), rZ y3 → rI y4 → lv_has ls 6 [(0, .ref (wad w 6 o)), (1, va_rf (knO w x1)), (3, .int (oI y3)), (4, .int (oI y4))] → Wo w σ H → va_S (wA w) st.heap H locs → wp_Index_isSound_L49 (wc w) (wtv w) o x1 x2 F Q K49 y3 y4 σ → W p l e (headSpec (ws_ yX8_isSound cX8_isSound 6 (some .boolean)) (rm_Index_isSound (n + 1))).room st m args below meth c H locs 0 0 (MQ below (QcZ w Q) args st 0 0 (wA w)) (F0 m 49 ls []) := by

  intro y3 y4 σ H locs ls ry3 ry4 hl hW hS h
  unfold wp_Index_isSound_L49 at h
  refine lv_iload X.1 X.2.1 dX8_isSound_49 (lv_at hl 3 rfl) ?_
  refine w_kload_n (w := w) X dX8_isSound_51 rfl (lv_at hl 1 rfl) ?_
  obtain ⟨hz_72, h⟩ := h
  rw [knR hz_72]
  refine wg (v := .int (oI (gI σ 577 x1))) X hT hW 9 1 577 (hV.hv 9 rfl ⟨hz_72, rx1.2⟩) rfl rfl (by decide) rfl (by decide) in_X9 q387 rfl dX8_isSound_52 ?_
  refine w_icmp_ge (tgt := 275) X ry4 (hW.r.i 577 x1 rfl) dX8_isSound_55 (by decide) (fun hc => ?_) (fun hc => ?_)
  · have h := h.1 hc
    refine lv_iload_n X.1 X.2.1 dX8_isSound_275 rfl (lv_at hl 2 rfl) ?_
    exact wret_Z X hr hlk hW hS ry3 h dX8_isSound_276
  · have h := h.2 hc
    refine lv_iload_n X.1 X.2.1 dX8_isSound_58 rfl (lv_at hl 2 rfl) ?_
    refine lv_iload X.1 X.2.1 dX8_isSound_59 (lv_at hl 3 rfl) ?_
    refine w_if_eq (tgt := 102) X ry4 dX8_isSound_61 (by decide) (fun hc => ?_) (fun hc => ?_)
    · have h := h.1 hc
      exact wk_Index_isSound_b102 X hr hlk hT hV hF ho rx1 rx2 (wp_Index_isSound_b107 (wc w) (wtv w) o x1 x2 F Q K49) (wk_Index_isSound_b107 X hr hlk hT hV hF ho rx1 rx2 K49 hK49) y4 y3 σ _ _ _ ry4 ry3 (lv_sub hl [0, 1, 3] rfl) hW hS h
    · have h := h.2 hc
      refine w_kload_n (w := w) X dX8_isSound_64 rfl (lv_at hl 1 rfl) ?_
      rw [knR hz_72]
      refine wg (v := .ref (wad w 578 x1)) X hT hW 9 2 578 (hV.hv 9 rfl ⟨hz_72, rx1.2⟩) rfl rfl (by decide) rfl (by decide) in_X9 q390 rfl dX8_isSound_65 ?_
      refine lv_iload X.1 X.2.1 dX8_isSound_68 (lv_at hl 3 rfl) ?_
      refine lv_iconst (v := oI 1) X.1 X.2.1 dX8_isSound_70 rfl ?_
      refine w_isub X dX8_isSound_71 ?_
      obtain ⟨bi, h⟩ := h
      refine w_lald (n := 9) X hT hW 578 (hV.hv 578 rfl ⟨hz_72, rx1.2⟩) (by decide) rfl rfl bi dX8_isSound_72 ?_
      refine w_kload_n (w := w) X dX8_isSound_73 rfl (lv_at hl 1 rfl) ?_
      rw [knR hz_72]
      refine wg (v := .ref (wad w 579 x1)) X hT hW 9 3 579 (hV.hv 9 rfl ⟨hz_72, rx1.2⟩) rfl rfl (by decide) rfl (by decide) in_X9 q393 rfl dX8_isSound_74 ?_
      refine lv_iload X.1 X.2.1 dX8_isSound_77 (lv_at hl 3 rfl) ?_
      refine lv_iconst (v := oI 1) X.1 X.2.1 dX8_isSound_79 rfl ?_
      refine w_isub X dX8_isSound_80 ?_
      obtain ⟨bi, h⟩ := h
      refine w_lald (n := 9) X hT hW 579 (hV.hv 579 rfl ⟨hz_72, rx1.2⟩) (by decide) rfl rfl bi dX8_isSound_81 ?_
      refine w_kload_n (w := w) X dX8_isSound_82 rfl (lv_at hl 1 rfl) ?_
      rw [knR hz_72]
      refine wg (v := .ref (wad w 578 x1)) X hT hW 9 2 578 (hV.hv 9 rfl ⟨hz_72, rx1.2⟩) rfl rfl (by decide) rfl (by decide) in_X9 q390 rfl dX8_isSound_83 ?_
      refine lv_iload X.1 X.2.1 dX8_isSound_86 (lv_at hl 3 rfl) ?_
      obtain ⟨bi, h⟩ := h
      refine w_lald (n := 9) X hT hW 578 (hV.hv 578 rfl ⟨hz_72, rx1.2⟩) (by decide) rfl rfl bi dX8_isSound_88 ?_
      refine w_kload_n (w := w) X dX8_isSound_89 rfl (lv_at hl 1 rfl) ?_
      rw [knR hz_72]
      refine wg (v := .ref (wad w 579 x1)) X hT hW 9 3 579 (hV.hv 9 rfl ⟨hz_72, rx1.2⟩) rfl rfl (by decide) rfl (by decide) in_X9 q393 rfl dX8_isSound_90 ?_
      refine lv_iload X.1 X.2.1 dX8_isSound_93 (lv_at hl 3 rfl) ?_
      obtain ⟨bi, h⟩ := h
      refine w_lald (n := 9) X hT hW 579 (hV.hv 579 rfl ⟨hz_72, rx1.2⟩) (by decide) rfl rfl bi dX8_isSound_95 ?_
      refine wr_Z (rS (As := [.long (oL (gA σ 578 x1 (w32 (y4 - 1)))), .long (oL (gA σ 579 x1 (w32 (y4 - 1)))), .long (oL (gA σ 578 x1 y4)), .long (oL (gA σ 579 x1 y4))]) (rest := [.int (oI y3)]) X hT hW hS (met_Knot_isBefore l (w := w) (gA σ 578 x1 (w32 (y4 - 1))) (gA σ 579 x1 (w32 (y4 - 1))) (gA σ 578 x1 y4) (gA σ 579 x1 y4) _ σ (hW.r.aj 578 x1 (w32 (y4 - 1)) rfl) (hW.r.aj 579 x1 (w32 (y4 - 1)) rfl) (hW.r.aj 578 x1 y4 rfl) (hW.r.aj 579 x1 y4 rfl) h) (va_cwS 4 X.2.2.2.2 (lw_S q1814 q914 q140 q915) rfl rfl rfl (by decide +kernel) ⟨by show _ ≤ _; simp only [headSpec, rm_Index_isSound]; omega, by show _ ≤ _; simp only [headSpec, rm_Index_isSound]; omega⟩) rfl hl.1 rfl (by first | exact Nat.le_of_ble_eq_true rfl | simp [catK, catI, catR, catL]) dX8_isSound_96 ⟨Nat.le_refl _, Nat.le_refl _⟩) hS (fun r_73 σ_74 H locs rr_73 rkσ_74 h hWσ_74 hS => ?_)
      have h := h rr_73 rkσ_74
      refine w_if_eq (tgt := 106) X rr_73.i dX8_isSound_99 (by decide) (fun hc => ?_) (fun hc => ?_)
      · have h := h.1 hc
        refine lv_iconst (v := oI 0) X.1 X.2.1 dX8_isSound_106 rfl ?_
        exact wk_Index_isSound_b107 X hr hlk hT hV hF ho rx1 rx2 K49 hK49 y4 0 y3 σ_74 _ _ _ ry4 rZ_0 ry3 (lv_sub hl [0, 1, 3] rfl) hWσ_74 hS h
      · have h := h.2 hc
        exact wk_Index_isSound_b102 X hr hlk hT hV hF ho rx1 rx2 (wp_Index_isSound_b107 (wc w) (wtv w) o x1 x2 F Q K49) (wk_Index_isSound_b107 X hr hlk hT hV hF ho rx1 rx2 K49 hK49) y4 y3 σ_74 _ _ _ ry4 ry3 (lv_sub hl [0, 1, 3] rfl) hWσ_74 hS h
theorem wk_Index_isSound_L49 {p : Program} {l : Launch} {e : Env} {st : State} {m : MethodId} {args : Array Value} {below : List Frame} {meth : Method} {c : Code} {w : Wp} {o : Int} {x1 : Int} {x2 : Int} {Q : Int → St → Prop} {n : Nat} {F : Int → Int → Int → (Int → St → Prop) → St → Prop} (X : CallFix p m c cX8_isSound 6 st args lw_all RX8) (hr : meth.sig.returnType = (some .boolean)) (hlk : meth.locks = false) (hT : Tb w st) (hV : Hvl w) (hF : ∀ (o : Int) (x1 : Int) (x2 : Int) (Q : Int → St → Prop) (σ : St), 0 ≤ o ∧ o < 2 → rK x1 → rZ x2 →  F o x1 x2 Q σ → Met l yX8_isSound (ws_ yX8_isSound cX8_isSound 6 (some .boolean)) (rm_Index_isSound n) (PcW w σ [.ref (wad w 6 o), va_rf (knO w x1), .int (oI x2)]) (QcZ w Q) 0 0 (wA w)) (ho : 0 ≤ o ∧ o < 2) (rx1 : rK x1) (rx2 : rZ x2) : ∀ (y3 y4 : Int) (σ : St) (H : Heap) (locs : List Loc) (ls : Array Slot), rZ y3 → rI y4 → lv_has ls 6 [(0, .ref (wad w 6 o)), (1, va_rf (knO w x1)), (3, .int (oI y3)), (4, .int (oI y4))] → Wo w σ H → va_S (wA w) st.heap H locs → lQ2 (wp_Index_isSound_L49 (wc w) (wtv w) o x1 x2 F Q) y3 y4 σ → W p l e (headSpec (ws_ yX8_isSound cX8_isSound 6 (some .boolean)) (rm_Index_isSound (n + 1))).room st m args below meth c H locs 0 0 (MQ below (QcZ w Q) args st 0 0 (wA w)) (F0 m 49 ls []) := by
  intro y3 y4 σ H locs ls ry3 ry4 hl hW hS h
  obtain ⟨fu, h⟩ := h
  induction fu generalizing y3 y4 σ H locs ls with
  | zero => exact h.elim
  | succ fu ih =>
    exact wk_Index_isSound_L49B X hr hlk hT hV hF ho rx1 rx2 (lq2 (wp_Index_isSound_L49 (wc w) (wtv w) o x1 x2 F Q) fu) (fun y3 y4 σ H locs ls ry3 ry4 hl hW hS h => ih y3 y4 σ H locs ls ry3 ry4 hl hW hS h) y3 y4 σ H locs ls ry3 ry4 hl hW hS h
set_option maxHeartbeats 4000000 in
set_option maxRecDepth 100000 in
theorem wk_Index_isSound_b44 {p : Program} {l : Launch} {e : Env} {st : State} {m : MethodId} {args : Array Value} {below : List Frame} {meth : Method} {c : Code} {w : Wp} {o : Int} {x1 : Int} {x2 : Int} {Q : Int → St → Prop} {n : Nat} {F : Int → Int → Int → (Int → St → Prop) → St → Prop} (X : CallFix p m c cX8_isSound 6 st args lw_all RX8) (hr : meth.sig.returnType = (some .boolean)) (hlk : meth.locks = false) (hT : Tb w st) (hV : Hvl w) (hF : ∀ (o : Int) (x1 : Int) (x2 : Int) (Q : Int → St → Prop) (σ : St), 0 ≤ o ∧ o < 2 → rK x1 → rZ x2 →  F o x1 x2 Q σ → Met l yX8_isSound (ws_ yX8_isSound cX8_isSound 6 (some .boolean)) (rm_Index_isSound n) (PcW w σ [.ref (wad w 6 o), va_rf (knO w x1), .int (oI x2)]) (QcZ w Q) 0 0 (wA w)) (ho : 0 ≤ o ∧ o < 2) (rx1 : rK x1) (rx2 : rZ x2) (K45 : Int → St → Prop) (hK45 : ∀ (t0 : Int) (σ : St) (H : Heap) (locs : List Loc) (ls : Array Slot), rZ t0 → lv_has ls 6 [(0, .ref (wad w 6 o)), (1, va_rf (knO w x1))] → Wo w σ H → va_S (wA w) st.heap H locs → K45 t0 σ → W p l e (headSpec (ws_ yX8_isSound cX8_isSound 6 (some .boolean)) (rm_Index_isSound (n + 1))).room st m args below meth c H locs 0 0 (MQ below (QcZ w Q) args st 0 0 (wA w)) (F0 m 45 ls [.int (oI t0)])) : ∀ (σ : St) (H : Heap) (locs : List Loc) (ls : Array Slot), lv_has ls 6 [(0, .ref (wad w 6 o)), (1, va_rf (knO w x1))] → Wo w σ H → va_S (wA w) st.heap H locs → wp_Index_isSound_b44 (wc w) (wtv w) o x1 x2 F Q K45 σ → W p l e (headSpec (ws_ yX8_isSound cX8_isSound 6 (some .boolean)) (rm_Index_isSound (n + 1))).room st m args below meth c H locs 0 0 (MQ below (QcZ w Q) args st 0 0 (wA w)) (F0 m 44 ls []) := by

  intro σ H locs ls hl hW hS h
  unfold wp_Index_isSound_b44 at h
  refine lv_iconst (v := oI 0) X.1 X.2.1 dX8_isSound_44 rfl ?_
  exact hK45 0 σ _ _ _ rZ_0 (lv_sub hl [0, 1] rfl) hW hS h
set_option maxHeartbeats 4000000 in
set_option maxRecDepth 100000 in
theorem wk_Index_isSound_b45 {p : Program} {l : Launch} {e : Env} {st : State} {m : MethodId} {args : Array Value} {below : List Frame} {meth : Method} {c : Code} {w : Wp} {o : Int} {x1 : Int} {x2 : Int} {Q : Int → St → Prop} {n : Nat} {F : Int → Int → Int → (Int → St → Prop) → St → Prop} (X : CallFix p m c cX8_isSound 6 st args lw_all RX8) (hr : meth.sig.returnType = (some .boolean)) (hlk : meth.locks = false) (hT : Tb w st) (hV : Hvl w) (hF : ∀ (o : Int) (x1 : Int) (x2 : Int) (Q : Int → St → Prop) (σ : St), 0 ≤ o ∧ o < 2 → rK x1 → rZ x2 →  F o x1 x2 Q σ → Met l yX8_isSound (ws_ yX8_isSound cX8_isSound 6 (some .boolean)) (rm_Index_isSound n) (PcW w σ [.ref (wad w 6 o), va_rf (knO w x1), .int (oI x2)]) (QcZ w Q) 0 0 (wA w)) (ho : 0 ≤ o ∧ o < 2) (rx1 : rK x1) (rx2 : rZ x2) : ∀ (t0 : Int) (σ : St) (H : Heap) (locs : List Loc) (ls : Array Slot), rZ t0 → lv_has ls 6 [(0, .ref (wad w 6 o)), (1, va_rf (knO w x1))] → Wo w σ H → va_S (wA w) st.heap H locs → wp_Index_isSound_b45 (wc w) (wtv w) o x1 x2 F Q t0 σ → W p l e (headSpec (ws_ yX8_isSound cX8_isSound 6 (some .boolean)) (rm_Index_isSound (n + 1))).room st m args below meth c H locs 0 0 (MQ below (QcZ w Q) args st 0 0 (wA w)) (F0 m 45 ls [.int (oI t0)]) := by

  intro t0 σ H locs ls rt0 hl hW hS h
  unfold wp_Index_isSound_b45 at h
  refine lv_istore_n (i := 3) (lv' := [(3, .int (oI t0)), (0, .ref (wad w 6 o)), (1, va_rf (knO w x1))]) X.1 X.2.1 dX8_isSound_45 rfl hl (by decide) (by first | rfl | simp [catK, catI, catR, catL]) (fun ls hl => ?_)
  refine lv_iconst (v := oI 0) X.1 X.2.1 dX8_isSound_46 rfl ?_
  refine lv_istore (i := 4) (lv' := [(4, .int (oI 0)), (3, .int (oI t0)), (0, .ref (wad w 6 o)), (1, va_rf (knO w x1))]) X.1 X.2.1 dX8_isSound_47 hl (by decide) (by first | rfl | simp [catK, catI, catR, catL]) (fun ls hl => ?_)
  exact wk_Index_isSound_L49 X hr hlk hT hV hF ho rx1 rx2 t0 0 σ _ _ _ rt0 rZ_0.i (lv_sub hl [2, 3, 1, 0] rfl) hW hS h
set_option maxHeartbeats 4000000 in
set_option maxRecDepth 100000 in
theorem wk_Index_isSound_b21 {p : Program} {l : Launch} {e : Env} {st : State} {m : MethodId} {args : Array Value} {below : List Frame} {meth : Method} {c : Code} {w : Wp} {o : Int} {x1 : Int} {x2 : Int} {Q : Int → St → Prop} {n : Nat} {F : Int → Int → Int → (Int → St → Prop) → St → Prop} (X : CallFix p m c cX8_isSound 6 st args lw_all RX8) (hr : meth.sig.returnType = (some .boolean)) (hlk : meth.locks = false) (hT : Tb w st) (hV : Hvl w) (hF : ∀ (o : Int) (x1 : Int) (x2 : Int) (Q : Int → St → Prop) (σ : St), 0 ≤ o ∧ o < 2 → rK x1 → rZ x2 →  F o x1 x2 Q σ → Met l yX8_isSound (ws_ yX8_isSound cX8_isSound 6 (some .boolean)) (rm_Index_isSound n) (PcW w σ [.ref (wad w 6 o), va_rf (knO w x1), .int (oI x2)]) (QcZ w Q) 0 0 (wA w)) (ho : 0 ≤ o ∧ o < 2) (rx1 : rK x1) (rx2 : rZ x2) (K44 : St → Prop) (K45 : Int → St → Prop) (hK44 : ∀ (σ : St) (H : Heap) (locs : List Loc) (ls : Array Slot), lv_has ls 6 [(0, .ref (wad w 6 o)), (1, va_rf (knO w x1))] → Wo w σ H → va_S (wA w) st.heap H locs → K44 σ → W p l e (headSpec (ws_ yX8_isSound cX8_isSound 6 (some .boolean)) (rm_Index_isSound (n + 1))).room st m args below meth c H locs 0 0 (MQ below (QcZ w Q) args st 0 0 (wA w)) (F0 m 44 ls [])) (hK45 : ∀ (t0 : Int) (σ : St) (H : Heap) (locs : List Loc) (ls : Array Slot), rZ t0 → lv_has ls 6 [(0, .ref (wad w 6 o)), (1, va_rf (knO w x1))] → Wo w σ H → va_S (wA w) st.heap H locs → K45 t0 σ → W p l e (headSpec (ws_ yX8_isSound cX8_isSound 6 (some .boolean)) (rm_Index_isSound (n + 1))).room st m args below meth c H locs 0 0 (MQ below (QcZ w Q) args st 0 0 (wA w)) (F0 m 45 ls [.int (oI t0)])) : ∀ (σ : St) (H : Heap) (locs : List Loc) (ls : Array Slot), lv_has ls 6 [(0, .ref (wad w 6 o)), (1, va_rf (knO w x1)), (2, .int (oI x2))] → Wo w σ H → va_S (wA w) st.heap H locs → wp_Index_isSound_b21 (wc w) (wtv w) o x1 x2 F Q K44 K45 σ → W p l e (headSpec (ws_ yX8_isSound cX8_isSound 6 (some .boolean)) (rm_Index_isSound (n + 1))).room st m args below meth c H locs 0 0 (MQ below (QcZ w Q) args st 0 0 (wA w)) (F0 m 21 ls []) := by

  intro σ H locs ls hl hW hS h
  unfold wp_Index_isSound_b21 at h
  refine lv_iload_n X.1 X.2.1 dX8_isSound_21 rfl (lv_at hl 2 rfl) ?_
  refine w_if_eq (tgt := 40) X rx2.i dX8_isSound_22 (by decide) (fun hc => ?_) (fun hc => ?_)
  · have h := h.1 hc
    exact wk_Index_isSound_b40 X hr hlk hT hV hF ho rx1 rx2 K45 hK45 σ _ _ _ (lv_sub hl [0, 1] rfl) hW hS h
  · have h := h.2 hc
    refine w_kload_n (w := w) X dX8_isSound_25 rfl (lv_at hl 1 rfl) ?_
    obtain ⟨hz_75, h⟩ := h
    rw [knR hz_75]
    refine wg (v := .int (oI (gI σ 576 x1))) X hT hW 9 0 576 (hV.hv 9 rfl ⟨hz_75, rx1.2⟩) rfl rfl (by decide) rfl (by decide) in_X9 q384 rfl dX8_isSound_26 ?_
    refine w_if_eq (tgt := 40) X (hW.r.i 576 x1 rfl) dX8_isSound_29 (by decide) (fun hc => ?_) (fun hc => ?_)
    · have h := h.1 hc
      exact wk_Index_isSound_b40 X hr hlk hT hV hF ho rx1 rx2 K45 hK45 σ _ _ _ (lv_sub hl [0, 1] rfl) hW hS h
    · have h := h.2 hc
      refine w_kload_n (w := w) X dX8_isSound_32 rfl (lv_at hl 1 rfl) ?_
      rw [knR hz_75]
      refine wg (v := .int (oI (gI σ 577 x1))) X hT hW 9 1 577 (hV.hv 9 rfl ⟨hz_75, rx1.2⟩) rfl rfl (by decide) rfl (by decide) in_X9 q387 rfl dX8_isSound_33 ?_
      refine lv_iconst (v := oI 1) X.1 X.2.1 dX8_isSound_36 rfl ?_
      refine w_icmp_le (tgt := 44) X (hW.r.i 577 x1 rfl) rZ_1.i dX8_isSound_37 (by decide) (fun hc => ?_) (fun hc => ?_)
      · have h := h.1 hc
        exact hK44 σ _ _ _ (lv_sub hl [0, 1] rfl) hW hS h
      · have h := h.2 hc
        exact wk_Index_isSound_b40 X hr hlk hT hV hF ho rx1 rx2 K45 hK45 σ _ _ _ (lv_sub hl [0, 1] rfl) hW hS h
set_option maxHeartbeats 4000000 in
set_option maxRecDepth 100000 in
theorem met_Index_isSound_R (l : Launch) {w : Wp} (hV : Hvl w) {n : Nat} {F : Int → Int → Int → (Int → St → Prop) → St → Prop} (hF : ∀ (o : Int) (x1 : Int) (x2 : Int) (Q : Int → St → Prop) (σ : St), 0 ≤ o ∧ o < 2 → rK x1 → rZ x2 →  F o x1 x2 Q σ → Met l yX8_isSound (ws_ yX8_isSound cX8_isSound 6 (some .boolean)) (rm_Index_isSound n) (PcW w σ [.ref (wad w 6 o), va_rf (knO w x1), .int (oI x2)]) (QcZ w Q) 0 0 (wA w)) (o : Int) (x1 : Int) (x2 : Int) (Q : Int → St → Prop) (σ : St) (ho : 0 ≤ o ∧ o < 2) (rx1 : rK x1) (rx2 : rZ x2) (h : wp_Index_isSound_R (wc w) (wtv w) o x1 x2 F Q σ) : Met l yX8_isSound (ws_ yX8_isSound cX8_isSound 6 (some .boolean)) (rm_Index_isSound (n + 1)) (PcW w σ [.ref (wad w 6 o), va_rf (knO w x1), .int (oI x2)]) (QcZ w Q) 0 0 (wA w) := by
  refine Met.ofW (cc := cX8_isSound) (maxL := 6) (ret := (some .boolean)) (by decide) rfl ?_
  intro p e st m args below meth c s₁ B hml hv
  obtain ⟨hargs, hW, hT⟩ := hv
  have X : CallFix p m c cX8_isSound 6 st _ lw_all RX8 := ⟨B.exec, B.bytes, hml, findClass_of_methodNamed B.named, fun w h => atoms_spec (ws := ws_ yX8_isSound cX8_isSound 6 (some .boolean)) B.pre w (List.mem_cons_of_mem _ h)⟩
  have hr := B.returns
  have hlk := B.notSynchronized
  have hS : va_S (wA w) st.heap st.heap [] := va_S.rf
  have vl6_o : vl w 6 o := hV.hv 6 rfl ⟨by omega, by show _ < (2 : Int); omega⟩
  have hl := lv_entry ([.ref (wad w 6 o), va_rf (knO w x1), .int (oI x2)]) (n := 6) (by simp [lg_sl, catK, catI, catR, catL])
  have hfr := lg_entry_eq m ([.ref (wad w 6 o), va_rf (knO w x1), .int (oI x2)]) 6
  rw [← hargs] at hfr
  rw [hfr]
  generalize (lg_sl ([.ref (wad w 6 o), va_rf (knO w x1), .int (oI x2)]) ++ List.replicate (6 - (lg_sl ([.ref (wad w 6 o), va_rf (knO w x1), .int (oI x2)])).length) Slot.unset).toArray = ls at hl ⊢
  simp [lv_args, catK, catI, catR, catL] at hl
  have hl : lv_has ls 6 [(0, .ref (wad w 6 o)), (1, va_rf (knO w x1)), (2, .int (oI x2))] := hl
  unfold wp_Index_isSound_R at h
  refine w_kload_n (w := w) X dX8_isSound_0 rfl (lv_at hl 1 rfl) ?_
  obtain ⟨hz_76, h⟩ := h
  rw [knR hz_76]
  refine wg (v := .int (oI (gI σ 577 x1))) X hT hW 9 1 577 (hV.hv 9 rfl ⟨hz_76, rx1.2⟩) rfl rfl (by decide) rfl (by decide) in_X9 q387 rfl dX8_isSound_1 ?_
  refine lv_bipush (v := oI 8) X.1 X.2.1 dX8_isSound_4 (by decide) ?_
  refine w_icmp_gt (tgt := 44) X (hW.r.i 577 x1 rfl) ((rB_lit 8 (by decide)).i) dX8_isSound_6 (by decide) (fun hc => ?_) (fun hc => ?_)
  · have h := h.1 hc
    exact wk_Index_isSound_b44 X hr hlk hT hV hF ho rx1 rx2 (wp_Index_isSound_b45 (wc w) (wtv w) o x1 x2 F Q) (wk_Index_isSound_b45 X hr hlk hT hV hF ho rx1 rx2) σ _ _ _ (lv_sub hl [0, 1] rfl) hW hS h
  · have h := h.2 hc
    refine lv_iload_n X.1 X.2.1 dX8_isSound_9 rfl (lv_at hl 2 rfl) ?_
    refine w_if_ne (tgt := 21) X rx2.i dX8_isSound_10 (by decide) (fun hc => ?_) (fun hc => ?_)
    · have h := h.1 hc
      exact wk_Index_isSound_b21 X hr hlk hT hV hF ho rx1 rx2 (wp_Index_isSound_b44 (wc w) (wtv w) o x1 x2 F Q (wp_Index_isSound_b45 (wc w) (wtv w) o x1 x2 F Q)) (wp_Index_isSound_b45 (wc w) (wtv w) o x1 x2 F Q) (wk_Index_isSound_b44 X hr hlk hT hV hF ho rx1 rx2 (wp_Index_isSound_b45 (wc w) (wtv w) o x1 x2 F Q) (wk_Index_isSound_b45 X hr hlk hT hV hF ho rx1 rx2)) (wk_Index_isSound_b45 X hr hlk hT hV hF ho rx1 rx2) σ _ _ _ (lv_sub hl [0, 1, 2] rfl) hW hS h
    · have h := h.2 hc
      refine w_kload_n (w := w) X dX8_isSound_13 rfl (lv_at hl 1 rfl) ?_
      rw [knR hz_76]
      refine wg (v := .int (oI (gI σ 577 x1))) X hT hW 9 1 577 (hV.hv 9 rfl ⟨hz_76, rx1.2⟩) rfl rfl (by decide) rfl (by decide) in_X9 q387 rfl dX8_isSound_14 ?_
      refine lv_iconst (v := oI 4) X.1 X.2.1 dX8_isSound_17 rfl ?_
      refine w_icmp_lt (tgt := 44) X (hW.r.i 577 x1 rfl) ((rB_lit 4 (by decide)).i) dX8_isSound_18 (by decide) (fun hc => ?_) (fun hc => ?_)
      · have h := h.1 hc
        exact wk_Index_isSound_b44 X hr hlk hT hV hF ho rx1 rx2 (wp_Index_isSound_b45 (wc w) (wtv w) o x1 x2 F Q) (wk_Index_isSound_b45 X hr hlk hT hV hF ho rx1 rx2) σ _ _ _ (lv_sub hl [0, 1] rfl) hW hS h
      · have h := h.2 hc
        exact wk_Index_isSound_b21 X hr hlk hT hV hF ho rx1 rx2 (wp_Index_isSound_b44 (wc w) (wtv w) o x1 x2 F Q (wp_Index_isSound_b45 (wc w) (wtv w) o x1 x2 F Q)) (wp_Index_isSound_b45 (wc w) (wtv w) o x1 x2 F Q) (wk_Index_isSound_b44 X hr hlk hT hV hF ho rx1 rx2 (wp_Index_isSound_b45 (wc w) (wtv w) o x1 x2 F Q) (wk_Index_isSound_b45 X hr hlk hT hV hF ho rx1 rx2)) (wk_Index_isSound_b45 X hr hlk hT hV hF ho rx1 rx2) σ _ _ _ (lv_sub hl [0, 1, 2] rfl) hW hS h
theorem met_Index_isSound (l : Launch) {w : Wp} (hV : Hvl w) (n : Nat) : ∀ (o : Int) (x1 : Int) (x2 : Int) (Q : Int → St → Prop) (σ : St), 0 ≤ o ∧ o < 2 → rK x1 → rZ x2 → wp_Index_isSound (wc w) (wtv w) n o x1 x2 Q σ → Met l yX8_isSound (ws_ yX8_isSound cX8_isSound 6 (some .boolean)) (rm_Index_isSound n) (PcW w σ [.ref (wad w 6 o), va_rf (knO w x1), .int (oI x2)]) (QcZ w Q) 0 0 (wA w) := by
  induction n with
  | zero => intro o x1 x2 Q σ ho rx1 rx2 h; exact h.elim
  | succ n ih => intro o x1 x2 Q σ ho rx1 rx2 h; exact met_Index_isSound_R l hV ih o x1 x2 Q σ ho rx1 rx2 h
/-! Blocks.pages()I -/
set_option maxHeartbeats 4000000 in
set_option maxRecDepth 100000 in
theorem met_Blocks_pages (l : Launch) {w : Wp} (hV : Hvl w) (o : Int) (Q : Int → St → Prop) (σ : St) (ho : 0 ≤ o ∧ o < 2) (h : wp_Blocks_pages (wc w) (wtv w) o Q σ) : Met l yX6_pages (ws_ yX6_pages cX6_pages 1 (some .int)) rm_Blocks_pages (PcW w σ [.ref (wad w 4 o)]) (QcI w Q) 0 0 (wA w) := by
  refine Met.ofW (cc := cX6_pages) (maxL := 1) (ret := (some .int)) (by decide) rfl ?_
  intro p e st m args below meth c s₁ B hml hv
  obtain ⟨hargs, hW, hT⟩ := hv
  have X : CallFix p m c cX6_pages 1 st _ lw_all RX6 := ⟨B.exec, B.bytes, hml, findClass_of_methodNamed B.named, fun w h => atoms_spec (ws := ws_ yX6_pages cX6_pages 1 (some .int)) B.pre w (List.mem_cons_of_mem _ h)⟩
  have hr := B.returns
  have hlk := B.notSynchronized
  have hS : va_S (wA w) st.heap st.heap [] := va_S.rf
  have vl2_0 : vl w 2 0 := hV.hv 2 rfl ⟨by omega, by show _ < (1 : Int); omega⟩
  have vl4_o : vl w 4 o := hV.hv 4 rfl ⟨by omega, by show _ < (2 : Int); omega⟩
  have hl := lv_entry ([.ref (wad w 4 o)]) (n := 1) (Nat.le_of_ble_eq_true rfl)
  have hfr := lg_entry_eq m ([.ref (wad w 4 o)]) 1
  rw [← hargs] at hfr
  rw [hfr]
  generalize (lg_sl ([.ref (wad w 4 o)]) ++ List.replicate (1 - (lg_sl ([.ref (wad w 4 o)])).length) Slot.unset).toArray = ls at hl ⊢
  have hl : lv_has ls 1 [(0, .ref (wad w 4 o))] := hl
  unfold wp_Blocks_pages at h
  refine lv_aload_n X.1 X.2.1 dX6_pages_0 rfl (lv_at hl 0 rfl) ?_
  refine wg (v := .ref (wad w 2 0)) X hT hW 4 0 256 vl4_o rfl rfl (by decide) rfl (by decide) in_X6 q269 rfl dX6_pages_1 ?_
  refine wg (v := .int (oI (wc w).2.1)) X hT hW 2 1 129 vl2_0 rfl rfl (by decide) rfl (by decide) in_X4 q224 rfl dX6_pages_4 ?_
  refine lv_iconst (v := oI 2) X.1 X.2.1 dX6_pages_7 rfl ?_
  refine w_isub X dX6_pages_8 ?_
  exact wret_I X hr hlk hW hS (w32_r _) h dX6_pages_9
/-! Blocks.format()V -/
set_option maxHeartbeats 4000000 in
set_option maxRecDepth 100000 in
theorem wk_Blocks_format_L54B {p : Program} {l : Launch} {e : Env} {st : State} {m : MethodId} {args : Array Value} {below : List Frame} {meth : Method} {c : Code} {w : Wp} {o : Int} {Q : St → Prop} (X : CallFix p m c cX6_format 2 st args lw_all RX6) (hr : meth.sig.returnType = none) (hlk : meth.locks = false) (hT : Tb w st) (hV : Hvl w) (ho : 0 ≤ o ∧ o < 2) (K54 : Int → St → Prop) (hK54 : ∀ (y1 : Int) (σ : St) (H : Heap) (locs : List Loc) (ls : Array Slot), rI y1 → lv_has ls 2 [(0, .ref (wad w 4 o)), (1, .int (oI y1))] → Wo w σ H → va_S (wA w) st.heap H locs → K54 y1 σ → W p l e (headSpec (ws_ yX6_format cX6_format 2 none) rm_Blocks_format).room st m args below meth c H locs 0 0 (MQ below (QcV w Q) args st 0 0 (wA w)) (F0 m 54 ls [])) : ∀ (y1 : Int) (σ : St) (H : Heap) (locs : List Loc) (ls : Array Slot), rI y1 → lv_has ls 2 [(0, .ref (wad w 4 o)), (1, .int (oI y1))] → Wo w σ H → va_S (wA w) st.heap H locs → wp_Blocks_format_L54 (wc w) (wtv w) o Q K54 y1 σ → W p l e (headSpec (ws_ yX6_format cX6_format 2 none) rm_Blocks_format).room st m args below meth c H locs 0 0 (MQ below (QcV w Q) args st 0 0 (wA w)) (F0 m 54 ls []) := by
  have vl2_0 : vl w 2 0 := hV.hv 2 rfl ⟨by omega, by show _ < (1 : Int); omega⟩
  have vl4_o : vl w 4 o := hV.hv 4 rfl ⟨by omega, by show _ < (2 : Int); omega⟩
  intro y1 σ H locs ls ry1 hl hW hS h
  unfold wp_Blocks_format_L54 at h
  refine lv_iload_n X.1 X.2.1 dX6_format_54 rfl (lv_at hl 1 rfl) ?_
  refine lv_aload_n X.1 X.2.1 dX6_format_55 rfl (lv_at hl 0 rfl) ?_
  refine wg (v := .ref (wad w 2 0)) X hT hW 4 0 256 vl4_o rfl rfl (by decide) rfl (by decide) in_X6 q269 rfl dX6_format_56 ?_
  refine wg (v := .int (oI (wc w).1)) X hT hW 2 0 128 vl2_0 rfl rfl (by decide) rfl (by decide) in_X4 q221 rfl dX6_format_59 ?_
  refine w_icmp_ge (tgt := 76) X ry1 (cin_r hT.c 128) dX6_format_62 (by decide) (fun hc => ?_) (fun hc => ?_)
  · have h := h.1 hc
    exact wret_V X hr hlk hW hS h dX6_format_76
  · have h := h.2 hc
    refine lv_aload_n X.1 X.2.1 dX6_format_65 rfl (lv_at hl 0 rfl) ?_
    refine lv_iload_n X.1 X.2.1 dX6_format_66 rfl (lv_at hl 1 rfl) ?_
    refine wr_V (rV (As := [.int (oI y1)]) (rest := []) X hT hW hS (met_Blocks_erase l (w := w) hV o y1 _ σ (by omega) ry1 h) (cwV 1 X.2.2.2.2 (lw_V q655 q657 qs1 q137 q658) rfl rfl rfl (by decide +kernel) ⟨Nat.le_of_ble_eq_true rfl, Nat.le_of_ble_eq_true rfl⟩) vl4_o (by decide) rfl rfl hl.1 rfl (by first | exact Nat.le_of_ble_eq_true rfl | simp [catK, catI, catR, catL]) dX6_format_67 ⟨Nat.le_refl _, Nat.le_refl _⟩) hS (fun σ_22 H locs rkσ_22 h hWσ_22 hS => ?_)
    have h := h rkσ_22
    obtain ⟨y1_23, ey1_23⟩ : ∃ y : Int, y = w32 (y1 + 1) := ⟨_, rfl⟩
    have h := h y1_23 ey1_23
    have ry1_23 : rI y1_23 := by rw [ey1_23]; exact w32_r _
    refine lv_iinc (v := oI y1_23) (lv' := [(1, .int (oI y1_23)), (0, .ref (wad w 4 o))]) X.1 X.2.1 dX6_format_70 hl (k := 1) rfl (by rw [ey1_23]; exact oI_add _ _) (by decide) (by first | rfl | simp [catK, catI, catR, catL]) (fun ls hl => ?_)
    refine lv_goto (tgt := 54) X.1 X.2.1 dX6_format_73 (by decide) ?_
    exact hK54 y1_23 σ_22 _ _ _ ry1_23 (lv_sub hl [1, 0] rfl) hWσ_22 hS h
theorem wk_Blocks_format_L54 {p : Program} {l : Launch} {e : Env} {st : State} {m : MethodId} {args : Array Value} {below : List Frame} {meth : Method} {c : Code} {w : Wp} {o : Int} {Q : St → Prop} (X : CallFix p m c cX6_format 2 st args lw_all RX6) (hr : meth.sig.returnType = none) (hlk : meth.locks = false) (hT : Tb w st) (hV : Hvl w) (ho : 0 ≤ o ∧ o < 2) : ∀ (y1 : Int) (σ : St) (H : Heap) (locs : List Loc) (ls : Array Slot), rI y1 → lv_has ls 2 [(0, .ref (wad w 4 o)), (1, .int (oI y1))] → Wo w σ H → va_S (wA w) st.heap H locs → lQ1 (wp_Blocks_format_L54 (wc w) (wtv w) o Q) y1 σ → W p l e (headSpec (ws_ yX6_format cX6_format 2 none) rm_Blocks_format).room st m args below meth c H locs 0 0 (MQ below (QcV w Q) args st 0 0 (wA w)) (F0 m 54 ls []) := by
  intro y1 σ H locs ls ry1 hl hW hS h
  obtain ⟨fu, h⟩ := h
  induction fu generalizing y1 σ H locs ls with
  | zero => exact h.elim
  | succ fu ih =>
    exact wk_Blocks_format_L54B X hr hlk hT hV ho (lq1 (wp_Blocks_format_L54 (wc w) (wtv w) o Q) fu) (fun y1 σ H locs ls ry1 hl hW hS h => ih y1 σ H locs ls ry1 hl hW hS h) y1 σ H locs ls ry1 hl hW hS h
set_option maxHeartbeats 4000000 in
set_option maxRecDepth 100000 in
theorem wk_Blocks_format_L20B {p : Program} {l : Launch} {e : Env} {st : State} {m : MethodId} {args : Array Value} {below : List Frame} {meth : Method} {c : Code} {w : Wp} {o : Int} {Q : St → Prop} (X : CallFix p m c cX6_format 2 st args lw_all RX6) (hr : meth.sig.returnType = none) (hlk : meth.locks = false) (hT : Tb w st) (hV : Hvl w) (ho : 0 ≤ o ∧ o < 2) (K20 : Int → St → Prop) (hK20 : ∀ (y1 : Int) (σ : St) (H : Heap) (locs : List Loc) (ls : Array Slot), rI y1 → lv_has ls 2 [(0, .ref (wad w 4 o)), (1, .int (oI y1))] → Wo w σ H → va_S (wA w) st.heap H locs → K20 y1 σ → W p l e (headSpec (ws_ yX6_format cX6_format 2 none) rm_Blocks_format).room st m args below meth c H locs 0 0 (MQ below (QcV w Q) args st 0 0 (wA w)) (F0 m 20 ls [])) : ∀ (y1 : Int) (σ : St) (H : Heap) (locs : List Loc) (ls : Array Slot), rI y1 → lv_has ls 2 [(0, .ref (wad w 4 o)), (1, .int (oI y1))] → Wo w σ H → va_S (wA w) st.heap H locs → wp_Blocks_format_L20 (wc w) (wtv w) o Q K20 y1 σ → W p l e (headSpec (ws_ yX6_format cX6_format 2 none) rm_Blocks_format).room st m args below meth c H locs 0 0 (MQ below (QcV w Q) args st 0 0 (wA w)) (F0 m 20 ls []) := by
  have vl2_0 : vl w 2 0 := hV.hv 2 rfl ⟨by omega, by show _ < (1 : Int); omega⟩
  have vl259_o : vl w 259 o := hV.hv 259 rfl ⟨by omega, by show _ < (2 : Int); omega⟩
  have vl260_o : vl w 260 o := hV.hv 260 rfl ⟨by omega, by show _ < (2 : Int); omega⟩
  have vl4_o : vl w 4 o := hV.hv 4 rfl ⟨by omega, by show _ < (2 : Int); omega⟩
  intro y1 σ H locs ls ry1 hl hW hS h
  unfold wp_Blocks_format_L20 at h
  refine lv_iload_n X.1 X.2.1 dX6_format_20 rfl (lv_at hl 1 rfl) ?_
  refine lv_aload_n X.1 X.2.1 dX6_format_21 rfl (lv_at hl 0 rfl) ?_
  refine wg (v := .ref (wad w 2 0)) X hT hW 4 0 256 vl4_o rfl rfl (by decide) rfl (by decide) in_X6 q269 rfl dX6_format_22 ?_
  refine wg (v := .int (oI (wc w).1)) X hT hW 2 0 128 vl2_0 rfl rfl (by decide) rfl (by decide) in_X4 q221 rfl dX6_format_25 ?_
  refine w_icmp_ge (tgt := 52) X ry1 (cin_r hT.c 128) dX6_format_28 (by decide) (fun hc => ?_) (fun hc => ?_)
  · have h := h.1 hc
    refine lv_iconst (v := oI 0) X.1 X.2.1 dX6_format_52 rfl ?_
    refine lv_istore_n (i := 1) (lv' := [(1, .int (oI 0)), (0, .ref (wad w 4 o))]) X.1 X.2.1 dX6_format_53 rfl hl (by decide) (by first | rfl | simp [catK, catI, catR, catL]) (fun ls hl => ?_)
    exact wk_Blocks_format_L54 X hr hlk hT hV ho 0 σ _ _ _ rZ_0.i (lv_sub hl [1, 0] rfl) hW hS h
  · have h := h.2 hc
    refine lv_aload_n X.1 X.2.1 dX6_format_31 rfl (lv_at hl 0 rfl) ?_
    refine wg (v := .ref (wad w 260 o)) X hT hW 4 4 260 vl4_o rfl rfl (by decide) rfl (by decide) in_X6 q275 rfl dX6_format_32 ?_
    refine lv_iload_n X.1 X.2.1 dX6_format_35 rfl (lv_at hl 1 rfl) ?_
    refine lv_iconst (v := oI 0) X.1 X.2.1 dX6_format_36 rfl ?_
    obtain ⟨bi, h⟩ := h
    refine w_iast (n := (wc w).1) X hT hW hS 260 vl260_o (by decide) rfl rfl bi rZ_0.i dX6_format_37 (fun H locs hN hS => ?_)
    obtain ⟨σ_24, eσ_24⟩ : ∃ x, x = sA σ 260 o y1 0 := ⟨_, rfl⟩
    have hWσ_24 : Wo w σ_24 H := eσ_24 ▸ hN
    have h := h σ_24 eσ_24
    clear hN
    refine lv_aload_n X.1 X.2.1 dX6_format_38 rfl (lv_at hl 0 rfl) ?_
    refine wg (v := .ref (wad w 259 o)) X hT hWσ_24 4 3 259 vl4_o rfl rfl (by decide) rfl (by decide) in_X6 q274 rfl dX6_format_39 ?_
    refine lv_iload_n X.1 X.2.1 dX6_format_42 rfl (lv_at hl 1 rfl) ?_
    refine lv_bipush (v := oI (-2)) X.1 X.2.1 dX6_format_43 (by decide) ?_
    obtain ⟨bi, h⟩ := h
    refine w_iast (n := (wc w).1) X hT hWσ_24 hS 259 vl259_o (by decide) rfl rfl bi ((rB_lit (-2) (by decide)).i) dX6_format_45 (fun H locs hN hS => ?_)
    obtain ⟨σ_25, eσ_25⟩ : ∃ x, x = sA σ_24 259 o y1 (-2) := ⟨_, rfl⟩
    have hWσ_25 : Wo w σ_25 H := eσ_25 ▸ hN
    have h := h σ_25 eσ_25
    clear hN
    obtain ⟨y1_26, ey1_26⟩ : ∃ y : Int, y = w32 (y1 + 1) := ⟨_, rfl⟩
    have h := h y1_26 ey1_26
    have ry1_26 : rI y1_26 := by rw [ey1_26]; exact w32_r _
    refine lv_iinc (v := oI y1_26) (lv' := [(1, .int (oI y1_26)), (0, .ref (wad w 4 o))]) X.1 X.2.1 dX6_format_46 hl (k := 1) rfl (by rw [ey1_26]; exact oI_add _ _) (by decide) (by first | rfl | simp [catK, catI, catR, catL]) (fun ls hl => ?_)
    refine lv_goto (tgt := 20) X.1 X.2.1 dX6_format_49 (by decide) ?_
    exact hK20 y1_26 σ_25 _ _ _ ry1_26 (lv_sub hl [1, 0] rfl) hWσ_25 hS h
theorem wk_Blocks_format_L20 {p : Program} {l : Launch} {e : Env} {st : State} {m : MethodId} {args : Array Value} {below : List Frame} {meth : Method} {c : Code} {w : Wp} {o : Int} {Q : St → Prop} (X : CallFix p m c cX6_format 2 st args lw_all RX6) (hr : meth.sig.returnType = none) (hlk : meth.locks = false) (hT : Tb w st) (hV : Hvl w) (ho : 0 ≤ o ∧ o < 2) : ∀ (y1 : Int) (σ : St) (H : Heap) (locs : List Loc) (ls : Array Slot), rI y1 → lv_has ls 2 [(0, .ref (wad w 4 o)), (1, .int (oI y1))] → Wo w σ H → va_S (wA w) st.heap H locs → lQ1 (wp_Blocks_format_L20 (wc w) (wtv w) o Q) y1 σ → W p l e (headSpec (ws_ yX6_format cX6_format 2 none) rm_Blocks_format).room st m args below meth c H locs 0 0 (MQ below (QcV w Q) args st 0 0 (wA w)) (F0 m 20 ls []) := by
  intro y1 σ H locs ls ry1 hl hW hS h
  obtain ⟨fu, h⟩ := h
  induction fu generalizing y1 σ H locs ls with
  | zero => exact h.elim
  | succ fu ih =>
    exact wk_Blocks_format_L20B X hr hlk hT hV ho (lq1 (wp_Blocks_format_L20 (wc w) (wtv w) o Q) fu) (fun y1 σ H locs ls ry1 hl hW hS h => ih y1 σ H locs ls ry1 hl hW hS h) y1 σ H locs ls ry1 hl hW hS h
set_option maxHeartbeats 4000000 in
set_option maxRecDepth 100000 in
theorem met_Blocks_format (l : Launch) {w : Wp} (hV : Hvl w) (o : Int) (Q : St → Prop) (σ : St) (ho : 0 ≤ o ∧ o < 2) (h : wp_Blocks_format (wc w) (wtv w) o Q σ) : Met l yX6_format (ws_ yX6_format cX6_format 2 none) rm_Blocks_format (PcW w σ [.ref (wad w 4 o)]) (QcV w Q) 0 0 (wA w) := by
  refine Met.ofW (cc := cX6_format) (maxL := 2) (ret := none) (by decide) rfl ?_
  intro p e st m args below meth c s₁ B hml hv
  obtain ⟨hargs, hW, hT⟩ := hv
  have X : CallFix p m c cX6_format 2 st _ lw_all RX6 := ⟨B.exec, B.bytes, hml, findClass_of_methodNamed B.named, fun w h => atoms_spec (ws := ws_ yX6_format cX6_format 2 none) B.pre w (List.mem_cons_of_mem _ h)⟩
  have hr := B.returns
  have hlk := B.notSynchronized
  have hS : va_S (wA w) st.heap st.heap [] := va_S.rf
  have vl258_o : vl w 258 o := hV.hv 258 rfl ⟨by omega, by show _ < (2 : Int); omega⟩
  have vl4_o : vl w 4 o := hV.hv 4 rfl ⟨by omega, by show _ < (2 : Int); omega⟩
  have hl := lv_entry ([.ref (wad w 4 o)]) (n := 2) (Nat.le_of_ble_eq_true rfl)
  have hfr := lg_entry_eq m ([.ref (wad w 4 o)]) 2
  rw [← hargs] at hfr
  rw [hfr]
  generalize (lg_sl ([.ref (wad w 4 o)]) ++ List.replicate (2 - (lg_sl ([.ref (wad w 4 o)])).length) Slot.unset).toArray = ls at hl ⊢
  have hl : lv_has ls 2 [(0, .ref (wad w 4 o))] := hl
  unfold wp_Blocks_format at h
  refine lv_aload_n X.1 X.2.1 dX6_format_0 rfl (lv_at hl 0 rfl) ?_
  refine lv_lconst (v := oL 0) X.1 X.2.1 dX6_format_1 (by decide) ?_
  refine wput (z := 0) X hT hW hS 4 5 261 vl4_o rfl rfl (by decide) rfl (by decide) in_X6 tyX6 tyX6_ok nmX6 q276 rfl rfl (rJ_lit 0 (by decide)) (fv1 w rfl) rfl rfl dX6_format_2 (fun H locs hN hS => ?_)
  obtain ⟨σ_27, eσ_27⟩ : ∃ x, x = sI σ 261 o 0 := ⟨_, rfl⟩
  have hWσ_27 : Wo w σ_27 H := eσ_27 ▸ hN
  have h := h σ_27 eσ_27
  clear hN
  refine lv_aload_n X.1 X.2.1 dX6_format_5 rfl (lv_at hl 0 rfl) ?_
  refine lv_iconst (v := oI (-1)) X.1 X.2.1 dX6_format_6 rfl ?_
  refine wput (z := (-1)) X hT hWσ_27 hS 4 9 265 vl4_o rfl rfl (by decide) rfl (by decide) in_X6 tyX6 tyX6_ok nmX6 q280 rfl rfl ((rB_lit (-1) (by decide)).i) (fv0 w rfl) rfl rfl dX6_format_7 (fun H locs hN hS => ?_)
  obtain ⟨σ_28, eσ_28⟩ : ∃ x, x = sI σ_27 265 o (-1) := ⟨_, rfl⟩
  have hWσ_28 : Wo w σ_28 H := eσ_28 ▸ hN
  have h := h σ_28 eσ_28
  clear hN
  refine lv_aload_n X.1 X.2.1 dX6_format_10 rfl (lv_at hl 0 rfl) ?_
  refine wg (v := .ref (wad w 258 o)) X hT hWσ_28 4 2 258 vl4_o rfl rfl (by decide) rfl (by decide) in_X6 q273 rfl dX6_format_11 ?_
  refine lv_iconst (v := oI (-1)) X.1 X.2.1 dX6_format_14 rfl ?_
  refine wr_V (rS (As := [.ref (wad w 258 o), .int (oI (-1))]) (rest := []) X hT hWσ_28 hS (met_Arrays_fill_2 l (w := w) 258 o (-1) _ σ_28 vl258_o (by decide) rfl ((rB_lit (-1) (by decide)).i) h) (va_cwS 2 X.2.2.2.2 (lw_S q652 q653 q135 q654) rfl rfl rfl (by decide +kernel) ⟨Nat.le_of_ble_eq_true rfl, Nat.le_of_ble_eq_true rfl⟩) rfl hl.1 rfl (by first | exact Nat.le_of_ble_eq_true rfl | simp [catK, catI, catR, catL]) dX6_format_15 ⟨Nat.le_refl _, Nat.le_refl _⟩) hS (fun σ_30 H locs rkσ_30 h hWσ_30 hS => ?_)
  have h := h rkσ_30
  refine lv_iconst (v := oI 0) X.1 X.2.1 dX6_format_18 rfl ?_
  refine lv_istore_n (i := 1) (lv' := [(1, .int (oI 0)), (0, .ref (wad w 4 o))]) X.1 X.2.1 dX6_format_19 rfl hl (by decide) (by first | rfl | simp [catK, catI, catR, catL]) (fun ls hl => ?_)
  exact wk_Blocks_format_L20 X hr hlk hT hV ho 0 σ_30 _ _ _ rZ_0.i (lv_sub hl [1, 0] rfl) hWσ_30 hS h
/-! Blocks.drop(I)V -/
set_option maxHeartbeats 4000000 in
set_option maxRecDepth 100000 in
theorem met_Blocks_drop (l : Launch) {w : Wp} (hV : Hvl w) (o : Int) (x1 : Int) (Q : St → Prop) (σ : St) (ho : 0 ≤ o ∧ o < 2) (rx1 : rI x1) (h : wp_Blocks_drop (wc w) (wtv w) o x1 Q σ) : Met l yX6_drop (ws_ yX6_drop cX6_drop 2 none) rm_Blocks_drop (PcW w σ [.ref (wad w 4 o), .int (oI x1)]) (QcV w Q) 0 0 (wA w) := by
  refine Met.ofW (cc := cX6_drop) (maxL := 2) (ret := none) (by decide) rfl ?_
  intro p e st m args below meth c s₁ B hml hv
  obtain ⟨hargs, hW, hT⟩ := hv
  have X : CallFix p m c cX6_drop 2 st _ lw_all RX6 := ⟨B.exec, B.bytes, hml, findClass_of_methodNamed B.named, fun w h => atoms_spec (ws := ws_ yX6_drop cX6_drop 2 none) B.pre w (List.mem_cons_of_mem _ h)⟩
  have hr := B.returns
  have hlk := B.notSynchronized
  have hS : va_S (wA w) st.heap st.heap [] := va_S.rf
  have vl258_o : vl w 258 o := hV.hv 258 rfl ⟨by omega, by show _ < (2 : Int); omega⟩
  have vl259_o : vl w 259 o := hV.hv 259 rfl ⟨by omega, by show _ < (2 : Int); omega⟩
  have vl4_o : vl w 4 o := hV.hv 4 rfl ⟨by omega, by show _ < (2 : Int); omega⟩
  have hl := lv_entry ([.ref (wad w 4 o), .int (oI x1)]) (n := 2) (Nat.le_of_ble_eq_true rfl)
  have hfr := lg_entry_eq m ([.ref (wad w 4 o), .int (oI x1)]) 2
  rw [← hargs] at hfr
  rw [hfr]
  generalize (lg_sl ([.ref (wad w 4 o), .int (oI x1)]) ++ List.replicate (2 - (lg_sl ([.ref (wad w 4 o), .int (oI x1)])).length) Slot.unset).toArray = ls at hl ⊢
  have hl : lv_has ls 2 [(0, .ref (wad w 4 o)), (1, .int (oI x1))] := hl
  unfold wp_Blocks_drop at h
  refine lv_aload_n X.1 X.2.1 dX6_drop_0 rfl (lv_at hl 0 rfl) ?_
  refine lv_iload_n X.1 X.2.1 dX6_drop_1 rfl (lv_at hl 1 rfl) ?_
  refine wr_V (rV (As := [.int (oI x1)]) (rest := []) X hT hW hS (met_Blocks_stopMove l (w := w) hV o x1 _ σ (by omega) rx1 h) (cwV 1 X.2.2.2.2 (lw_V q779 q781 qs7 q137 q782) rfl rfl rfl (by decide +kernel) ⟨Nat.le_of_ble_eq_true rfl, Nat.le_of_ble_eq_true rfl⟩) vl4_o (by decide) rfl rfl hl.1 rfl (by first | exact Nat.le_of_ble_eq_true rfl | simp [catK, catI, catR, catL]) dX6_drop_2 ⟨Nat.le_refl _, Nat.le_refl _⟩) hS (fun σ_6 H locs rkσ_6 h hWσ_6 hS => ?_)
  have h := h rkσ_6
  refine lv_aload_n X.1 X.2.1 dX6_drop_5 rfl (lv_at hl 0 rfl) ?_
  refine wg (v := .ref (wad w 258 o)) X hT hWσ_6 4 2 258 vl4_o rfl rfl (by decide) rfl (by decide) in_X6 q273 rfl dX6_drop_6 ?_
  refine lv_iload_n X.1 X.2.1 dX6_drop_9 rfl (lv_at hl 1 rfl) ?_
  obtain ⟨bi, h⟩ := h
  refine w_iald (n := ((wc w).1 - 6)) X hT hWσ_6 258 vl258_o (by decide) rfl rfl bi dX6_drop_10 ?_
  refine lv_iconst (v := oI (-1)) X.1 X.2.1 dX6_drop_11 rfl ?_
  refine w_icmp_ne (tgt := 16) X (hWσ_6.r.ai 258 o x1 rfl) ((rB_lit (-1) (by decide)).i) dX6_drop_12 (by decide) (fun hc => ?_) (fun hc => ?_)
  · have h := h.1 hc
    refine lv_aload_n X.1 X.2.1 dX6_drop_16 rfl (lv_at hl 0 rfl) ?_
    refine wg (v := .ref (wad w 259 o)) X hT hWσ_6 4 3 259 vl4_o rfl rfl (by decide) rfl (by decide) in_X6 q274 rfl dX6_drop_17 ?_
    refine lv_aload_n X.1 X.2.1 dX6_drop_20 rfl (lv_at hl 0 rfl) ?_
    refine wg (v := .ref (wad w 258 o)) X hT hWσ_6 4 2 258 vl4_o rfl rfl (by decide) rfl (by decide) in_X6 q273 rfl dX6_drop_21 ?_
    refine lv_iload_n X.1 X.2.1 dX6_drop_24 rfl (lv_at hl 1 rfl) ?_
    obtain ⟨bi, h⟩ := h
    refine w_iald (n := ((wc w).1 - 6)) X hT hWσ_6 258 vl258_o (by decide) rfl rfl bi dX6_drop_25 ?_
    refine lv_bipush (v := oI (-2)) X.1 X.2.1 dX6_drop_26 (by decide) ?_
    obtain ⟨bi, h⟩ := h
    refine w_iast (n := (wc w).1) X hT hWσ_6 hS 259 vl259_o (by decide) rfl rfl bi ((rB_lit (-2) (by decide)).i) dX6_drop_28 (fun H locs hN hS => ?_)
    obtain ⟨σ_7, eσ_7⟩ : ∃ x, x = sA σ_6 259 o (gA σ_6 258 o x1) (-2) := ⟨_, rfl⟩
    have hWσ_7 : Wo w σ_7 H := eσ_7 ▸ hN
    have h := h σ_7 eσ_7
    clear hN
    refine lv_aload_n X.1 X.2.1 dX6_drop_29 rfl (lv_at hl 0 rfl) ?_
    refine wg (v := .ref (wad w 258 o)) X hT hWσ_7 4 2 258 vl4_o rfl rfl (by decide) rfl (by decide) in_X6 q273 rfl dX6_drop_30 ?_
    refine lv_iload_n X.1 X.2.1 dX6_drop_33 rfl (lv_at hl 1 rfl) ?_
    refine lv_iconst (v := oI (-1)) X.1 X.2.1 dX6_drop_34 rfl ?_
    obtain ⟨bi, h⟩ := h
    refine w_iast (n := ((wc w).1 - 6)) X hT hWσ_7 hS 258 vl258_o (by decide) rfl rfl bi ((rB_lit (-1) (by decide)).i) dX6_drop_35 (fun H locs hN hS => ?_)
    obtain ⟨σ_8, eσ_8⟩ : ∃ x, x = sA σ_7 258 o x1 (-1) := ⟨_, rfl⟩
    have hWσ_8 : Wo w σ_8 H := eσ_8 ▸ hN
    have h := h σ_8 eσ_8
    clear hN
    exact wret_V X hr hlk hWσ_8 hS h dX6_drop_36
  · have h := h.2 hc
    exact wret_V X hr hlk hWσ_6 hS h dX6_drop_15
/-! Blocks.written(I)I -/
set_option maxHeartbeats 4000000 in
set_option maxRecDepth 100000 in
theorem met_Blocks_written (l : Launch) {w : Wp} (hV : Hvl w) (o : Int) (x1 : Int) (Q : Int → St → Prop) (σ : St) (ho : 0 ≤ o ∧ o < 2) (rx1 : rI x1) (h : wp_Blocks_written (wc w) (wtv w) o x1 Q σ) : Met l yX6_written (ws_ yX6_written cX6_written 2 (some .int)) rm_Blocks_written (PcW w σ [.ref (wad w 4 o), .int (oI x1)]) (QcI w Q) 0 0 (wA w) := by
  refine Met.ofW (cc := cX6_written) (maxL := 2) (ret := (some .int)) (by decide) rfl ?_
  intro p e st m args below meth c s₁ B hml hv
  obtain ⟨hargs, hW, hT⟩ := hv
  have X : CallFix p m c cX6_written 2 st _ lw_all RX6 := ⟨B.exec, B.bytes, hml, findClass_of_methodNamed B.named, fun w h => atoms_spec (ws := ws_ yX6_written cX6_written 2 (some .int)) B.pre w (List.mem_cons_of_mem _ h)⟩
  have hr := B.returns
  have hlk := B.notSynchronized
  have hS : va_S (wA w) st.heap st.heap [] := va_S.rf
  have vl2_0 : vl w 2 0 := hV.hv 2 rfl ⟨by omega, by show _ < (1 : Int); omega⟩
  have vl258_o : vl w 258 o := hV.hv 258 rfl ⟨by omega, by show _ < (2 : Int); omega⟩
  have vl4_o : vl w 4 o := hV.hv 4 rfl ⟨by omega, by show _ < (2 : Int); omega⟩
  have hl := lv_entry ([.ref (wad w 4 o), .int (oI x1)]) (n := 2) (Nat.le_of_ble_eq_true rfl)
  have hfr := lg_entry_eq m ([.ref (wad w 4 o), .int (oI x1)]) 2
  rw [← hargs] at hfr
  rw [hfr]
  generalize (lg_sl ([.ref (wad w 4 o), .int (oI x1)]) ++ List.replicate (2 - (lg_sl ([.ref (wad w 4 o), .int (oI x1)])).length) Slot.unset).toArray = ls at hl ⊢
  have hl : lv_has ls 2 [(0, .ref (wad w 4 o)), (1, .int (oI x1))] := hl
  unfold wp_Blocks_written at h
  refine lv_aload_n X.1 X.2.1 dX6_written_0 rfl (lv_at hl 0 rfl) ?_
  refine wg (v := .ref (wad w 258 o)) X hT hW 4 2 258 vl4_o rfl rfl (by decide) rfl (by decide) in_X6 q273 rfl dX6_written_1 ?_
  refine lv_iload_n X.1 X.2.1 dX6_written_4 rfl (lv_at hl 1 rfl) ?_
  obtain ⟨bi, h⟩ := h
  refine w_iald (n := ((wc w).1 - 6)) X hT hW 258 vl258_o (by decide) rfl rfl bi dX6_written_5 ?_
  refine lv_iconst (v := oI (-1)) X.1 X.2.1 dX6_written_6 rfl ?_
  refine w_icmp_ne (tgt := 14) X (hW.r.ai 258 o x1 rfl) ((rB_lit (-1) (by decide)).i) dX6_written_7 (by decide) (fun hc => ?_) (fun hc => ?_)
  · have h := h.1 hc
    refine lv_iconst (v := oI 0) X.1 X.2.1 dX6_written_14 rfl ?_
    refine lv_aload_n X.1 X.2.1 dX6_written_15 rfl (lv_at hl 0 rfl) ?_
    refine wg (v := .ref (wad w 2 0)) X hT hW 4 0 256 vl4_o rfl rfl (by decide) rfl (by decide) in_X6 q269 rfl dX6_written_16 ?_
    refine lv_aload_n X.1 X.2.1 dX6_written_19 rfl (lv_at hl 0 rfl) ?_
    refine wg (v := .ref (wad w 258 o)) X hT hW 4 2 258 vl4_o rfl rfl (by decide) rfl (by decide) in_X6 q273 rfl dX6_written_20 ?_
    refine lv_iload_n X.1 X.2.1 dX6_written_23 rfl (lv_at hl 1 rfl) ?_
    obtain ⟨bi, h⟩ := h
    refine w_iald (n := ((wc w).1 - 6)) X hT hW 258 vl258_o (by decide) rfl rfl bi dX6_written_24 ?_
    refine wr_I (rV (As := [.int (oI (gA σ 258 o x1))]) (rest := [.int (oI 0)]) X hT hW hS (met_Flash_written l (w := w) hV (gA σ 258 o x1) _ σ (hW.r.ai 258 o x1 rfl) h) (cwV 1 X.2.2.2.2 (lw_V q1021 q1022 q1023 q134 q1024) rfl rfl rfl (by decide +kernel) ⟨Nat.le_of_ble_eq_true rfl, Nat.le_of_ble_eq_true rfl⟩) vl2_0 (by decide) rfl rfl hl.1 rfl (by first | exact Nat.le_of_ble_eq_true rfl | simp [catK, catI, catR, catL]) dX6_written_25 ⟨Nat.le_refl _, Nat.le_refl _⟩) hS (fun r_3 σ_4 H locs rr_3 rkσ_4 h hWσ_4 hS => ?_)
    have h := h rr_3 rkσ_4
    refine lv_iconst (v := oI 2) X.1 X.2.1 dX6_written_28 rfl ?_
    refine w_isub X dX6_written_29 ?_
    refine w_mmax X rZ_0.i (w32_r _) hl.1 q1025 q924 q149 q925 (Nat.le_of_ble_eq_true rfl) (Nat.le_of_ble_eq_true rfl) (Nat.le_refl _) (Nat.le_refl _) dX6_written_30 ?_
    exact wret_I X hr hlk hWσ_4 hS (max_rI rZ_0.i (w32_r _)) h dX6_written_33
  · have h := h.2 hc
    refine lv_iconst (v := oI 0) X.1 X.2.1 dX6_written_10 rfl ?_
    refine lv_goto (tgt := 33) X.1 X.2.1 dX6_written_11 (by decide) ?_
    exact wret_I X hr hlk hW hS rZ_0.i h dX6_written_33
/-! Blocks.read(II[BI)V -/
set_option maxHeartbeats 4000000 in
set_option maxRecDepth 100000 in
theorem met_Blocks_read (l : Launch) {w : Wp} (hV : Hvl w) (o : Int) (x1 : Int) (x2 : Int) (x3f : Nat) (x3o : Int) (x4 : Int) (Q : St → Prop) (σ : St) (ho : 0 ≤ o ∧ o < 2) (rx1 : rI x1) (rx2 : rI x2) (vx3 : vl w x3f x3o) (nx3 : ¬ x3f < 64) (tx3 : aty x3f = 1) (rx4 : rI x4) (h : wp_Blocks_read (wc w) (wtv w) o x1 x2 x3f x3o x4 Q σ) : Met l yX6_read (ws_ yX6_read cX6_read 5 none) rm_Blocks_read (PcW w σ [.ref (wad w 4 o), .int (oI x1), .int (oI x2), .ref (wad w x3f x3o), .int (oI x4)]) (QcV w Q) 0 0 (wA w) := by
  refine Met.ofW (cc := cX6_read) (maxL := 5) (ret := none) (by decide) rfl ?_
  intro p e st m args below meth c s₁ B hml hv
  obtain ⟨hargs, hW, hT⟩ := hv
  have X : CallFix p m c cX6_read 5 st _ lw_all RX6 := ⟨B.exec, B.bytes, hml, findClass_of_methodNamed B.named, fun w h => atoms_spec (ws := ws_ yX6_read cX6_read 5 none) B.pre w (List.mem_cons_of_mem _ h)⟩
  have hr := B.returns
  have hlk := B.notSynchronized
  have hS : va_S (wA w) st.heap st.heap [] := va_S.rf
  have vl2_0 : vl w 2 0 := hV.hv 2 rfl ⟨by omega, by show _ < (1 : Int); omega⟩
  have vl258_o : vl w 258 o := hV.hv 258 rfl ⟨by omega, by show _ < (2 : Int); omega⟩
  have vl4_o : vl w 4 o := hV.hv 4 rfl ⟨by omega, by show _ < (2 : Int); omega⟩
  have hl := lv_entry ([.ref (wad w 4 o), .int (oI x1), .int (oI x2), .ref (wad w x3f x3o), .int (oI x4)]) (n := 5) (Nat.le_of_ble_eq_true rfl)
  have hfr := lg_entry_eq m ([.ref (wad w 4 o), .int (oI x1), .int (oI x2), .ref (wad w x3f x3o), .int (oI x4)]) 5
  rw [← hargs] at hfr
  rw [hfr]
  generalize (lg_sl ([.ref (wad w 4 o), .int (oI x1), .int (oI x2), .ref (wad w x3f x3o), .int (oI x4)]) ++ List.replicate (5 - (lg_sl ([.ref (wad w 4 o), .int (oI x1), .int (oI x2), .ref (wad w x3f x3o), .int (oI x4)])).length) Slot.unset).toArray = ls at hl ⊢
  have hl : lv_has ls 5 [(0, .ref (wad w 4 o)), (1, .int (oI x1)), (2, .int (oI x2)), (3, .ref (wad w x3f x3o)), (4, .int (oI x4))] := hl
  unfold wp_Blocks_read at h
  refine lv_iload_n X.1 X.2.1 dX6_read_0 rfl (lv_at hl 2 rfl) ?_
  refine lv_aload_n X.1 X.2.1 dX6_read_1 rfl (lv_at hl 0 rfl) ?_
  refine lv_iload_n X.1 X.2.1 dX6_read_2 rfl (lv_at hl 1 rfl) ?_
  refine wr_I (rV (As := [.int (oI x1)]) (rest := [.int (oI x2)]) X hT hW hS (met_Blocks_written l (w := w) hV o x1 _ σ (by omega) rx1 h) (cwV 1 X.2.2.2.2 (lw_V q1203 q1018 q1019 q137 q1020) rfl rfl rfl (by decide +kernel) ⟨Nat.le_of_ble_eq_true rfl, Nat.le_of_ble_eq_true rfl⟩) vl4_o (by decide) rfl rfl hl.1 rfl (by first | exact Nat.le_of_ble_eq_true rfl | simp [catK, catI, catR, catL]) dX6_read_3 ⟨Nat.le_refl _, Nat.le_refl _⟩) hS (fun r_7 σ_8 H locs rr_7 rkσ_8 h hWσ_8 hS => ?_)
  have h := h rr_7 rkσ_8
  refine w_icmp_ge (tgt := 31) X rx2 rr_7 dX6_read_6 (by decide) (fun hc => ?_) (fun hc => ?_)
  · have h := h.1 hc
    refine lv_aload_n X.1 X.2.1 dX6_read_31 rfl (lv_at hl 3 rfl) ?_
    refine lv_iload X.1 X.2.1 dX6_read_32 (lv_at hl 4 rfl) ?_
    refine lv_iload X.1 X.2.1 dX6_read_34 (lv_at hl 4 rfl) ?_
    refine lv_sipush (v := oI 128) X.1 X.2.1 dX6_read_36 (by decide) ?_
    refine w_iadd X dX6_read_39 ?_
    refine lv_iconst (v := oI (-1)) X.1 X.2.1 dX6_read_40 rfl ?_
    refine wr_V (rS (As := [.ref (wad w x3f x3o), .int (oI x4), .int (oI (w32 (x4 + 128))), .int (oI (-1))]) (rest := []) X hT hWσ_8 hS (met_Arrays_fill_3 l (w := w) x3f x3o x4 (w32 (x4 + 128)) (-1) _ σ_8 vx3 nx3 tx3 rx4 (w32_r _) (rB_lit (-1) (by decide)) h) (va_cwS 4 X.2.2.2.2 (lw_S q1204 q668 q135 q669) rfl rfl rfl (by decide +kernel) ⟨Nat.le_of_ble_eq_true rfl, Nat.le_of_ble_eq_true rfl⟩) rfl hl.1 rfl (by first | exact Nat.le_of_ble_eq_true rfl | simp [catK, catI, catR, catL]) dX6_read_41 ⟨Nat.le_refl _, Nat.le_refl _⟩) hS (fun σ_10 H locs rkσ_10 h hWσ_10 hS => ?_)
    have h := h rkσ_10
    exact wret_V X hr hlk hWσ_10 hS h dX6_read_44
  · have h := h.2 hc
    refine lv_aload_n X.1 X.2.1 dX6_read_9 rfl (lv_at hl 0 rfl) ?_
    refine wg (v := .ref (wad w 2 0)) X hT hWσ_8 4 0 256 vl4_o rfl rfl (by decide) rfl (by decide) in_X6 q269 rfl dX6_read_10 ?_
    refine lv_aload_n X.1 X.2.1 dX6_read_13 rfl (lv_at hl 0 rfl) ?_
    refine wg (v := .ref (wad w 258 o)) X hT hWσ_8 4 2 258 vl4_o rfl rfl (by decide) rfl (by decide) in_X6 q273 rfl dX6_read_14 ?_
    refine lv_iload_n X.1 X.2.1 dX6_read_17 rfl (lv_at hl 1 rfl) ?_
    obtain ⟨bi, h⟩ := h
    refine w_iald (n := ((wc w).1 - 6)) X hT hWσ_8 258 vl258_o (by decide) rfl rfl bi dX6_read_18 ?_
    refine lv_iconst (v := oI 2) X.1 X.2.1 dX6_read_19 rfl ?_
    refine lv_iload_n X.1 X.2.1 dX6_read_20 rfl (lv_at hl 2 rfl) ?_
    refine w_iadd X dX6_read_21 ?_
    refine lv_aload_n X.1 X.2.1 dX6_read_22 rfl (lv_at hl 3 rfl) ?_
    refine lv_iload X.1 X.2.1 dX6_read_23 (lv_at hl 4 rfl) ?_
    refine wr_V (rV (As := [.int (oI (gA σ_8 258 o x1)), .int (oI (w32 (2 + x2))), .ref (wad w x3f x3o), .int (oI x4)]) (rest := []) X hT hWσ_8 hS (met_Flash_read l (w := w) hV (gA σ_8 258 o x1) (w32 (2 + x2)) x3f x3o x4 _ σ_8 (hWσ_8.r.ai 258 o x1 rfl) (w32_r _) vx3 nx3 tx3 rx4 h) (cwV 4 X.2.2.2.2 (lw_V q889 q890 q891 q134 q892) rfl rfl rfl (by decide +kernel) ⟨Nat.le_of_ble_eq_true rfl, Nat.le_of_ble_eq_true rfl⟩) vl2_0 (by decide) rfl rfl hl.1 rfl (by first | exact Nat.le_of_ble_eq_true rfl | simp [catK, catI, catR, catL]) dX6_read_25 ⟨Nat.le_refl _, Nat.le_refl _⟩) hS (fun σ_12 H locs rkσ_12 h hWσ_12 hS => ?_)
    have h := h rkσ_12
    refine lv_goto (tgt := 44) X.1 X.2.1 dX6_read_28 (by decide) ?_
    exact wret_V X hr hlk hWσ_12 hS h dX6_read_44
/-! Blocks.rule(I)V -/
set_option maxHeartbeats 4000000 in
set_option maxRecDepth 100000 in
theorem wk_Blocks_rule_L2B {p : Program} {l : Launch} {e : Env} {st : State} {m : MethodId} {args : Array Value} {below : List Frame} {meth : Method} {c : Code} {w : Wp} {o : Int} {x1 : Int} {Q : St → Prop} (X : CallFix p m c cX6_rule 3 st args lw_all RX6) (hr : meth.sig.returnType = none) (hlk : meth.locks = false) (hT : Tb w st) (hV : Hvl w) (ho : 0 ≤ o ∧ o < 2) (rx1 : rI x1) (K2 : Int → St → Prop) (hK2 : ∀ (y2 : Int) (σ : St) (H : Heap) (locs : List Loc) (ls : Array Slot), rI y2 → lv_has ls 3 [(0, .ref (wad w 4 o)), (1, .int (oI x1)), (2, .int (oI y2))] → Wo w σ H → va_S (wA w) st.heap H locs → K2 y2 σ → W p l e (headSpec (ws_ yX6_rule cX6_rule 3 none) rm_Blocks_rule).room st m args below meth c H locs 0 0 (MQ below (QcV w Q) args st 0 0 (wA w)) (F0 m 2 ls [])) : ∀ (y2 : Int) (σ : St) (H : Heap) (locs : List Loc) (ls : Array Slot), rI y2 → lv_has ls 3 [(0, .ref (wad w 4 o)), (1, .int (oI x1)), (2, .int (oI y2))] → Wo w σ H → va_S (wA w) st.heap H locs → wp_Blocks_rule_L2 (wc w) (wtv w) o x1 Q K2 y2 σ → W p l e (headSpec (ws_ yX6_rule cX6_rule 3 none) rm_Blocks_rule).room st m args below meth c H locs 0 0 (MQ below (QcV w Q) args st 0 0 (wA w)) (F0 m 2 ls []) := by
  have vl263_o : vl w 263 o := hV.hv 263 rfl ⟨by omega, by show _ < (2 : Int); omega⟩
  have vl4_o : vl w 4 o := hV.hv 4 rfl ⟨by omega, by show _ < (2 : Int); omega⟩
  intro y2 σ H locs ls ry2 hl hW hS h
  unfold wp_Blocks_rule_L2 at h
  refine lv_iload_n X.1 X.2.1 dX6_rule_2 rfl (lv_at hl 2 rfl) ?_
  refine lv_sipush (v := oI 128) X.1 X.2.1 dX6_rule_3 (by decide) ?_
  refine w_icmp_ge (tgt := 27) X ry2 (rI_lit 128 (by decide)) dX6_rule_6 (by decide) (fun hc => ?_) (fun hc => ?_)
  · have h := h.1 hc
    exact wret_V X hr hlk hW hS h dX6_rule_27
  · have h := h.2 hc
    refine lv_aload_n X.1 X.2.1 dX6_rule_9 rfl (lv_at hl 0 rfl) ?_
    refine wg (v := .ref (wad w 263 o)) X hT hW 4 7 263 vl4_o rfl rfl (by decide) rfl (by decide) in_X6 q278 rfl dX6_rule_10 ?_
    refine lv_iload_n X.1 X.2.1 dX6_rule_13 rfl (lv_at hl 2 rfl) ?_
    refine lv_iload_n X.1 X.2.1 dX6_rule_14 rfl (lv_at hl 1 rfl) ?_
    refine lv_iconst (v := oI 3) X.1 X.2.1 dX6_rule_15 rfl ?_
    refine lv_iload_n X.1 X.2.1 dX6_rule_16 rfl (lv_at hl 2 rfl) ?_
    refine w_imul X dX6_rule_17 ?_
    refine w_iadd X dX6_rule_18 ?_
    refine w_i2b X dX6_rule_19 ?_
    obtain ⟨bi, h⟩ := h
    refine w_bast (n := 128) X hT hW hS 263 vl263_o (by decide) rfl rfl bi (b8_r _) dX6_rule_20 (fun H locs hN hS => ?_)
    obtain ⟨σ_5, eσ_5⟩ : ∃ x, x = sA σ 263 o y2 (b8 (w32 (x1 + (w32 (3 * y2))))) := ⟨_, rfl⟩
    have hWσ_5 : Wo w σ_5 H := eσ_5 ▸ hN
    have h := h σ_5 eσ_5
    clear hN
    obtain ⟨y2_6, ey2_6⟩ : ∃ y : Int, y = w32 (y2 + 1) := ⟨_, rfl⟩
    have h := h y2_6 ey2_6
    have ry2_6 : rI y2_6 := by rw [ey2_6]; exact w32_r _
    refine lv_iinc (v := oI y2_6) (lv' := [(2, .int (oI y2_6)), (0, .ref (wad w 4 o)), (1, .int (oI x1))]) X.1 X.2.1 dX6_rule_21 hl (k := 2) rfl (by rw [ey2_6]; exact oI_add _ _) (by decide) (by first | rfl | simp [catK, catI, catR, catL]) (fun ls hl => ?_)
    refine lv_goto (tgt := 2) X.1 X.2.1 dX6_rule_24 (by decide) ?_
    exact hK2 y2_6 σ_5 _ _ _ ry2_6 (lv_sub hl [1, 2, 0] rfl) hWσ_5 hS h
theorem wk_Blocks_rule_L2 {p : Program} {l : Launch} {e : Env} {st : State} {m : MethodId} {args : Array Value} {below : List Frame} {meth : Method} {c : Code} {w : Wp} {o : Int} {x1 : Int} {Q : St → Prop} (X : CallFix p m c cX6_rule 3 st args lw_all RX6) (hr : meth.sig.returnType = none) (hlk : meth.locks = false) (hT : Tb w st) (hV : Hvl w) (ho : 0 ≤ o ∧ o < 2) (rx1 : rI x1) : ∀ (y2 : Int) (σ : St) (H : Heap) (locs : List Loc) (ls : Array Slot), rI y2 → lv_has ls 3 [(0, .ref (wad w 4 o)), (1, .int (oI x1)), (2, .int (oI y2))] → Wo w σ H → va_S (wA w) st.heap H locs → lQ1 (wp_Blocks_rule_L2 (wc w) (wtv w) o x1 Q) y2 σ → W p l e (headSpec (ws_ yX6_rule cX6_rule 3 none) rm_Blocks_rule).room st m args below meth c H locs 0 0 (MQ below (QcV w Q) args st 0 0 (wA w)) (F0 m 2 ls []) := by
  intro y2 σ H locs ls ry2 hl hW hS h
  obtain ⟨fu, h⟩ := h
  induction fu generalizing y2 σ H locs ls with
  | zero => exact h.elim
  | succ fu ih =>
    exact wk_Blocks_rule_L2B X hr hlk hT hV ho rx1 (lq1 (wp_Blocks_rule_L2 (wc w) (wtv w) o x1 Q) fu) (fun y2 σ H locs ls ry2 hl hW hS h => ih y2 σ H locs ls ry2 hl hW hS h) y2 σ H locs ls ry2 hl hW hS h
set_option maxHeartbeats 4000000 in
set_option maxRecDepth 100000 in
theorem met_Blocks_rule (l : Launch) {w : Wp} (hV : Hvl w) (o : Int) (x1 : Int) (Q : St → Prop) (σ : St) (ho : 0 ≤ o ∧ o < 2) (rx1 : rI x1) (h : wp_Blocks_rule (wc w) (wtv w) o x1 Q σ) : Met l yX6_rule (ws_ yX6_rule cX6_rule 3 none) rm_Blocks_rule (PcW w σ [.ref (wad w 4 o), .int (oI x1)]) (QcV w Q) 0 0 (wA w) := by
  refine Met.ofW (cc := cX6_rule) (maxL := 3) (ret := none) (by decide) rfl ?_
  intro p e st m args below meth c s₁ B hml hv
  obtain ⟨hargs, hW, hT⟩ := hv
  have X : CallFix p m c cX6_rule 3 st _ lw_all RX6 := ⟨B.exec, B.bytes, hml, findClass_of_methodNamed B.named, fun w h => atoms_spec (ws := ws_ yX6_rule cX6_rule 3 none) B.pre w (List.mem_cons_of_mem _ h)⟩
  have hr := B.returns
  have hlk := B.notSynchronized
  have hS : va_S (wA w) st.heap st.heap [] := va_S.rf
  have vl4_o : vl w 4 o := hV.hv 4 rfl ⟨by omega, by show _ < (2 : Int); omega⟩
  have hl := lv_entry ([.ref (wad w 4 o), .int (oI x1)]) (n := 3) (Nat.le_of_ble_eq_true rfl)
  have hfr := lg_entry_eq m ([.ref (wad w 4 o), .int (oI x1)]) 3
  rw [← hargs] at hfr
  rw [hfr]
  generalize (lg_sl ([.ref (wad w 4 o), .int (oI x1)]) ++ List.replicate (3 - (lg_sl ([.ref (wad w 4 o), .int (oI x1)])).length) Slot.unset).toArray = ls at hl ⊢
  have hl : lv_has ls 3 [(0, .ref (wad w 4 o)), (1, .int (oI x1))] := hl
  unfold wp_Blocks_rule at h
  refine lv_iconst (v := oI 0) X.1 X.2.1 dX6_rule_0 rfl ?_
  refine lv_istore_n (i := 2) (lv' := [(2, .int (oI 0)), (0, .ref (wad w 4 o)), (1, .int (oI x1))]) X.1 X.2.1 dX6_rule_1 rfl hl (by decide) (by first | rfl | simp [catK, catI, catR, catL]) (fun ls hl => ?_)
  exact wk_Blocks_rule_L2 X hr hlk hT hV ho rx1 0 σ _ _ _ rZ_0.i (lv_sub hl [1, 2, 0] rfl) hW hS h
/-! Blocks.writeRule(II)I -/
set_option maxHeartbeats 4000000 in
set_option maxRecDepth 100000 in
theorem met_Blocks_writeRule (l : Launch) {w : Wp} (hV : Hvl w) (o : Int) (x1 : Int) (x2 : Int) (Q : Int → St → Prop) (σ : St) (ho : 0 ≤ o ∧ o < 2) (rx1 : rI x1) (rx2 : rI x2) (h : wp_Blocks_writeRule (wc w) (wtv w) o x1 x2 Q σ) : Met l yX6_writeRule (ws_ yX6_writeRule cX6_writeRule 4 (some .int)) rm_Blocks_writeRule (PcW w σ [.ref (wad w 4 o), .int (oI x1), .int (oI x2)]) (QcI w Q) 0 0 (wA w) := by
  refine Met.ofW (cc := cX6_writeRule) (maxL := 4) (ret := (some .int)) (by decide) rfl ?_
  intro p e st m args below meth c s₁ B hml hv
  obtain ⟨hargs, hW, hT⟩ := hv
  have X : CallFix p m c cX6_writeRule 4 st _ lw_all RX6 := ⟨B.exec, B.bytes, hml, findClass_of_methodNamed B.named, fun w h => atoms_spec (ws := ws_ yX6_writeRule cX6_writeRule 4 (some .int)) B.pre w (List.mem_cons_of_mem _ h)⟩
  have hr := B.returns
  have hlk := B.notSynchronized
  have hS : va_S (wA w) st.heap st.heap [] := va_S.rf
  have vl263_o : vl w 263 o := hV.hv 263 rfl ⟨by omega, by show _ < (2 : Int); omega⟩
  have vl264_o : vl w 264 o := hV.hv 264 rfl ⟨by omega, by show _ < (2 : Int); omega⟩
  have vl4_o : vl w 4 o := hV.hv 4 rfl ⟨by omega, by show _ < (2 : Int); omega⟩
  have hl := lv_entry ([.ref (wad w 4 o), .int (oI x1), .int (oI x2)]) (n := 4) (Nat.le_of_ble_eq_true rfl)
  have hfr := lg_entry_eq m ([.ref (wad w 4 o), .int (oI x1), .int (oI x2)]) 4
  rw [← hargs] at hfr
  rw [hfr]
  generalize (lg_sl ([.ref (wad w 4 o), .int (oI x1), .int (oI x2)]) ++ List.replicate (4 - (lg_sl ([.ref (wad w 4 o), .int (oI x1), .int (oI x2)])).length) Slot.unset).toArray = ls at hl ⊢
  have hl : lv_has ls 4 [(0, .ref (wad w 4 o)), (1, .int (oI x1)), (2, .int (oI x2))] := hl
  unfold wp_Blocks_writeRule at h
  refine lv_aload_n X.1 X.2.1 dX6_writeRule_0 rfl (lv_at hl 0 rfl) ?_
  refine lv_iload_n X.1 X.2.1 dX6_writeRule_1 rfl (lv_at hl 1 rfl) ?_
  refine wr_I (rV (As := [.int (oI x1)]) (rest := []) X hT hW hS (met_Blocks_written l (w := w) hV o x1 _ σ (by omega) rx1 h) (cwV 1 X.2.2.2.2 (lw_V q1203 q1018 q1019 q137 q1020) rfl rfl rfl (by decide +kernel) ⟨Nat.le_of_ble_eq_true rfl, Nat.le_of_ble_eq_true rfl⟩) vl4_o (by decide) rfl rfl hl.1 rfl (by first | exact Nat.le_of_ble_eq_true rfl | simp [catK, catI, catR, catL]) dX6_writeRule_2 ⟨Nat.le_refl _, Nat.le_refl _⟩) hS (fun r_8 σ_9 H locs rr_8 rkσ_9 h hWσ_9 hS => ?_)
  have h := h rr_8 rkσ_9
  refine lv_istore_n (i := 3) (lv' := [(3, .int (oI r_8)), (0, .ref (wad w 4 o)), (1, .int (oI x1)), (2, .int (oI x2))]) X.1 X.2.1 dX6_writeRule_5 rfl hl (by decide) (by first | rfl | simp [catK, catI, catR, catL]) (fun ls hl => ?_)
  refine lv_aload_n X.1 X.2.1 dX6_writeRule_6 rfl (lv_at hl 1 rfl) ?_
  refine lv_iload_n X.1 X.2.1 dX6_writeRule_7 rfl (lv_at hl 3 rfl) ?_
  refine wr_V (rV (As := [.int (oI x2)]) (rest := []) X hT hWσ_9 hS (met_Blocks_rule l (w := w) hV o x2 _ σ_9 (by omega) rx2 h) (cwV 1 X.2.2.2.2 (lw_V q1606 q1607 q1608 q137 q1609) rfl rfl rfl (by decide +kernel) ⟨Nat.le_of_ble_eq_true rfl, Nat.le_of_ble_eq_true rfl⟩) vl4_o (by decide) rfl rfl hl.1 rfl (by first | exact Nat.le_of_ble_eq_true rfl | simp [catK, catI, catR, catL]) dX6_writeRule_8 ⟨Nat.le_refl _, Nat.le_refl _⟩) hS (fun σ_11 H locs rkσ_11 h hWσ_11 hS => ?_)
  have h := h rkσ_11
  refine lv_aload_n X.1 X.2.1 dX6_writeRule_11 rfl (lv_at hl 1 rfl) ?_
  refine wg (v := .ref (wad w 263 o)) X hT hWσ_11 4 7 263 vl4_o rfl rfl (by decide) rfl (by decide) in_X6 q278 rfl dX6_writeRule_12 ?_
  refine lv_iconst (v := oI 0) X.1 X.2.1 dX6_writeRule_15 rfl ?_
  refine lv_aload_n X.1 X.2.1 dX6_writeRule_16 rfl (lv_at hl 1 rfl) ?_
  refine wg (v := .ref (wad w 264 o)) X hT hWσ_11 4 8 264 vl4_o rfl rfl (by decide) rfl (by decide) in_X6 q279 rfl dX6_writeRule_17 ?_
  refine lv_iconst (v := oI 0) X.1 X.2.1 dX6_writeRule_20 rfl ?_
  refine lv_sipush (v := oI 128) X.1 X.2.1 dX6_writeRule_21 (by decide) ?_
  obtain ⟨bi, h⟩ := h
  refine w_copy (nf := 128) (ng := 128) (sp := 0) (dp := 0) (n := 128) X hT hWσ_11 hS hl.1 263 264 vl263_o vl264_o (by decide) (by decide) rfl rfl rfl rfl bi q1610 q699 q698 q142 (Nat.le_of_ble_eq_true rfl) (Nat.le_of_ble_eq_true rfl) dX6_writeRule_24 (fun H locs hN hS => ?_)
  obtain ⟨σ_12, eσ_12⟩ : ∃ x, x = sAr σ_11 264 o (cpy (gA σ_11 263 o) (gA σ_11 264 o) 0 0 128) := ⟨_, rfl⟩
  have hWσ_12 : Wo w σ_12 H := eσ_12 ▸ hN
  have h := h σ_12 eσ_12
  clear hN
  refine lv_aload_n X.1 X.2.1 dX6_writeRule_27 rfl (lv_at hl 1 rfl) ?_
  refine lv_iload_n X.1 X.2.1 dX6_writeRule_28 rfl (lv_at hl 2 rfl) ?_
  refine lv_iload_n X.1 X.2.1 dX6_writeRule_29 rfl (lv_at hl 0 rfl) ?_
  refine lv_aload_n X.1 X.2.1 dX6_writeRule_30 rfl (lv_at hl 1 rfl) ?_
  refine wg (v := .ref (wad w 264 o)) X hT hWσ_12 4 8 264 vl4_o rfl rfl (by decide) rfl (by decide) in_X6 q279 rfl dX6_writeRule_31 ?_
  refine lv_iconst (v := oI 0) X.1 X.2.1 dX6_writeRule_34 rfl ?_
  refine wr_V (rV (As := [.int (oI x1), .int (oI r_8), .ref (wad w 264 o), .int (oI 0)]) (rest := []) X hT hWσ_12 hS (met_Blocks_write l (w := w) hV o x1 r_8 264 o 0 _ σ_12 (by omega) rx1 rr_8 vl264_o (by decide) rfl rZ_0.i h) (cwV 4 X.2.2.2.2 (lw_V q1611 q861 q862 q137 q863) rfl rfl rfl (by decide +kernel) ⟨Nat.le_of_ble_eq_true rfl, Nat.le_of_ble_eq_true rfl⟩) vl4_o (by decide) rfl rfl hl.1 rfl (by first | exact Nat.le_of_ble_eq_true rfl | simp [catK, catI, catR, catL]) dX6_writeRule_35 ⟨Nat.le_refl _, Nat.le_refl _⟩) hS (fun σ_14 H locs rkσ_14 h hWσ_14 hS => ?_)
  have h := h rkσ_14
  refine lv_iload_n X.1 X.2.1 dX6_writeRule_38 rfl (lv_at hl 0 rfl) ?_
  exact wret_I X hr hlk hWσ_14 hS rr_8 h dX6_writeRule_39
/-! Blocks.change(III)V -/
set_option maxHeartbeats 4000000 in
set_option maxRecDepth 100000 in
theorem wk_Blocks_change_b179 {p : Program} {l : Launch} {e : Env} {st : State} {m : MethodId} {args : Array Value} {below : List Frame} {meth : Method} {c : Code} {w : Wp} {o : Int} {x1 : Int} {x2 : Int} {x3 : Int} {Q : St → Prop} (X : CallFix p m c cX6_change 9 st args lw_all RX6) (hr : meth.sig.returnType = none) (hlk : meth.locks = false) (hT : Tb w st) (hV : Hvl w) (ho : 0 ≤ o ∧ o < 2) (rx1 : rI x1) (rx2 : rI x2) (rx3 : rI x3) (K59 : Int → Int → Int → St → Prop) (hK59 : ∀ (y4 y5 y6 : Int) (σ : St) (H : Heap) (locs : List Loc) (ls : Array Slot), rI y4 → rI y5 → rZ y6 → lv_has ls 9 [(0, .ref (wad w 4 o)), (1, .int (oI x1)), (2, .int (oI x2)), (3, .int (oI x3)), (4, .int (oI y4)), (5, .int (oI y5)), (6, .int (oI y6))] → Wo w σ H → va_S (wA w) st.heap H locs → K59 y4 y5 y6 σ → W p l e (headSpec (ws_ yX6_change cX6_change 9 none) rm_Blocks_change).room st m args below meth c H locs 0 0 (MQ below (QcV w Q) args st 0 0 (wA w)) (F0 m 59 ls [])) : ∀ (y4 y5 y6 : Int) (σ : St) (H : Heap) (locs : List Loc) (ls : Array Slot), rI y4 → rI y5 → rZ y6 → lv_has ls 9 [(0, .ref (wad w 4 o)), (1, .int (oI x1)), (2, .int (oI x2)), (3, .int (oI x3)), (4, .int (oI y4)), (5, .int (oI y5)), (6, .int (oI y6))] → Wo w σ H → va_S (wA w) st.heap H locs → wp_Blocks_change_b179 (wc w) (wtv w) o x1 x2 x3 Q K59 y4 y5 y6 σ → W p l e (headSpec (ws_ yX6_change cX6_change 9 none) rm_Blocks_change).room st m args below meth c H locs 0 0 (MQ below (QcV w Q) args st 0 0 (wA w)) (F0 m 179 ls []) := by

  intro y4 y5 y6 σ H locs ls ry4 ry5 ry6 hl hW hS h
  unfold wp_Blocks_change_b179 at h
  refine lv_goto (tgt := 59) X.1 X.2.1 dX6_change_179 (by decide) ?_
  exact hK59 y4 y5 y6 σ _ _ _ ry4 ry5 ry6 (lv_sub hl [0, 1, 2, 3, 4, 5, 6] rfl) hW hS h
set_option maxHeartbeats 4000000 in
set_option maxRecDepth 100000 in
theorem wk_Blocks_change_b149 {p : Program} {l : Launch} {e : Env} {st : State} {m : MethodId} {args : Array Value} {below : List Frame} {meth : Method} {c : Code} {w : Wp} {o : Int} {x1 : Int} {x2 : Int} {x3 : Int} {Q : St → Prop} (X : CallFix p m c cX6_change 9 st args lw_all RX6) (hr : meth.sig.returnType = none) (hlk : meth.locks = false) (hT : Tb w st) (hV : Hvl w) (ho : 0 ≤ o ∧ o < 2) (rx1 : rI x1) (rx2 : rI x2) (rx3 : rI x3) (K59 : Int → Int → Int → St → Prop) (hK59 : ∀ (y4 y5 y6 : Int) (σ : St) (H : Heap) (locs : List Loc) (ls : Array Slot), rI y4 → rI y5 → rZ y6 → lv_has ls 9 [(0, .ref (wad w 4 o)), (1, .int (oI x1)), (2, .int (oI x2)), (3, .int (oI x3)), (4, .int (oI y4)), (5, .int (oI y5)), (6, .int (oI y6))] → Wo w σ H → va_S (wA w) st.heap H locs → K59 y4 y5 y6 σ → W p l e (headSpec (ws_ yX6_change cX6_change 9 none) rm_Blocks_change).room st m args below meth c H locs 0 0 (MQ below (QcV w Q) args st 0 0 (wA w)) (F0 m 59 ls [])) : ∀ (y4 y5 y6 y7 : Int) (σ : St) (H : Heap) (locs : List Loc) (ls : Array Slot), rI y4 → rI y5 → rZ y6 → rI y7 → lv_has ls 9 [(0, .ref (wad w 4 o)), (1, .int (oI x1)), (2, .int (oI x2)), (3, .int (oI x3)), (4, .int (oI y4)), (5, .int (oI y5)), (6, .int (oI y6)), (7, .int (oI y7))] → Wo w σ H → va_S (wA w) st.heap H locs → wp_Blocks_change_b149 (wc w) (wtv w) o x1 x2 x3 Q K59 y4 y5 y6 y7 σ → W p l e (headSpec (ws_ yX6_change cX6_change 9 none) rm_Blocks_change).room st m args below meth c H locs 0 0 (MQ below (QcV w Q) args st 0 0 (wA w)) (F0 m 149 ls []) := by
  have vl258_o : vl w 258 o := hV.hv 258 rfl ⟨by omega, by show _ < (2 : Int); omega⟩
  have vl259_o : vl w 259 o := hV.hv 259 rfl ⟨by omega, by show _ < (2 : Int); omega⟩
  have vl4_o : vl w 4 o := hV.hv 4 rfl ⟨by omega, by show _ < (2 : Int); omega⟩
  intro y4 y5 y6 y7 σ H locs ls ry4 ry5 ry6 ry7 hl hW hS h
  unfold wp_Blocks_change_b149 at h
  refine lv_iload X.1 X.2.1 dX6_change_149 (lv_at hl 6 rfl) ?_
  refine w_if_eq (tgt := 173) X ry6.i dX6_change_151 (by decide) (fun hc => ?_) (fun hc => ?_)
  · have h := h.1 hc
    refine lv_aload_n X.1 X.2.1 dX6_change_173 rfl (lv_at hl 0 rfl) ?_
    refine lv_iload X.1 X.2.1 dX6_change_174 (lv_at hl 7 rfl) ?_
    refine wr_V (rV (As := [.int (oI y7)]) (rest := []) X hT hW hS (met_Blocks_lose l (w := w) hV o y7 _ σ (by omega) ry7 h) (cwV 1 X.2.2.2.2 (lw_V q704 q706 qs5 q137 q707) rfl rfl rfl (by decide +kernel) ⟨Nat.le_of_ble_eq_true rfl, Nat.le_of_ble_eq_true rfl⟩) vl4_o (by decide) rfl rfl hl.1 rfl (by first | exact Nat.le_of_ble_eq_true rfl | simp [catK, catI, catR, catL]) dX6_change_176 ⟨Nat.le_refl _, Nat.le_refl _⟩) hS (fun σ_68 H locs rkσ_68 h hWσ_68 hS => ?_)
    have h := h rkσ_68
    exact wk_Blocks_change_b179 X hr hlk hT hV ho rx1 rx2 rx3 K59 hK59 y4 y5 y6 σ_68 _ _ _ ry4 ry5 ry6 (lv_sub hl [0, 1, 2, 3, 4, 5, 6] rfl) hWσ_68 hS h
  · have h := h.2 hc
    refine lv_aload_n X.1 X.2.1 dX6_change_154 rfl (lv_at hl 0 rfl) ?_
    refine wg (v := .ref (wad w 259 o)) X hT hW 4 3 259 vl4_o rfl rfl (by decide) rfl (by decide) in_X6 q274 rfl dX6_change_155 ?_
    refine lv_iload X.1 X.2.1 dX6_change_158 (lv_at hl 7 rfl) ?_
    refine lv_iload_n X.1 X.2.1 dX6_change_160 rfl (lv_at hl 1 rfl) ?_
    obtain ⟨bi, h⟩ := h
    refine w_iast (n := (wc w).1) X hT hW hS 259 vl259_o (by decide) rfl rfl bi rx1 dX6_change_161 (fun H locs hN hS => ?_)
    obtain ⟨σ_69, eσ_69⟩ : ∃ x, x = sA σ 259 o y7 x1 := ⟨_, rfl⟩
    have hWσ_69 : Wo w σ_69 H := eσ_69 ▸ hN
    have h := h σ_69 eσ_69
    clear hN
    refine lv_aload_n X.1 X.2.1 dX6_change_162 rfl (lv_at hl 0 rfl) ?_
    refine wg (v := .ref (wad w 258 o)) X hT hWσ_69 4 2 258 vl4_o rfl rfl (by decide) rfl (by decide) in_X6 q273 rfl dX6_change_163 ?_
    refine lv_iload_n X.1 X.2.1 dX6_change_166 rfl (lv_at hl 1 rfl) ?_
    refine lv_iload X.1 X.2.1 dX6_change_167 (lv_at hl 7 rfl) ?_
    obtain ⟨bi, h⟩ := h
    refine w_iast (n := ((wc w).1 - 6)) X hT hWσ_69 hS 258 vl258_o (by decide) rfl rfl bi ry7 dX6_change_169 (fun H locs hN hS => ?_)
    obtain ⟨σ_70, eσ_70⟩ : ∃ x, x = sA σ_69 258 o x1 y7 := ⟨_, rfl⟩
    have hWσ_70 : Wo w σ_70 H := eσ_70 ▸ hN
    have h := h σ_70 eσ_70
    clear hN
    refine lv_goto (tgt := 179) X.1 X.2.1 dX6_change_170 (by decide) ?_
    exact wk_Blocks_change_b179 X hr hlk hT hV ho rx1 rx2 rx3 K59 hK59 y4 y5 y6 σ_70 _ _ _ ry4 ry5 ry6 (lv_sub hl [0, 1, 2, 3, 4, 5, 6] rfl) hWσ_70 hS h
set_option maxHeartbeats 4000000 in
set_option maxRecDepth 100000 in
theorem wk_Blocks_change_L102B {p : Program} {l : Launch} {e : Env} {st : State} {m : MethodId} {args : Array Value} {below : List Frame} {meth : Method} {c : Code} {w : Wp} {o : Int} {x1 : Int} {x2 : Int} {x3 : Int} {Q : St → Prop} (X : CallFix p m c cX6_change 9 st args lw_all RX6) (hr : meth.sig.returnType = none) (hlk : meth.locks = false) (hT : Tb w st) (hV : Hvl w) (ho : 0 ≤ o ∧ o < 2) (rx1 : rI x1) (rx2 : rI x2) (rx3 : rI x3) (K59 : Int → Int → Int → St → Prop) (K102 : Int → Int → Int → Int → Int → St → Prop) (hK59 : ∀ (y4 y5 y6 : Int) (σ : St) (H : Heap) (locs : List Loc) (ls : Array Slot), rI y4 → rI y5 → rZ y6 → lv_has ls 9 [(0, .ref (wad w 4 o)), (1, .int (oI x1)), (2, .int (oI x2)), (3, .int (oI x3)), (4, .int (oI y4)), (5, .int (oI y5)), (6, .int (oI y6))] → Wo w σ H → va_S (wA w) st.heap H locs → K59 y4 y5 y6 σ → W p l e (headSpec (ws_ yX6_change cX6_change 9 none) rm_Blocks_change).room st m args below meth c H locs 0 0 (MQ below (QcV w Q) args st 0 0 (wA w)) (F0 m 59 ls [])) (hK102 : ∀ (y4 y5 y6 y7 y8 : Int) (σ : St) (H : Heap) (locs : List Loc) (ls : Array Slot), rI y4 → rI y5 → rZ y6 → rI y7 → rI y8 → lv_has ls 9 [(0, .ref (wad w 4 o)), (1, .int (oI x1)), (2, .int (oI x2)), (3, .int (oI x3)), (4, .int (oI y4)), (5, .int (oI y5)), (6, .int (oI y6)), (7, .int (oI y7)), (8, .int (oI y8))] → Wo w σ H → va_S (wA w) st.heap H locs → K102 y4 y5 y6 y7 y8 σ → W p l e (headSpec (ws_ yX6_change cX6_change 9 none) rm_Blocks_change).room st m args below meth c H locs 0 0 (MQ below (QcV w Q) args st 0 0 (wA w)) (F0 m 102 ls [])) : ∀ (y4 y5 y6 y7 y8 : Int) (σ : St) (H : Heap) (locs : List Loc) (ls : Array Slot), rI y4 → rI y5 → rZ y6 → rI y7 → rI y8 → lv_has ls 9 [(0, .ref (wad w 4 o)), (1, .int (oI x1)), (2, .int (oI x2)), (3, .int (oI x3)), (4, .int (oI y4)), (5, .int (oI y5)), (6, .int (oI y6)), (7, .int (oI y7)), (8, .int (oI y8))] → Wo w σ H → va_S (wA w) st.heap H locs → wp_Blocks_change_L102 (wc w) (wtv w) o x1 x2 x3 Q K59 K102 y4 y5 y6 y7 y8 σ → W p l e (headSpec (ws_ yX6_change cX6_change 9 none) rm_Blocks_change).room st m args below meth c H locs 0 0 (MQ below (QcV w Q) args st 0 0 (wA w)) (F0 m 102 ls []) := by
  have vl2_0 : vl w 2 0 := hV.hv 2 rfl ⟨by omega, by show _ < (1 : Int); omega⟩
  have vl263_o : vl w 263 o := hV.hv 263 rfl ⟨by omega, by show _ < (2 : Int); omega⟩
  have vl4_o : vl w 4 o := hV.hv 4 rfl ⟨by omega, by show _ < (2 : Int); omega⟩
  intro y4 y5 y6 y7 y8 σ H locs ls ry4 ry5 ry6 ry7 ry8 hl hW hS h
  unfold wp_Blocks_change_L102 at h
  refine lv_iload X.1 X.2.1 dX6_change_102 (lv_at hl 8 rfl) ?_
  refine lv_iload_n X.1 X.2.1 dX6_change_104 rfl (lv_at hl 2 rfl) ?_
  refine w_icmp_ge (tgt := 149) X ry8 rx2 dX6_change_105 (by decide) (fun hc => ?_) (fun hc => ?_)
  · have h := h.1 hc
    exact wk_Blocks_change_b149 X hr hlk hT hV ho rx1 rx2 rx3 K59 hK59 y4 y5 y6 y7 σ _ _ _ ry4 ry5 ry6 ry7 (lv_sub hl [0, 1, 2, 3, 4, 5, 6, 7] rfl) hW hS h
  · have h := h.2 hc
    refine lv_iload X.1 X.2.1 dX6_change_108 (lv_at hl 6 rfl) ?_
    refine w_if_eq (tgt := 149) X ry6.i dX6_change_110 (by decide) (fun hc => ?_) (fun hc => ?_)
    · have h := h.1 hc
      exact wk_Blocks_change_b149 X hr hlk hT hV ho rx1 rx2 rx3 K59 hK59 y4 y5 y6 y7 σ _ _ _ ry4 ry5 ry6 ry7 (lv_sub hl [0, 1, 2, 3, 4, 5, 6, 7] rfl) hW hS h
    · have h := h.2 hc
      refine lv_aload_n X.1 X.2.1 dX6_change_113 rfl (lv_at hl 0 rfl) ?_
      refine lv_iload_n X.1 X.2.1 dX6_change_114 rfl (lv_at hl 3 rfl) ?_
      refine lv_iconst (v := oI 5) X.1 X.2.1 dX6_change_115 rfl ?_
      refine lv_iload X.1 X.2.1 dX6_change_116 (lv_at hl 8 rfl) ?_
      refine w_imul X dX6_change_118 ?_
      refine w_iadd X dX6_change_119 ?_
      refine wr_V (rV (As := [.int (oI (w32 (x3 + (w32 (5 * y8)))))]) (rest := []) X hT hW hS (met_Blocks_rule l (w := w) hV o (w32 (x3 + (w32 (5 * y8)))) _ σ (by omega) (w32_r _) h) (cwV 1 X.2.2.2.2 (lw_V q1606 q1607 q1608 q137 q1609) rfl rfl rfl (by decide +kernel) ⟨Nat.le_of_ble_eq_true rfl, Nat.le_of_ble_eq_true rfl⟩) vl4_o (by decide) rfl rfl hl.1 rfl (by first | exact Nat.le_of_ble_eq_true rfl | simp [catK, catI, catR, catL]) dX6_change_120 ⟨Nat.le_refl _, Nat.le_refl _⟩) hS (fun σ_72 H locs rkσ_72 h hWσ_72 hS => ?_)
      have h := h rkσ_72
      refine lv_aload_n X.1 X.2.1 dX6_change_123 rfl (lv_at hl 0 rfl) ?_
      refine wg (v := .ref (wad w 2 0)) X hT hWσ_72 4 0 256 vl4_o rfl rfl (by decide) rfl (by decide) in_X6 q269 rfl dX6_change_124 ?_
      refine lv_iload X.1 X.2.1 dX6_change_127 (lv_at hl 7 rfl) ?_
      refine lv_iconst (v := oI 2) X.1 X.2.1 dX6_change_129 rfl ?_
      refine lv_iload X.1 X.2.1 dX6_change_130 (lv_at hl 8 rfl) ?_
      refine w_iadd X dX6_change_132 ?_
      refine lv_aload_n X.1 X.2.1 dX6_change_133 rfl (lv_at hl 0 rfl) ?_
      refine wg (v := .ref (wad w 263 o)) X hT hWσ_72 4 7 263 vl4_o rfl rfl (by decide) rfl (by decide) in_X6 q278 rfl dX6_change_134 ?_
      refine lv_iconst (v := oI 0) X.1 X.2.1 dX6_change_137 rfl ?_
      refine wr_Z (rV (As := [.int (oI y7), .int (oI (w32 (2 + y8))), .ref (wad w 263 o), .int (oI 0)]) (rest := []) X hT hWσ_72 hS (met_Flash_write l (w := w) hV y7 (w32 (2 + y8)) 263 o 0 _ σ_72 ry7 (w32_r _) vl263_o (by decide) rfl rZ_0.i h) (cwV 4 X.2.2.2.2 (lw_V q693 q694 q695 q134 q696) rfl rfl rfl (by decide +kernel) ⟨Nat.le_of_ble_eq_true rfl, Nat.le_of_ble_eq_true rfl⟩) vl2_0 (by decide) rfl rfl hl.1 rfl (by first | exact Nat.le_of_ble_eq_true rfl | simp [catK, catI, catR, catL]) dX6_change_138 ⟨Nat.le_refl _, Nat.le_refl _⟩) hS (fun r_73 σ_74 H locs rr_73 rkσ_74 h hWσ_74 hS => ?_)
      have h := h rr_73 rkσ_74
      refine lv_istore (i := 6) (lv' := [(6, .int (oI r_73)), (0, .ref (wad w 4 o)), (1, .int (oI x1)), (2, .int (oI x2)), (3, .int (oI x3)), (4, .int (oI y4)), (5, .int (oI y5)), (7, .int (oI y7)), (8, .int (oI y8))]) X.1 X.2.1 dX6_change_141 hl (by decide) (by first | rfl | simp [catK, catI, catR, catL]) (fun ls hl => ?_)
      obtain ⟨y8_75, ey8_75⟩ : ∃ y : Int, y = w32 (y8 + 1) := ⟨_, rfl⟩
      have h := h y8_75 ey8_75
      have ry8_75 : rI y8_75 := by rw [ey8_75]; exact w32_r _
      refine lv_iinc (v := oI y8_75) (lv' := [(8, .int (oI y8_75)), (6, .int (oI r_73)), (0, .ref (wad w 4 o)), (1, .int (oI x1)), (2, .int (oI x2)), (3, .int (oI x3)), (4, .int (oI y4)), (5, .int (oI y5)), (7, .int (oI y7))]) X.1 X.2.1 dX6_change_143 hl (k := 8) rfl (by rw [ey8_75]; exact oI_add _ _) (by decide) (by first | rfl | simp [catK, catI, catR, catL]) (fun ls hl => ?_)
      refine lv_goto (tgt := 102) X.1 X.2.1 dX6_change_146 (by decide) ?_
      exact hK102 y4 y5 r_73 y7 y8_75 σ_74 _ _ _ ry4 ry5 rr_73 ry7 ry8_75 (lv_sub hl [2, 3, 4, 5, 6, 7, 1, 8, 0] rfl) hWσ_74 hS h
theorem wk_Blocks_change_L102 {p : Program} {l : Launch} {e : Env} {st : State} {m : MethodId} {args : Array Value} {below : List Frame} {meth : Method} {c : Code} {w : Wp} {o : Int} {x1 : Int} {x2 : Int} {x3 : Int} {Q : St → Prop} (X : CallFix p m c cX6_change 9 st args lw_all RX6) (hr : meth.sig.returnType = none) (hlk : meth.locks = false) (hT : Tb w st) (hV : Hvl w) (ho : 0 ≤ o ∧ o < 2) (rx1 : rI x1) (rx2 : rI x2) (rx3 : rI x3) (K59 : Int → Int → Int → St → Prop) (hK59 : ∀ (y4 y5 y6 : Int) (σ : St) (H : Heap) (locs : List Loc) (ls : Array Slot), rI y4 → rI y5 → rZ y6 → lv_has ls 9 [(0, .ref (wad w 4 o)), (1, .int (oI x1)), (2, .int (oI x2)), (3, .int (oI x3)), (4, .int (oI y4)), (5, .int (oI y5)), (6, .int (oI y6))] → Wo w σ H → va_S (wA w) st.heap H locs → K59 y4 y5 y6 σ → W p l e (headSpec (ws_ yX6_change cX6_change 9 none) rm_Blocks_change).room st m args below meth c H locs 0 0 (MQ below (QcV w Q) args st 0 0 (wA w)) (F0 m 59 ls [])) : ∀ (y4 y5 y6 y7 y8 : Int) (σ : St) (H : Heap) (locs : List Loc) (ls : Array Slot), rI y4 → rI y5 → rZ y6 → rI y7 → rI y8 → lv_has ls 9 [(0, .ref (wad w 4 o)), (1, .int (oI x1)), (2, .int (oI x2)), (3, .int (oI x3)), (4, .int (oI y4)), (5, .int (oI y5)), (6, .int (oI y6)), (7, .int (oI y7)), (8, .int (oI y8))] → Wo w σ H → va_S (wA w) st.heap H locs → lQ5 (wp_Blocks_change_L102 (wc w) (wtv w) o x1 x2 x3 Q K59) y4 y5 y6 y7 y8 σ → W p l e (headSpec (ws_ yX6_change cX6_change 9 none) rm_Blocks_change).room st m args below meth c H locs 0 0 (MQ below (QcV w Q) args st 0 0 (wA w)) (F0 m 102 ls []) := by
  intro y4 y5 y6 y7 y8 σ H locs ls ry4 ry5 ry6 ry7 ry8 hl hW hS h
  obtain ⟨fu, h⟩ := h
  induction fu generalizing y4 y5 y6 y7 y8 σ H locs ls with
  | zero => exact h.elim
  | succ fu ih =>
    exact wk_Blocks_change_L102B X hr hlk hT hV ho rx1 rx2 rx3 K59 (lq5 (wp_Blocks_change_L102 (wc w) (wtv w) o x1 x2 x3 Q K59) fu) hK59 (fun y4 y5 y6 y7 y8 σ H locs ls ry4 ry5 ry6 ry7 ry8 hl hW hS h => ih y4 y5 y6 y7 y8 σ H locs ls ry4 ry5 ry6 ry7 ry8 hl hW hS h) y4 y5 y6 y7 y8 σ H locs ls ry4 ry5 ry6 ry7 ry8 hl hW hS h
set_option maxHeartbeats 4000000 in
set_option maxRecDepth 100000 in
theorem wk_Blocks_change_L59B {p : Program} {l : Launch} {e : Env} {st : State} {m : MethodId} {args : Array Value} {below : List Frame} {meth : Method} {c : Code} {w : Wp} {o : Int} {x1 : Int} {x2 : Int} {x3 : Int} {Q : St → Prop} (X : CallFix p m c cX6_change 9 st args lw_all RX6) (hr : meth.sig.returnType = none) (hlk : meth.locks = false) (hT : Tb w st) (hV : Hvl w) (ho : 0 ≤ o ∧ o < 2) (rx1 : rI x1) (rx2 : rI x2) (rx3 : rI x3) (K59 : Int → Int → Int → St → Prop) (hK59 : ∀ (y4 y5 y6 : Int) (σ : St) (H : Heap) (locs : List Loc) (ls : Array Slot), rI y4 → rI y5 → rZ y6 → lv_has ls 9 [(0, .ref (wad w 4 o)), (1, .int (oI x1)), (2, .int (oI x2)), (3, .int (oI x3)), (4, .int (oI y4)), (5, .int (oI y5)), (6, .int (oI y6))] → Wo w σ H → va_S (wA w) st.heap H locs → K59 y4 y5 y6 σ → W p l e (headSpec (ws_ yX6_change cX6_change 9 none) rm_Blocks_change).room st m args below meth c H locs 0 0 (MQ below (QcV w Q) args st 0 0 (wA w)) (F0 m 59 ls [])) : ∀ (y4 y5 y6 : Int) (σ : St) (H : Heap) (locs : List Loc) (ls : Array Slot), rI y4 → rI y5 → rZ y6 → lv_has ls 9 [(0, .ref (wad w 4 o)), (1, .int (oI x1)), (2, .int (oI x2)), (3, .int (oI x3)), (4, .int (oI y4)), (5, .int (oI y5)), (6, .int (oI y6))] → Wo w σ H → va_S (wA w) st.heap H locs → wp_Blocks_change_L59 (wc w) (wtv w) o x1 x2 x3 Q K59 y4 y5 y6 σ → W p l e (headSpec (ws_ yX6_change cX6_change 9 none) rm_Blocks_change).room st m args below meth c H locs 0 0 (MQ below (QcV w Q) args st 0 0 (wA w)) (F0 m 59 ls []) := by
  have vl259_o : vl w 259 o := hV.hv 259 rfl ⟨by omega, by show _ < (2 : Int); omega⟩
  have vl4_o : vl w 4 o := hV.hv 4 rfl ⟨by omega, by show _ < (2 : Int); omega⟩
  intro y4 y5 y6 σ H locs ls ry4 ry5 ry6 hl hW hS h
  unfold wp_Blocks_change_L59 at h
  refine lv_iload X.1 X.2.1 dX6_change_59 (lv_at hl 6 rfl) ?_
  refine w_if_ne (tgt := 182) X ry6.i dX6_change_61 (by decide) (fun hc => ?_) (fun hc => ?_)
  · have h := h.1 hc
    refine lv_iload X.1 X.2.1 dX6_change_182 (lv_at hl 5 rfl) ?_
    refine lv_iconst (v := oI (-1)) X.1 X.2.1 dX6_change_184 rfl ?_
    refine w_icmp_eq (tgt := 197) X ry5 ((rB_lit (-1) (by decide)).i) dX6_change_185 (by decide) (fun hc => ?_) (fun hc => ?_)
    · have h := h.1 hc
      exact wret_V X hr hlk hW hS h dX6_change_197
    · have h := h.2 hc
      refine lv_aload_n X.1 X.2.1 dX6_change_188 rfl (lv_at hl 0 rfl) ?_
      refine wg (v := .ref (wad w 259 o)) X hT hW 4 3 259 vl4_o rfl rfl (by decide) rfl (by decide) in_X6 q274 rfl dX6_change_189 ?_
      refine lv_iload X.1 X.2.1 dX6_change_192 (lv_at hl 5 rfl) ?_
      refine lv_bipush (v := oI (-2)) X.1 X.2.1 dX6_change_194 (by decide) ?_
      obtain ⟨bi, h⟩ := h
      refine w_iast (n := (wc w).1) X hT hW hS 259 vl259_o (by decide) rfl rfl bi ((rB_lit (-2) (by decide)).i) dX6_change_196 (fun H locs hN hS => ?_)
      obtain ⟨σ_76, eσ_76⟩ : ∃ x, x = sA σ 259 o y5 (-2) := ⟨_, rfl⟩
      have hWσ_76 : Wo w σ_76 H := eσ_76 ▸ hN
      have h := h σ_76 eσ_76
      clear hN
      exact wret_V X hr hlk hWσ_76 hS h dX6_change_197
  · have h := h.2 hc
    refine lv_aload_n X.1 X.2.1 dX6_change_64 rfl (lv_at hl 0 rfl) ?_
    refine wr_I (rV (As := []) (rest := []) X hT hW hS (met_Blocks_fetch l (w := w) hV o _ σ (by omega) h) (cwV 0 X.2.2.2.2 (lw_V q868 q870 qs11 q137 q871) rfl rfl rfl (by decide +kernel) ⟨Nat.le_of_ble_eq_true rfl, Nat.le_of_ble_eq_true rfl⟩) vl4_o (by decide) rfl rfl hl.1 rfl (by first | exact Nat.le_of_ble_eq_true rfl | simp [catK, catI, catR, catL]) dX6_change_65 ⟨Nat.le_refl _, Nat.le_refl _⟩) hS (fun r_77 σ_78 H locs rr_77 rkσ_78 h hWσ_78 hS => ?_)
    have h := h rr_77 rkσ_78
    refine lv_istore (i := 7) (lv' := [(7, .int (oI r_77)), (0, .ref (wad w 4 o)), (1, .int (oI x1)), (2, .int (oI x2)), (3, .int (oI x3)), (4, .int (oI y4)), (5, .int (oI y5)), (6, .int (oI y6))]) X.1 X.2.1 dX6_change_68 hl (by decide) (by first | rfl | simp [catK, catI, catR, catL]) (fun ls hl => ?_)
    refine lv_iload X.1 X.2.1 dX6_change_70 (lv_at hl 0 rfl) ?_
    refine lv_iconst (v := oI (-1)) X.1 X.2.1 dX6_change_72 rfl ?_
    refine w_icmp_ne (tgt := 86) X rr_77 ((rB_lit (-1) (by decide)).i) dX6_change_73 (by decide) (fun hc => ?_) (fun hc => ?_)
    · have h := h.1 hc
      refine lv_aload_n X.1 X.2.1 dX6_change_86 rfl (lv_at hl 1 rfl) ?_
      refine lv_iload X.1 X.2.1 dX6_change_87 (lv_at hl 0 rfl) ?_
      refine lv_iload_n X.1 X.2.1 dX6_change_89 rfl (lv_at hl 2 rfl) ?_
      refine lv_iconst (v := oI 1) X.1 X.2.1 dX6_change_90 rfl ?_
      refine lv_iload_n X.1 X.2.1 dX6_change_91 rfl (lv_at hl 3 rfl) ?_
      refine lv_iload X.1 X.2.1 dX6_change_92 (lv_at hl 5 rfl) ?_
      refine wr_Z (rV (As := [.int (oI r_77), .int (oI x1), .int (oI 1), .int (oI x2), .int (oI y4)]) (rest := []) X hT hWσ_78 hS (met_Blocks_writeHead l (w := w) hV o r_77 x1 1 x2 y4 _ σ_78 (by omega) rr_77 rx1 rZ_1 rx2 ry4 h) (cwV 5 X.2.2.2.2 (lw_V q883 q885 qs13 q137 q886) rfl rfl rfl (by decide +kernel) ⟨Nat.le_of_ble_eq_true rfl, Nat.le_of_ble_eq_true rfl⟩) vl4_o (by decide) rfl rfl hl.1 rfl (by first | exact Nat.le_of_ble_eq_true rfl | simp [catK, catI, catR, catL]) dX6_change_94 ⟨Nat.le_refl _, Nat.le_refl _⟩) hS (fun r_79 σ_80 H locs rr_79 rkσ_80 h hWσ_80 hS => ?_)
      have h := h rr_79 rkσ_80
      refine lv_istore (i := 6) (lv' := [(6, .int (oI r_79)), (7, .int (oI r_77)), (0, .ref (wad w 4 o)), (1, .int (oI x1)), (2, .int (oI x2)), (3, .int (oI x3)), (4, .int (oI y4)), (5, .int (oI y5))]) X.1 X.2.1 dX6_change_97 hl (by decide) (by first | rfl | simp [catK, catI, catR, catL]) (fun ls hl => ?_)
      refine lv_iconst (v := oI 0) X.1 X.2.1 dX6_change_99 rfl ?_
      refine lv_istore (i := 8) (lv' := [(8, .int (oI 0)), (6, .int (oI r_79)), (7, .int (oI r_77)), (0, .ref (wad w 4 o)), (1, .int (oI x1)), (2, .int (oI x2)), (3, .int (oI x3)), (4, .int (oI y4)), (5, .int (oI y5))]) X.1 X.2.1 dX6_change_100 hl (by decide) (by first | rfl | simp [catK, catI, catR, catL]) (fun ls hl => ?_)
      exact wk_Blocks_change_L102 X hr hlk hT hV ho rx1 rx2 rx3 K59 hK59 y4 y5 r_79 r_77 0 σ_80 _ _ _ ry4 ry5 rr_79 rr_77 rZ_0.i (lv_sub hl [3, 4, 5, 6, 7, 8, 1, 2, 0] rfl) hWσ_80 hS h
    · have h := h.2 hc
      exact h.elim
theorem wk_Blocks_change_L59 {p : Program} {l : Launch} {e : Env} {st : State} {m : MethodId} {args : Array Value} {below : List Frame} {meth : Method} {c : Code} {w : Wp} {o : Int} {x1 : Int} {x2 : Int} {x3 : Int} {Q : St → Prop} (X : CallFix p m c cX6_change 9 st args lw_all RX6) (hr : meth.sig.returnType = none) (hlk : meth.locks = false) (hT : Tb w st) (hV : Hvl w) (ho : 0 ≤ o ∧ o < 2) (rx1 : rI x1) (rx2 : rI x2) (rx3 : rI x3) : ∀ (y4 y5 y6 : Int) (σ : St) (H : Heap) (locs : List Loc) (ls : Array Slot), rI y4 → rI y5 → rZ y6 → lv_has ls 9 [(0, .ref (wad w 4 o)), (1, .int (oI x1)), (2, .int (oI x2)), (3, .int (oI x3)), (4, .int (oI y4)), (5, .int (oI y5)), (6, .int (oI y6))] → Wo w σ H → va_S (wA w) st.heap H locs → lQ3 (wp_Blocks_change_L59 (wc w) (wtv w) o x1 x2 x3 Q) y4 y5 y6 σ → W p l e (headSpec (ws_ yX6_change cX6_change 9 none) rm_Blocks_change).room st m args below meth c H locs 0 0 (MQ below (QcV w Q) args st 0 0 (wA w)) (F0 m 59 ls []) := by
  intro y4 y5 y6 σ H locs ls ry4 ry5 ry6 hl hW hS h
  obtain ⟨fu, h⟩ := h
  induction fu generalizing y4 y5 y6 σ H locs ls with
  | zero => exact h.elim
  | succ fu ih =>
    exact wk_Blocks_change_L59B X hr hlk hT hV ho rx1 rx2 rx3 (lq3 (wp_Blocks_change_L59 (wc w) (wtv w) o x1 x2 x3 Q) fu) (fun y4 y5 y6 σ H locs ls ry4 ry5 ry6 hl hW hS h => ih y4 y5 y6 σ H locs ls ry4 ry5 ry6 hl hW hS h) y4 y5 y6 σ H locs ls ry4 ry5 ry6 hl hW hS h
set_option maxHeartbeats 4000000 in
set_option maxRecDepth 100000 in
theorem wk_Blocks_change_L11B {p : Program} {l : Launch} {e : Env} {st : State} {m : MethodId} {args : Array Value} {below : List Frame} {meth : Method} {c : Code} {w : Wp} {o : Int} {x1 : Int} {x2 : Int} {x3 : Int} {Q : St → Prop} (X : CallFix p m c cX6_change 9 st args lw_all RX6) (hr : meth.sig.returnType = none) (hlk : meth.locks = false) (hT : Tb w st) (hV : Hvl w) (ho : 0 ≤ o ∧ o < 2) (rx1 : rI x1) (rx2 : rI x2) (rx3 : rI x3) (K11 : Int → Int → St → Prop) (hK11 : ∀ (y4 y5 : Int) (σ : St) (H : Heap) (locs : List Loc) (ls : Array Slot), rI y4 → rI y5 → lv_has ls 9 [(0, .ref (wad w 4 o)), (1, .int (oI x1)), (2, .int (oI x2)), (3, .int (oI x3)), (4, .int (oI y4)), (5, .int (oI y5))] → Wo w σ H → va_S (wA w) st.heap H locs → K11 y4 y5 σ → W p l e (headSpec (ws_ yX6_change cX6_change 9 none) rm_Blocks_change).room st m args below meth c H locs 0 0 (MQ below (QcV w Q) args st 0 0 (wA w)) (F0 m 11 ls [])) : ∀ (y4 y5 : Int) (σ : St) (H : Heap) (locs : List Loc) (ls : Array Slot), rI y4 → rI y5 → lv_has ls 9 [(0, .ref (wad w 4 o)), (1, .int (oI x1)), (2, .int (oI x2)), (3, .int (oI x3)), (4, .int (oI y4)), (5, .int (oI y5))] → Wo w σ H → va_S (wA w) st.heap H locs → wp_Blocks_change_L11 (wc w) (wtv w) o x1 x2 x3 Q K11 y4 y5 σ → W p l e (headSpec (ws_ yX6_change cX6_change 9 none) rm_Blocks_change).room st m args below meth c H locs 0 0 (MQ below (QcV w Q) args st 0 0 (wA w)) (F0 m 11 ls []) := by
  have vl258_o : vl w 258 o := hV.hv 258 rfl ⟨by omega, by show _ < (2 : Int); omega⟩
  have vl263_o : vl w 263 o := hV.hv 263 rfl ⟨by omega, by show _ < (2 : Int); omega⟩
  have vl4_o : vl w 4 o := hV.hv 4 rfl ⟨by omega, by show _ < (2 : Int); omega⟩
  intro y4 y5 σ H locs ls ry4 ry5 hl hW hS h
  unfold wp_Blocks_change_L11 at h
  refine lv_iload X.1 X.2.1 dX6_change_11 (lv_at hl 5 rfl) ?_
  refine lv_iload_n X.1 X.2.1 dX6_change_13 rfl (lv_at hl 2 rfl) ?_
  refine w_icmp_ge (tgt := 48) X ry5 rx2 dX6_change_14 (by decide) (fun hc => ?_) (fun hc => ?_)
  · have h := h.1 hc
    refine lv_aload_n X.1 X.2.1 dX6_change_48 rfl (lv_at hl 0 rfl) ?_
    refine wg (v := .ref (wad w 258 o)) X hT hW 4 2 258 vl4_o rfl rfl (by decide) rfl (by decide) in_X6 q273 rfl dX6_change_49 ?_
    refine lv_iload_n X.1 X.2.1 dX6_change_52 rfl (lv_at hl 1 rfl) ?_
    obtain ⟨bi, h⟩ := h
    refine w_iald (n := ((wc w).1 - 6)) X hT hW 258 vl258_o (by decide) rfl rfl bi dX6_change_53 ?_
    refine w_top (fun y5_81 ey5_81 => ?_)
    have h := h y5_81 ey5_81
    have ry5_81 : rI y5_81 := by rw [ey5_81]; exact (hW.r.ai 258 o x1 rfl)
    refine lv_istore (i := 5) (lv' := [(5, .int (oI y5_81)), (0, .ref (wad w 4 o)), (1, .int (oI x1)), (2, .int (oI x2)), (3, .int (oI x3)), (4, .int (oI y4))]) X.1 X.2.1 dX6_change_54 hl (by decide) (by first | rfl | simp [catK, catI, catR, catL]) (fun ls hl => ?_)
    refine lv_iconst (v := oI 0) X.1 X.2.1 dX6_change_56 rfl ?_
    refine lv_istore (i := 6) (lv' := [(6, .int (oI 0)), (5, .int (oI y5_81)), (0, .ref (wad w 4 o)), (1, .int (oI x1)), (2, .int (oI x2)), (3, .int (oI x3)), (4, .int (oI y4))]) X.1 X.2.1 dX6_change_57 hl (by decide) (by first | rfl | simp [catK, catI, catR, catL]) (fun ls hl => ?_)
    exact wk_Blocks_change_L59 X hr hlk hT hV ho rx1 rx2 rx3 y4 y5_81 0 σ _ _ _ ry4 ry5_81 rZ_0 (lv_sub hl [2, 3, 4, 5, 6, 1, 0] rfl) hW hS h
  · have h := h.2 hc
    refine lv_aload_n X.1 X.2.1 dX6_change_17 rfl (lv_at hl 0 rfl) ?_
    refine lv_iload_n X.1 X.2.1 dX6_change_18 rfl (lv_at hl 3 rfl) ?_
    refine lv_iconst (v := oI 5) X.1 X.2.1 dX6_change_19 rfl ?_
    refine lv_iload X.1 X.2.1 dX6_change_20 (lv_at hl 5 rfl) ?_
    refine w_imul X dX6_change_22 ?_
    refine w_iadd X dX6_change_23 ?_
    refine wr_V (rV (As := [.int (oI (w32 (x3 + (w32 (5 * y5)))))]) (rest := []) X hT hW hS (met_Blocks_rule l (w := w) hV o (w32 (x3 + (w32 (5 * y5)))) _ σ (by omega) (w32_r _) h) (cwV 1 X.2.2.2.2 (lw_V q1606 q1607 q1608 q137 q1609) rfl rfl rfl (by decide +kernel) ⟨Nat.le_of_ble_eq_true rfl, Nat.le_of_ble_eq_true rfl⟩) vl4_o (by decide) rfl rfl hl.1 rfl (by first | exact Nat.le_of_ble_eq_true rfl | simp [catK, catI, catR, catL]) dX6_change_24 ⟨Nat.le_refl _, Nat.le_refl _⟩) hS (fun σ_83 H locs rkσ_83 h hWσ_83 hS => ?_)
    have h := h rkσ_83
    refine lv_iload X.1 X.2.1 dX6_change_27 (lv_at hl 4 rfl) ?_
    refine lv_aload_n X.1 X.2.1 dX6_change_29 rfl (lv_at hl 0 rfl) ?_
    refine wg (v := .ref (wad w 263 o)) X hT hWσ_83 4 7 263 vl4_o rfl rfl (by decide) rfl (by decide) in_X6 q278 rfl dX6_change_30 ?_
    refine lv_iconst (v := oI 0) X.1 X.2.1 dX6_change_33 rfl ?_
    refine lv_sipush (v := oI 128) X.1 X.2.1 dX6_change_34 (by decide) ?_
    refine wr_I (rSN (As := [.int (oI y4), .ref (wad w 263 o), .int (oI 0), .int (oI 128)]) (rest := []) X hT hWσ_83 hS (met_House_check l (w := w) y4 263 o 0 128 _ σ_83 ry4 vl263_o (by decide) rfl rZ_0.i (rI_lit 128 (by decide)) h) ⟨va_cnB 4 X.2.2.2.2 (lw_meth q690) rfl rfl rfl (hT.2.1 _ (List.mem_of_getElem? (i := 7) rfl)) (X.2.2.2.2 _ q131) (by decide +kernel) ⟨Nat.le_of_ble_eq_true rfl, Nat.le_of_ble_eq_true rfl⟩, X.2.2.2.2 _ q689, trivial⟩ rfl hl.1 rfl (by first | exact Nat.le_of_ble_eq_true rfl | simp [catK, catI, catR, catL]) dX6_change_37 ⟨Nat.le_refl _, Nat.le_refl _⟩) hS (fun r_84 σ_85 H locs rr_84 rkσ_85 h hWσ_85 hS => ?_)
    have h := h rr_84 rkσ_85
    refine lv_istore (i := 4) (lv' := [(4, .int (oI r_84)), (0, .ref (wad w 4 o)), (1, .int (oI x1)), (2, .int (oI x2)), (3, .int (oI x3)), (5, .int (oI y5))]) X.1 X.2.1 dX6_change_40 hl (by decide) (by first | rfl | simp [catK, catI, catR, catL]) (fun ls hl => ?_)
    obtain ⟨y5_86, ey5_86⟩ : ∃ y : Int, y = w32 (y5 + 1) := ⟨_, rfl⟩
    have h := h y5_86 ey5_86
    have ry5_86 : rI y5_86 := by rw [ey5_86]; exact w32_r _
    refine lv_iinc (v := oI y5_86) (lv' := [(5, .int (oI y5_86)), (4, .int (oI r_84)), (0, .ref (wad w 4 o)), (1, .int (oI x1)), (2, .int (oI x2)), (3, .int (oI x3))]) X.1 X.2.1 dX6_change_42 hl (k := 5) rfl (by rw [ey5_86]; exact oI_add _ _) (by decide) (by first | rfl | simp [catK, catI, catR, catL]) (fun ls hl => ?_)
    refine lv_goto (tgt := 11) X.1 X.2.1 dX6_change_45 (by decide) ?_
    exact hK11 r_84 y5_86 σ_85 _ _ _ rr_84 ry5_86 (lv_sub hl [2, 3, 4, 5, 1, 0] rfl) hWσ_85 hS h
theorem wk_Blocks_change_L11 {p : Program} {l : Launch} {e : Env} {st : State} {m : MethodId} {args : Array Value} {below : List Frame} {meth : Method} {c : Code} {w : Wp} {o : Int} {x1 : Int} {x2 : Int} {x3 : Int} {Q : St → Prop} (X : CallFix p m c cX6_change 9 st args lw_all RX6) (hr : meth.sig.returnType = none) (hlk : meth.locks = false) (hT : Tb w st) (hV : Hvl w) (ho : 0 ≤ o ∧ o < 2) (rx1 : rI x1) (rx2 : rI x2) (rx3 : rI x3) : ∀ (y4 y5 : Int) (σ : St) (H : Heap) (locs : List Loc) (ls : Array Slot), rI y4 → rI y5 → lv_has ls 9 [(0, .ref (wad w 4 o)), (1, .int (oI x1)), (2, .int (oI x2)), (3, .int (oI x3)), (4, .int (oI y4)), (5, .int (oI y5))] → Wo w σ H → va_S (wA w) st.heap H locs → lQ2 (wp_Blocks_change_L11 (wc w) (wtv w) o x1 x2 x3 Q) y4 y5 σ → W p l e (headSpec (ws_ yX6_change cX6_change 9 none) rm_Blocks_change).room st m args below meth c H locs 0 0 (MQ below (QcV w Q) args st 0 0 (wA w)) (F0 m 11 ls []) := by
  intro y4 y5 σ H locs ls ry4 ry5 hl hW hS h
  obtain ⟨fu, h⟩ := h
  induction fu generalizing y4 y5 σ H locs ls with
  | zero => exact h.elim
  | succ fu ih =>
    exact wk_Blocks_change_L11B X hr hlk hT hV ho rx1 rx2 rx3 (lq2 (wp_Blocks_change_L11 (wc w) (wtv w) o x1 x2 x3 Q) fu) (fun y4 y5 σ H locs ls ry4 ry5 hl hW hS h => ih y4 y5 σ H locs ls ry4 ry5 hl hW hS h) y4 y5 σ H locs ls ry4 ry5 hl hW hS h
set_option maxHeartbeats 4000000 in
set_option maxRecDepth 100000 in
theorem met_Blocks_change (l : Launch) {w : Wp} (hV : Hvl w) (o : Int) (x1 : Int) (x2 : Int) (x3 : Int) (Q : St → Prop) (σ : St) (ho : 0 ≤ o ∧ o < 2) (rx1 : rI x1) (rx2 : rI x2) (rx3 : rI x3) (h : wp_Blocks_change (wc w) (wtv w) o x1 x2 x3 Q σ) : Met l yX6_change (ws_ yX6_change cX6_change 9 none) rm_Blocks_change (PcW w σ [.ref (wad w 4 o), .int (oI x1), .int (oI x2), .int (oI x3)]) (QcV w Q) 0 0 (wA w) := by
  refine Met.ofW (cc := cX6_change) (maxL := 9) (ret := none) (by decide) rfl ?_
  intro p e st m args below meth c s₁ B hml hv
  obtain ⟨hargs, hW, hT⟩ := hv
  have X : CallFix p m c cX6_change 9 st _ lw_all RX6 := ⟨B.exec, B.bytes, hml, findClass_of_methodNamed B.named, fun w h => atoms_spec (ws := ws_ yX6_change cX6_change 9 none) B.pre w (List.mem_cons_of_mem _ h)⟩
  have hr := B.returns
  have hlk := B.notSynchronized
  have hS : va_S (wA w) st.heap st.heap [] := va_S.rf
  have vl4_o : vl w 4 o := hV.hv 4 rfl ⟨by omega, by show _ < (2 : Int); omega⟩
  have hl := lv_entry ([.ref (wad w 4 o), .int (oI x1), .int (oI x2), .int (oI x3)]) (n := 9) (Nat.le_of_ble_eq_true rfl)
  have hfr := lg_entry_eq m ([.ref (wad w 4 o), .int (oI x1), .int (oI x2), .int (oI x3)]) 9
  rw [← hargs] at hfr
  rw [hfr]
  generalize (lg_sl ([.ref (wad w 4 o), .int (oI x1), .int (oI x2), .int (oI x3)]) ++ List.replicate (9 - (lg_sl ([.ref (wad w 4 o), .int (oI x1), .int (oI x2), .int (oI x3)])).length) Slot.unset).toArray = ls at hl ⊢
  have hl : lv_has ls 9 [(0, .ref (wad w 4 o)), (1, .int (oI x1)), (2, .int (oI x2)), (3, .int (oI x3))] := hl
  unfold wp_Blocks_change at h
  refine lv_aload_n X.1 X.2.1 dX6_change_0 rfl (lv_at hl 0 rfl) ?_
  refine lv_iload_n X.1 X.2.1 dX6_change_1 rfl (lv_at hl 1 rfl) ?_
  refine wr_V (rV (As := [.int (oI x1)]) (rest := []) X hT hW hS (met_Blocks_stopMove l (w := w) hV o x1 _ σ (by omega) rx1 h) (cwV 1 X.2.2.2.2 (lw_V q779 q781 qs7 q137 q782) rfl rfl rfl (by decide +kernel) ⟨Nat.le_of_ble_eq_true rfl, Nat.le_of_ble_eq_true rfl⟩) vl4_o (by decide) rfl rfl hl.1 rfl (by first | exact Nat.le_of_ble_eq_true rfl | simp [catK, catI, catR, catL]) dX6_change_2 ⟨Nat.le_refl _, Nat.le_refl _⟩) hS (fun σ_88 H locs rkσ_88 h hWσ_88 hS => ?_)
  have h := h rkσ_88
  refine lv_iconst (v := oI (-1)) X.1 X.2.1 dX6_change_5 rfl ?_
  refine lv_istore (i := 4) (lv' := [(4, .int (oI (-1))), (0, .ref (wad w 4 o)), (1, .int (oI x1)), (2, .int (oI x2)), (3, .int (oI x3))]) X.1 X.2.1 dX6_change_6 hl (by decide) (by first | rfl | simp [catK, catI, catR, catL]) (fun ls hl => ?_)
  refine lv_iconst (v := oI 0) X.1 X.2.1 dX6_change_8 rfl ?_
  refine lv_istore (i := 5) (lv' := [(5, .int (oI 0)), (4, .int (oI (-1))), (0, .ref (wad w 4 o)), (1, .int (oI x1)), (2, .int (oI x2)), (3, .int (oI x3))]) X.1 X.2.1 dX6_change_9 hl (by decide) (by first | rfl | simp [catK, catI, catR, catL]) (fun ls hl => ?_)
  exact wk_Blocks_change_L11 X hr hlk hT hV ho rx1 rx2 rx3 (-1) 0 σ_88 _ _ _ ((rB_lit (-1) (by decide)).i) rZ_0.i (lv_sub hl [2, 3, 4, 5, 1, 0] rfl) hWσ_88 hS h
/-! Blocks.readErased(I)I -/
set_option maxHeartbeats 4000000 in
set_option maxRecDepth 100000 in
theorem met_Blocks_readErased (l : Launch) {w : Wp} (hV : Hvl w) (o : Int) (x1 : Int) (Q : Int → St → Prop) (σ : St) (ho : 0 ≤ o ∧ o < 2) (rx1 : rI x1) (h : wp_Blocks_readErased (wc w) (wtv w) o x1 Q σ) : Met l yX6_readErased (ws_ yX6_readErased cX6_readErased 2 (some .int)) rm_Blocks_readErased (PcW w σ [.ref (wad w 4 o), .int (oI x1)]) (QcI w Q) 0 0 (wA w) := by
  refine Met.ofW (cc := cX6_readErased) (maxL := 2) (ret := (some .int)) (by decide) rfl ?_
  intro p e st m args below meth c s₁ B hml hv
  obtain ⟨hargs, hW, hT⟩ := hv
  have X : CallFix p m c cX6_readErased 2 st _ lw_all RX6 := ⟨B.exec, B.bytes, hml, findClass_of_methodNamed B.named, fun w h => atoms_spec (ws := ws_ yX6_readErased cX6_readErased 2 (some .int)) B.pre w (List.mem_cons_of_mem _ h)⟩
  have hr := B.returns
  have hlk := B.notSynchronized
  have hS : va_S (wA w) st.heap st.heap [] := va_S.rf
  have vl2_0 : vl w 2 0 := hV.hv 2 rfl ⟨by omega, by show _ < (1 : Int); omega⟩
  have vl262_o : vl w 262 o := hV.hv 262 rfl ⟨by omega, by show _ < (2 : Int); omega⟩
  have vl4_o : vl w 4 o := hV.hv 4 rfl ⟨by omega, by show _ < (2 : Int); omega⟩
  have hl := lv_entry ([.ref (wad w 4 o), .int (oI x1)]) (n := 2) (Nat.le_of_ble_eq_true rfl)
  have hfr := lg_entry_eq m ([.ref (wad w 4 o), .int (oI x1)]) 2
  rw [← hargs] at hfr
  rw [hfr]
  generalize (lg_sl ([.ref (wad w 4 o), .int (oI x1)]) ++ List.replicate (2 - (lg_sl ([.ref (wad w 4 o), .int (oI x1)])).length) Slot.unset).toArray = ls at hl ⊢
  have hl : lv_has ls 2 [(0, .ref (wad w 4 o)), (1, .int (oI x1))] := hl
  unfold wp_Blocks_readErased at h
  refine lv_aload_n X.1 X.2.1 dX6_readErased_0 rfl (lv_at hl 0 rfl) ?_
  refine wg (v := .ref (wad w 2 0)) X hT hW 4 0 256 vl4_o rfl rfl (by decide) rfl (by decide) in_X6 q269 rfl dX6_readErased_1 ?_
  refine lv_iload_n X.1 X.2.1 dX6_readErased_4 rfl (lv_at hl 1 rfl) ?_
  refine wr_I (rV (As := [.int (oI x1)]) (rest := []) X hT hW hS (met_Flash_written l (w := w) hV x1 _ σ rx1 h) (cwV 1 X.2.2.2.2 (lw_V q1021 q1022 q1023 q134 q1024) rfl rfl rfl (by decide +kernel) ⟨Nat.le_of_ble_eq_true rfl, Nat.le_of_ble_eq_true rfl⟩) vl2_0 (by decide) rfl rfl hl.1 rfl (by first | exact Nat.le_of_ble_eq_true rfl | simp [catK, catI, catR, catL]) dX6_readErased_5 ⟨Nat.le_refl _, Nat.le_refl _⟩) hS (fun r_13 σ_14 H locs rr_13 rkσ_14 h hWσ_14 hS => ?_)
  have h := h rr_13 rkσ_14
  refine lv_iconst (v := oI 1) X.1 X.2.1 dX6_readErased_8 rfl ?_
  refine w_icmp_ge (tgt := 14) X rr_13 rZ_1.i dX6_readErased_9 (by decide) (fun hc => ?_) (fun hc => ?_)
  · have h := h.1 hc
    refine lv_aload_n X.1 X.2.1 dX6_readErased_14 rfl (lv_at hl 0 rfl) ?_
    refine wg (v := .ref (wad w 2 0)) X hT hWσ_14 4 0 256 vl4_o rfl rfl (by decide) rfl (by decide) in_X6 q269 rfl dX6_readErased_15 ?_
    refine lv_iload_n X.1 X.2.1 dX6_readErased_18 rfl (lv_at hl 1 rfl) ?_
    refine lv_iconst (v := oI 0) X.1 X.2.1 dX6_readErased_19 rfl ?_
    refine lv_aload_n X.1 X.2.1 dX6_readErased_20 rfl (lv_at hl 0 rfl) ?_
    refine wg (v := .ref (wad w 262 o)) X hT hWσ_14 4 6 262 vl4_o rfl rfl (by decide) rfl (by decide) in_X6 q277 rfl dX6_readErased_21 ?_
    refine lv_iconst (v := oI 0) X.1 X.2.1 dX6_readErased_24 rfl ?_
    refine wr_V (rV (As := [.int (oI x1), .int (oI 0), .ref (wad w 262 o), .int (oI 0)]) (rest := []) X hT hWσ_14 hS (met_Flash_read l (w := w) hV x1 0 262 o 0 _ σ_14 rx1 rZ_0.i vl262_o (by decide) rfl rZ_0.i h) (cwV 4 X.2.2.2.2 (lw_V q889 q890 q891 q134 q892) rfl rfl rfl (by decide +kernel) ⟨Nat.le_of_ble_eq_true rfl, Nat.le_of_ble_eq_true rfl⟩) vl2_0 (by decide) rfl rfl hl.1 rfl (by first | exact Nat.le_of_ble_eq_true rfl | simp [catK, catI, catR, catL]) dX6_readErased_25 ⟨Nat.le_refl _, Nat.le_refl _⟩) hS (fun σ_16 H locs rkσ_16 h hWσ_16 hS => ?_)
    have h := h rkσ_16
    refine lv_aload_n X.1 X.2.1 dX6_readErased_28 rfl (lv_at hl 0 rfl) ?_
    refine wg (v := .ref (wad w 262 o)) X hT hWσ_16 4 6 262 vl4_o rfl rfl (by decide) rfl (by decide) in_X6 q277 rfl dX6_readErased_29 ?_
    refine lv_iconst (v := oI 0) X.1 X.2.1 dX6_readErased_32 rfl ?_
    refine wr_I (rSN (As := [.ref (wad w 262 o), .int (oI 0)]) (rest := []) X hT hWσ_16 hS (met_House_getInt l (w := w) 262 o 0 _ σ_16 vl262_o (by decide) rfl rZ_0.i h) ⟨va_cnB 2 X.2.2.2.2 (lw_meth q769) rfl rfl rfl (hT.2.1 _ (List.mem_of_getElem? (i := 17) rfl)) (X.2.2.2.2 _ q131) (by decide +kernel) ⟨Nat.le_of_ble_eq_true rfl, Nat.le_of_ble_eq_true rfl⟩, X.2.2.2.2 _ q768, trivial⟩ rfl hl.1 rfl (by first | exact Nat.le_of_ble_eq_true rfl | simp [catK, catI, catR, catL]) dX6_readErased_33 ⟨Nat.le_refl _, Nat.le_refl _⟩) hS (fun r_17 σ_18 H locs rr_17 rkσ_18 h hWσ_18 hS => ?_)
    have h := h rr_17 rkσ_18
    refine w_ldc X (z := 1263288881) q684 (by decide) dX6_readErased_36 ?_
    refine w_icmp_ne (tgt := 75) X rr_17 (rI_lit 1263288881 (by decide)) dX6_readErased_38 (by decide) (fun hc => ?_) (fun hc => ?_)
    · have h := h.1 hc
      refine lv_iconst (v := oI (-1)) X.1 X.2.1 dX6_readErased_75 rfl ?_
      exact wret_I X hr hlk hWσ_18 hS ((rB_lit (-1) (by decide)).i) h dX6_readErased_76
    · have h := h.2 hc
      refine lv_aload_n X.1 X.2.1 dX6_readErased_41 rfl (lv_at hl 0 rfl) ?_
      refine wg (v := .ref (wad w 262 o)) X hT hWσ_18 4 6 262 vl4_o rfl rfl (by decide) rfl (by decide) in_X6 q277 rfl dX6_readErased_42 ?_
      refine lv_bipush (v := oI 8) X.1 X.2.1 dX6_readErased_45 (by decide) ?_
      refine wr_I (rSN (As := [.ref (wad w 262 o), .int (oI 8)]) (rest := []) X hT hWσ_18 hS (met_House_getInt l (w := w) 262 o 8 _ σ_18 vl262_o (by decide) rfl ((rB_lit 8 (by decide)).i) h) ⟨va_cnB 2 X.2.2.2.2 (lw_meth q769) rfl rfl rfl (hT.2.1 _ (List.mem_of_getElem? (i := 17) rfl)) (X.2.2.2.2 _ q131) (by decide +kernel) ⟨Nat.le_of_ble_eq_true rfl, Nat.le_of_ble_eq_true rfl⟩, X.2.2.2.2 _ q768, trivial⟩ rfl hl.1 rfl (by first | exact Nat.le_of_ble_eq_true rfl | simp [catK, catI, catR, catL]) dX6_readErased_47 ⟨Nat.le_refl _, Nat.le_refl _⟩) hS (fun r_19 σ_20 H locs rr_19 rkσ_20 h hWσ_20 hS => ?_)
      have h := h rr_19 rkσ_20
      refine lv_iconst (v := oI (-1)) X.1 X.2.1 dX6_readErased_50 rfl ?_
      refine lv_aload_n X.1 X.2.1 dX6_readErased_51 rfl (lv_at hl 0 rfl) ?_
      refine wg (v := .ref (wad w 262 o)) X hT hWσ_20 4 6 262 vl4_o rfl rfl (by decide) rfl (by decide) in_X6 q277 rfl dX6_readErased_52 ?_
      refine lv_iconst (v := oI 0) X.1 X.2.1 dX6_readErased_55 rfl ?_
      refine lv_bipush (v := oI 8) X.1 X.2.1 dX6_readErased_56 (by decide) ?_
      refine wr_I (rSN (As := [.int (oI (-1)), .ref (wad w 262 o), .int (oI 0), .int (oI 8)]) (rest := [.int (oI r_19)]) X hT hWσ_20 hS (met_House_check l (w := w) (-1) 262 o 0 8 _ σ_20 ((rB_lit (-1) (by decide)).i) vl262_o (by decide) rfl rZ_0.i ((rB_lit 8 (by decide)).i) h) ⟨va_cnB 4 X.2.2.2.2 (lw_meth q690) rfl rfl rfl (hT.2.1 _ (List.mem_of_getElem? (i := 7) rfl)) (X.2.2.2.2 _ q131) (by decide +kernel) ⟨Nat.le_of_ble_eq_true rfl, Nat.le_of_ble_eq_true rfl⟩, X.2.2.2.2 _ q689, trivial⟩ rfl hl.1 rfl (by first | exact Nat.le_of_ble_eq_true rfl | simp [catK, catI, catR, catL]) dX6_readErased_58 ⟨Nat.le_refl _, Nat.le_refl _⟩) hS (fun r_21 σ_22 H locs rr_21 rkσ_22 h hWσ_22 hS => ?_)
      have h := h rr_21 rkσ_22
      refine w_icmp_ne (tgt := 75) X rr_19 rr_21 dX6_readErased_61 (by decide) (fun hc => ?_) (fun hc => ?_)
      · have h := h.1 hc
        refine lv_iconst (v := oI (-1)) X.1 X.2.1 dX6_readErased_75 rfl ?_
        exact wret_I X hr hlk hWσ_22 hS ((rB_lit (-1) (by decide)).i) h dX6_readErased_76
      · have h := h.2 hc
        refine lv_aload_n X.1 X.2.1 dX6_readErased_64 rfl (lv_at hl 0 rfl) ?_
        refine wg (v := .ref (wad w 262 o)) X hT hWσ_22 4 6 262 vl4_o rfl rfl (by decide) rfl (by decide) in_X6 q277 rfl dX6_readErased_65 ?_
        refine lv_iconst (v := oI 4) X.1 X.2.1 dX6_readErased_68 rfl ?_
        refine wr_I (rSN (As := [.ref (wad w 262 o), .int (oI 4)]) (rest := []) X hT hWσ_22 hS (met_House_getInt l (w := w) 262 o 4 _ σ_22 vl262_o (by decide) rfl ((rB_lit 4 (by decide)).i) h) ⟨va_cnB 2 X.2.2.2.2 (lw_meth q769) rfl rfl rfl (hT.2.1 _ (List.mem_of_getElem? (i := 17) rfl)) (X.2.2.2.2 _ q131) (by decide +kernel) ⟨Nat.le_of_ble_eq_true rfl, Nat.le_of_ble_eq_true rfl⟩, X.2.2.2.2 _ q768, trivial⟩ rfl hl.1 rfl (by first | exact Nat.le_of_ble_eq_true rfl | simp [catK, catI, catR, catL]) dX6_readErased_69 ⟨Nat.le_refl _, Nat.le_refl _⟩) hS (fun r_23 σ_24 H locs rr_23 rkσ_24 h hWσ_24 hS => ?_)
        have h := h rr_23 rkσ_24
        refine lv_goto (tgt := 76) X.1 X.2.1 dX6_readErased_72 (by decide) ?_
        exact wret_I X hr hlk hWσ_24 hS rr_23 h dX6_readErased_76
  · have h := h.2 hc
    refine lv_iconst (v := oI (-1)) X.1 X.2.1 dX6_readErased_12 rfl ?_
    exact wret_I X hr hlk hWσ_14 hS ((rB_lit (-1) (by decide)).i) h dX6_readErased_13
/-! Blocks.readHead(I)Z -/
set_option maxHeartbeats 4000000 in
set_option maxRecDepth 100000 in
theorem met_Blocks_readHead (l : Launch) {w : Wp} (hV : Hvl w) (o : Int) (x1 : Int) (Q : Int → St → Prop) (σ : St) (ho : 0 ≤ o ∧ o < 2) (rx1 : rI x1) (h : wp_Blocks_readHead (wc w) (wtv w) o x1 Q σ) : Met l yX6_readHead (ws_ yX6_readHead cX6_readHead 2 (some .boolean)) rm_Blocks_readHead (PcW w σ [.ref (wad w 4 o), .int (oI x1)]) (QcZ w Q) 0 0 (wA w) := by
  refine Met.ofW (cc := cX6_readHead) (maxL := 2) (ret := (some .boolean)) (by decide) rfl ?_
  intro p e st m args below meth c s₁ B hml hv
  obtain ⟨hargs, hW, hT⟩ := hv
  have X : CallFix p m c cX6_readHead 2 st _ lw_all RX6 := ⟨B.exec, B.bytes, hml, findClass_of_methodNamed B.named, fun w h => atoms_spec (ws := ws_ yX6_readHead cX6_readHead 2 (some .boolean)) B.pre w (List.mem_cons_of_mem _ h)⟩
  have hr := B.returns
  have hlk := B.notSynchronized
  have hS : va_S (wA w) st.heap st.heap [] := va_S.rf
  have vl2_0 : vl w 2 0 := hV.hv 2 rfl ⟨by omega, by show _ < (1 : Int); omega⟩
  have vl262_o : vl w 262 o := hV.hv 262 rfl ⟨by omega, by show _ < (2 : Int); omega⟩
  have vl4_o : vl w 4 o := hV.hv 4 rfl ⟨by omega, by show _ < (2 : Int); omega⟩
  have hl := lv_entry ([.ref (wad w 4 o), .int (oI x1)]) (n := 2) (Nat.le_of_ble_eq_true rfl)
  have hfr := lg_entry_eq m ([.ref (wad w 4 o), .int (oI x1)]) 2
  rw [← hargs] at hfr
  rw [hfr]
  generalize (lg_sl ([.ref (wad w 4 o), .int (oI x1)]) ++ List.replicate (2 - (lg_sl ([.ref (wad w 4 o), .int (oI x1)])).length) Slot.unset).toArray = ls at hl ⊢
  have hl : lv_has ls 2 [(0, .ref (wad w 4 o)), (1, .int (oI x1))] := hl
  unfold wp_Blocks_readHead at h
  refine lv_aload_n X.1 X.2.1 dX6_readHead_0 rfl (lv_at hl 0 rfl) ?_
  refine wg (v := .ref (wad w 2 0)) X hT hW 4 0 256 vl4_o rfl rfl (by decide) rfl (by decide) in_X6 q269 rfl dX6_readHead_1 ?_
  refine lv_iload_n X.1 X.2.1 dX6_readHead_4 rfl (lv_at hl 1 rfl) ?_
  refine wr_I (rV (As := [.int (oI x1)]) (rest := []) X hT hW hS (met_Flash_written l (w := w) hV x1 _ σ rx1 h) (cwV 1 X.2.2.2.2 (lw_V q1021 q1022 q1023 q134 q1024) rfl rfl rfl (by decide +kernel) ⟨Nat.le_of_ble_eq_true rfl, Nat.le_of_ble_eq_true rfl⟩) vl2_0 (by decide) rfl rfl hl.1 rfl (by first | exact Nat.le_of_ble_eq_true rfl | simp [catK, catI, catR, catL]) dX6_readHead_5 ⟨Nat.le_refl _, Nat.le_refl _⟩) hS (fun r_28 σ_29 H locs rr_28 rkσ_29 h hWσ_29 hS => ?_)
  have h := h rr_28 rkσ_29
  refine lv_iconst (v := oI 2) X.1 X.2.1 dX6_readHead_8 rfl ?_
  refine w_icmp_ge (tgt := 14) X rr_28 ((rB_lit 2 (by decide)).i) dX6_readHead_9 (by decide) (fun hc => ?_) (fun hc => ?_)
  · have h := h.1 hc
    refine lv_aload_n X.1 X.2.1 dX6_readHead_14 rfl (lv_at hl 0 rfl) ?_
    refine wg (v := .ref (wad w 2 0)) X hT hWσ_29 4 0 256 vl4_o rfl rfl (by decide) rfl (by decide) in_X6 q269 rfl dX6_readHead_15 ?_
    refine lv_iload_n X.1 X.2.1 dX6_readHead_18 rfl (lv_at hl 1 rfl) ?_
    refine lv_iconst (v := oI 1) X.1 X.2.1 dX6_readHead_19 rfl ?_
    refine lv_aload_n X.1 X.2.1 dX6_readHead_20 rfl (lv_at hl 0 rfl) ?_
    refine wg (v := .ref (wad w 262 o)) X hT hWσ_29 4 6 262 vl4_o rfl rfl (by decide) rfl (by decide) in_X6 q277 rfl dX6_readHead_21 ?_
    refine lv_iconst (v := oI 0) X.1 X.2.1 dX6_readHead_24 rfl ?_
    refine wr_V (rV (As := [.int (oI x1), .int (oI 1), .ref (wad w 262 o), .int (oI 0)]) (rest := []) X hT hWσ_29 hS (met_Flash_read l (w := w) hV x1 1 262 o 0 _ σ_29 rx1 rZ_1.i vl262_o (by decide) rfl rZ_0.i h) (cwV 4 X.2.2.2.2 (lw_V q889 q890 q891 q134 q892) rfl rfl rfl (by decide +kernel) ⟨Nat.le_of_ble_eq_true rfl, Nat.le_of_ble_eq_true rfl⟩) vl2_0 (by decide) rfl rfl hl.1 rfl (by first | exact Nat.le_of_ble_eq_true rfl | simp [catK, catI, catR, catL]) dX6_readHead_25 ⟨Nat.le_refl _, Nat.le_refl _⟩) hS (fun σ_31 H locs rkσ_31 h hWσ_31 hS => ?_)
    have h := h rkσ_31
    refine lv_aload_n X.1 X.2.1 dX6_readHead_28 rfl (lv_at hl 0 rfl) ?_
    refine lv_aload_n X.1 X.2.1 dX6_readHead_29 rfl (lv_at hl 0 rfl) ?_
    refine wg (v := .ref (wad w 262 o)) X hT hWσ_31 4 6 262 vl4_o rfl rfl (by decide) rfl (by decide) in_X6 q277 rfl dX6_readHead_30 ?_
    refine lv_iconst (v := oI 4) X.1 X.2.1 dX6_readHead_33 rfl ?_
    refine wr_I (rSN (As := [.ref (wad w 262 o), .int (oI 4)]) (rest := [.ref (wad w 4 o)]) X hT hWσ_31 hS (met_House_getInt l (w := w) 262 o 4 _ σ_31 vl262_o (by decide) rfl ((rB_lit 4 (by decide)).i) h) ⟨va_cnB 2 X.2.2.2.2 (lw_meth q769) rfl rfl rfl (hT.2.1 _ (List.mem_of_getElem? (i := 17) rfl)) (X.2.2.2.2 _ q131) (by decide +kernel) ⟨Nat.le_of_ble_eq_true rfl, Nat.le_of_ble_eq_true rfl⟩, X.2.2.2.2 _ q768, trivial⟩ rfl hl.1 rfl (by first | exact Nat.le_of_ble_eq_true rfl | simp [catK, catI, catR, catL]) dX6_readHead_34 ⟨Nat.le_refl _, Nat.le_refl _⟩) hS (fun r_32 σ_33 H locs rr_32 rkσ_33 h hWσ_33 hS => ?_)
    have h := h rr_32 rkσ_33
    refine wput (z := r_32) X hT hWσ_33 hS 4 13 269 vl4_o rfl rfl (by decide) rfl (by decide) in_X6 tyX6 tyX6_ok nmX6 q284 rfl rfl rr_32 (fv0 w rfl) rfl rfl dX6_readHead_37 (fun H locs hN hS => ?_)
    obtain ⟨σ_34, eσ_34⟩ : ∃ x, x = sI σ_33 269 o r_32 := ⟨_, rfl⟩
    have hWσ_34 : Wo w σ_34 H := eσ_34 ▸ hN
    have h := h σ_34 eσ_34
    clear hN
    refine lv_aload_n X.1 X.2.1 dX6_readHead_40 rfl (lv_at hl 0 rfl) ?_
    refine lv_aload_n X.1 X.2.1 dX6_readHead_41 rfl (lv_at hl 0 rfl) ?_
    refine wg (v := .ref (wad w 262 o)) X hT hWσ_34 4 6 262 vl4_o rfl rfl (by decide) rfl (by decide) in_X6 q277 rfl dX6_readHead_42 ?_
    refine lv_bipush (v := oI 8) X.1 X.2.1 dX6_readHead_45 (by decide) ?_
    refine wr_J (rSN (As := [.ref (wad w 262 o), .int (oI 8)]) (rest := [.ref (wad w 4 o)]) X hT hWσ_34 hS (met_House_getLong l (w := w) 262 o 8 _ σ_34 vl262_o (by decide) rfl ((rB_lit 8 (by decide)).i) h) ⟨va_cnB 2 X.2.2.2.2 (lw_meth q1224) rfl rfl rfl (hT.2.1 _ (List.mem_of_getElem? (i := 18) rfl)) (X.2.2.2.2 _ q131) (by decide +kernel) ⟨Nat.le_of_ble_eq_true rfl, Nat.le_of_ble_eq_true rfl⟩, X.2.2.2.2 _ q1223, trivial⟩ rfl hl.1 rfl (by first | exact Nat.le_of_ble_eq_true rfl | simp [catK, catI, catR, catL]) dX6_readHead_47 ⟨Nat.le_refl _, Nat.le_refl _⟩) hS (fun r_35 σ_36 H locs rr_35 rkσ_36 h hWσ_36 hS => ?_)
    have h := h rr_35 rkσ_36
    refine wput (z := r_35) X hT hWσ_36 hS 4 14 270 vl4_o rfl rfl (by decide) rfl (by decide) in_X6 tyX6 tyX6_ok nmX6 q285 rfl rfl rr_35 (fv1 w rfl) rfl rfl dX6_readHead_50 (fun H locs hN hS => ?_)
    obtain ⟨σ_37, eσ_37⟩ : ∃ x, x = sI σ_36 270 o r_35 := ⟨_, rfl⟩
    have hWσ_37 : Wo w σ_37 H := eσ_37 ▸ hN
    have h := h σ_37 eσ_37
    clear hN
    refine lv_aload_n X.1 X.2.1 dX6_readHead_53 rfl (lv_at hl 0 rfl) ?_
    refine lv_aload_n X.1 X.2.1 dX6_readHead_54 rfl (lv_at hl 0 rfl) ?_
    refine wg (v := .ref (wad w 262 o)) X hT hWσ_37 4 6 262 vl4_o rfl rfl (by decide) rfl (by decide) in_X6 q277 rfl dX6_readHead_55 ?_
    refine lv_bipush (v := oI 16) X.1 X.2.1 dX6_readHead_58 (by decide) ?_
    refine wr_I (rSN (As := [.ref (wad w 262 o), .int (oI 16)]) (rest := [.ref (wad w 4 o)]) X hT hWσ_37 hS (met_House_getInt l (w := w) 262 o 16 _ σ_37 vl262_o (by decide) rfl ((rB_lit 16 (by decide)).i) h) ⟨va_cnB 2 X.2.2.2.2 (lw_meth q769) rfl rfl rfl (hT.2.1 _ (List.mem_of_getElem? (i := 17) rfl)) (X.2.2.2.2 _ q131) (by decide +kernel) ⟨Nat.le_of_ble_eq_true rfl, Nat.le_of_ble_eq_true rfl⟩, X.2.2.2.2 _ q768, trivial⟩ rfl hl.1 rfl (by first | exact Nat.le_of_ble_eq_true rfl | simp [catK, catI, catR, catL]) dX6_readHead_60 ⟨Nat.le_refl _, Nat.le_refl _⟩) hS (fun r_38 σ_39 H locs rr_38 rkσ_39 h hWσ_39 hS => ?_)
    have h := h rr_38 rkσ_39
    refine lv_iconst (v := oI 1) X.1 X.2.1 dX6_readHead_63 rfl ?_
    refine w_cut (pc2 := 72) (st2 := [.int (oI (if r_38 = 1 then (1 : Int) else (0 : Int))), .ref (wad w 4 o)]) (fun hj => ?_) ?_
    · refine w_icmp_ne (tgt := 71) X rr_38 rZ_1.i dX6_readHead_64 (by decide) (fun hc => ?_) (fun hc => ?_)
      · refine lv_iconst (v := oI 0) X.1 X.2.1 dX6_readHead_71 rfl ?_
        rw [if_neg hc] at hj; exact hj
      · refine lv_iconst (v := oI 1) X.1 X.2.1 dX6_readHead_67 rfl ?_
        refine lv_goto (tgt := 72) X.1 X.2.1 dX6_readHead_68 (by decide) ?_
        rw [if_pos hc] at hj; exact hj
    refine wput (z := (if r_38 = 1 then (1 : Int) else (0 : Int))) X hT hWσ_39 hS 4 15 271 vl4_o rfl rfl (by decide) rfl (by decide) in_X6 tyX6 tyX6_ok nmX6 q286 rfl rfl (ite_rZ rZ_1 rZ_0) (fv3 w rfl) (nrZ (ite_rZ rZ_1 rZ_0)) (ftZ (ite_rZ rZ_1 rZ_0)) dX6_readHead_72 (fun H locs hN hS => ?_)
    obtain ⟨σ_40, eσ_40⟩ : ∃ x, x = sI σ_39 271 o (if r_38 = 1 then (1 : Int) else (0 : Int)) := ⟨_, rfl⟩
    have hWσ_40 : Wo w σ_40 H := eσ_40 ▸ hN
    have h := h σ_40 eσ_40
    clear hN
    refine lv_aload_n X.1 X.2.1 dX6_readHead_75 rfl (lv_at hl 0 rfl) ?_
    refine lv_aload_n X.1 X.2.1 dX6_readHead_76 rfl (lv_at hl 0 rfl) ?_
    refine wg (v := .ref (wad w 262 o)) X hT hWσ_40 4 6 262 vl4_o rfl rfl (by decide) rfl (by decide) in_X6 q277 rfl dX6_readHead_77 ?_
    refine lv_bipush (v := oI 20) X.1 X.2.1 dX6_readHead_80 (by decide) ?_
    refine wr_I (rSN (As := [.ref (wad w 262 o), .int (oI 20)]) (rest := [.ref (wad w 4 o)]) X hT hWσ_40 hS (met_House_getInt l (w := w) 262 o 20 _ σ_40 vl262_o (by decide) rfl ((rB_lit 20 (by decide)).i) h) ⟨va_cnB 2 X.2.2.2.2 (lw_meth q769) rfl rfl rfl (hT.2.1 _ (List.mem_of_getElem? (i := 17) rfl)) (X.2.2.2.2 _ q131) (by decide +kernel) ⟨Nat.le_of_ble_eq_true rfl, Nat.le_of_ble_eq_true rfl⟩, X.2.2.2.2 _ q768, trivial⟩ rfl hl.1 rfl (by first | exact Nat.le_of_ble_eq_true rfl | simp [catK, catI, catR, catL]) dX6_readHead_82 ⟨Nat.le_refl _, Nat.le_refl _⟩) hS (fun r_41 σ_42 H locs rr_41 rkσ_42 h hWσ_42 hS => ?_)
    have h := h rr_41 rkσ_42
    refine wput (z := r_41) X hT hWσ_42 hS 4 16 272 vl4_o rfl rfl (by decide) rfl (by decide) in_X6 tyX6 tyX6_ok nmX6 q287 rfl rfl rr_41 (fv0 w rfl) rfl rfl dX6_readHead_85 (fun H locs hN hS => ?_)
    obtain ⟨σ_43, eσ_43⟩ : ∃ x, x = sI σ_42 272 o r_41 := ⟨_, rfl⟩
    have hWσ_43 : Wo w σ_43 H := eσ_43 ▸ hN
    have h := h σ_43 eσ_43
    clear hN
    refine lv_aload_n X.1 X.2.1 dX6_readHead_88 rfl (lv_at hl 0 rfl) ?_
    refine lv_aload_n X.1 X.2.1 dX6_readHead_89 rfl (lv_at hl 0 rfl) ?_
    refine wg (v := .ref (wad w 262 o)) X hT hWσ_43 4 6 262 vl4_o rfl rfl (by decide) rfl (by decide) in_X6 q277 rfl dX6_readHead_90 ?_
    refine lv_bipush (v := oI 24) X.1 X.2.1 dX6_readHead_93 (by decide) ?_
    refine wr_I (rSN (As := [.ref (wad w 262 o), .int (oI 24)]) (rest := [.ref (wad w 4 o)]) X hT hWσ_43 hS (met_House_getInt l (w := w) 262 o 24 _ σ_43 vl262_o (by decide) rfl ((rB_lit 24 (by decide)).i) h) ⟨va_cnB 2 X.2.2.2.2 (lw_meth q769) rfl rfl rfl (hT.2.1 _ (List.mem_of_getElem? (i := 17) rfl)) (X.2.2.2.2 _ q131) (by decide +kernel) ⟨Nat.le_of_ble_eq_true rfl, Nat.le_of_ble_eq_true rfl⟩, X.2.2.2.2 _ q768, trivial⟩ rfl hl.1 rfl (by first | exact Nat.le_of_ble_eq_true rfl | simp [catK, catI, catR, catL]) dX6_readHead_95 ⟨Nat.le_refl _, Nat.le_refl _⟩) hS (fun r_44 σ_45 H locs rr_44 rkσ_45 h hWσ_45 hS => ?_)
    have h := h rr_44 rkσ_45
    refine wput (z := r_44) X hT hWσ_45 hS 4 17 273 vl4_o rfl rfl (by decide) rfl (by decide) in_X6 tyX6 tyX6_ok nmX6 q288 rfl rfl rr_44 (fv0 w rfl) rfl rfl dX6_readHead_98 (fun H locs hN hS => ?_)
    obtain ⟨σ_46, eσ_46⟩ : ∃ x, x = sI σ_45 273 o r_44 := ⟨_, rfl⟩
    have hWσ_46 : Wo w σ_46 H := eσ_46 ▸ hN
    have h := h σ_46 eσ_46
    clear hN
    refine lv_aload_n X.1 X.2.1 dX6_readHead_101 rfl (lv_at hl 0 rfl) ?_
    refine wg (v := .ref (wad w 262 o)) X hT hWσ_46 4 6 262 vl4_o rfl rfl (by decide) rfl (by decide) in_X6 q277 rfl dX6_readHead_102 ?_
    refine lv_iconst (v := oI 0) X.1 X.2.1 dX6_readHead_105 rfl ?_
    refine wr_I (rSN (As := [.ref (wad w 262 o), .int (oI 0)]) (rest := []) X hT hWσ_46 hS (met_House_getInt l (w := w) 262 o 0 _ σ_46 vl262_o (by decide) rfl rZ_0.i h) ⟨va_cnB 2 X.2.2.2.2 (lw_meth q769) rfl rfl rfl (hT.2.1 _ (List.mem_of_getElem? (i := 17) rfl)) (X.2.2.2.2 _ q131) (by decide +kernel) ⟨Nat.le_of_ble_eq_true rfl, Nat.le_of_ble_eq_true rfl⟩, X.2.2.2.2 _ q768, trivial⟩ rfl hl.1 rfl (by first | exact Nat.le_of_ble_eq_true rfl | simp [catK, catI, catR, catL]) dX6_readHead_106 ⟨Nat.le_refl _, Nat.le_refl _⟩) hS (fun r_47 σ_48 H locs rr_47 rkσ_48 h hWσ_48 hS => ?_)
    have h := h rr_47 rkσ_48
    refine w_ldc X (z := 1263289138) q887 (by decide) dX6_readHead_109 ?_
    refine w_icmp_ne (tgt := 158) X rr_47 (rI_lit 1263289138 (by decide)) dX6_readHead_111 (by decide) (fun hc => ?_) (fun hc => ?_)
    · have h := h.1 hc
      refine lv_iconst (v := oI 0) X.1 X.2.1 dX6_readHead_158 rfl ?_
      exact wret_Z X hr hlk hWσ_48 hS rZ_0 h dX6_readHead_159
    · have h := h.2 hc
      refine lv_aload_n X.1 X.2.1 dX6_readHead_114 rfl (lv_at hl 0 rfl) ?_
      refine wg (v := .ref (wad w 262 o)) X hT hWσ_48 4 6 262 vl4_o rfl rfl (by decide) rfl (by decide) in_X6 q277 rfl dX6_readHead_115 ?_
      refine lv_bipush (v := oI 28) X.1 X.2.1 dX6_readHead_118 (by decide) ?_
      refine wr_I (rSN (As := [.ref (wad w 262 o), .int (oI 28)]) (rest := []) X hT hWσ_48 hS (met_House_getInt l (w := w) 262 o 28 _ σ_48 vl262_o (by decide) rfl ((rB_lit 28 (by decide)).i) h) ⟨va_cnB 2 X.2.2.2.2 (lw_meth q769) rfl rfl rfl (hT.2.1 _ (List.mem_of_getElem? (i := 17) rfl)) (X.2.2.2.2 _ q131) (by decide +kernel) ⟨Nat.le_of_ble_eq_true rfl, Nat.le_of_ble_eq_true rfl⟩, X.2.2.2.2 _ q768, trivial⟩ rfl hl.1 rfl (by first | exact Nat.le_of_ble_eq_true rfl | simp [catK, catI, catR, catL]) dX6_readHead_120 ⟨Nat.le_refl _, Nat.le_refl _⟩) hS (fun r_49 σ_50 H locs rr_49 rkσ_50 h hWσ_50 hS => ?_)
      have h := h rr_49 rkσ_50
      refine lv_iconst (v := oI (-1)) X.1 X.2.1 dX6_readHead_123 rfl ?_
      refine lv_aload_n X.1 X.2.1 dX6_readHead_124 rfl (lv_at hl 0 rfl) ?_
      refine wg (v := .ref (wad w 262 o)) X hT hWσ_50 4 6 262 vl4_o rfl rfl (by decide) rfl (by decide) in_X6 q277 rfl dX6_readHead_125 ?_
      refine lv_iconst (v := oI 0) X.1 X.2.1 dX6_readHead_128 rfl ?_
      refine lv_bipush (v := oI 28) X.1 X.2.1 dX6_readHead_129 (by decide) ?_
      refine wr_I (rSN (As := [.int (oI (-1)), .ref (wad w 262 o), .int (oI 0), .int (oI 28)]) (rest := [.int (oI r_49)]) X hT hWσ_50 hS (met_House_check l (w := w) (-1) 262 o 0 28 _ σ_50 ((rB_lit (-1) (by decide)).i) vl262_o (by decide) rfl rZ_0.i ((rB_lit 28 (by decide)).i) h) ⟨va_cnB 4 X.2.2.2.2 (lw_meth q690) rfl rfl rfl (hT.2.1 _ (List.mem_of_getElem? (i := 7) rfl)) (X.2.2.2.2 _ q131) (by decide +kernel) ⟨Nat.le_of_ble_eq_true rfl, Nat.le_of_ble_eq_true rfl⟩, X.2.2.2.2 _ q689, trivial⟩ rfl hl.1 rfl (by first | exact Nat.le_of_ble_eq_true rfl | simp [catK, catI, catR, catL]) dX6_readHead_131 ⟨Nat.le_refl _, Nat.le_refl _⟩) hS (fun r_51 σ_52 H locs rr_51 rkσ_52 h hWσ_52 hS => ?_)
      have h := h rr_51 rkσ_52
      refine w_icmp_ne (tgt := 158) X rr_49 rr_51 dX6_readHead_134 (by decide) (fun hc => ?_) (fun hc => ?_)
      · have h := h.1 hc
        refine lv_iconst (v := oI 0) X.1 X.2.1 dX6_readHead_158 rfl ?_
        exact wret_Z X hr hlk hWσ_52 hS rZ_0 h dX6_readHead_159
      · have h := h.2 hc
        refine lv_aload_n X.1 X.2.1 dX6_readHead_137 rfl (lv_at hl 0 rfl) ?_
        refine wg (v := .int (oI (gI σ_52 269 o))) X hT hWσ_52 4 13 269 vl4_o rfl rfl (by decide) rfl (by decide) in_X6 q284 rfl dX6_readHead_138 ?_
        refine lv_iconst (v := oI 0) X.1 X.2.1 dX6_readHead_141 rfl ?_
        refine lv_aload_n X.1 X.2.1 dX6_readHead_142 rfl (lv_at hl 0 rfl) ?_
        refine wg (v := .int (oI ((wc w).1 - 6))) X hT hWσ_52 4 1 257 vl4_o rfl rfl (by decide) rfl (by decide) in_X6 q271 rfl dX6_readHead_143 ?_
        refine lv_iconst (v := oI 1) X.1 X.2.1 dX6_readHead_146 rfl ?_
        refine w_isub X dX6_readHead_147 ?_
        refine wr_Z (rSN (As := [.int (oI (gI σ_52 269 o)), .int (oI 0), .int (oI (w32 (((wc w).1 - 6) - 1)))]) (rest := []) X hT hWσ_52 hS (met_House_isIn l (w := w) (gI σ_52 269 o) 0 (w32 (((wc w).1 - 6) - 1)) _ σ_52 (hWσ_52.r.i 269 o rfl) rZ_0.i (w32_r _) h) ⟨va_cnB 3 X.2.2.2.2 (lw_meth q210) rfl rfl rfl (hT.2.1 _ (List.mem_of_getElem? (i := 19) rfl)) (X.2.2.2.2 _ q131) (by decide +kernel) ⟨Nat.le_of_ble_eq_true rfl, Nat.le_of_ble_eq_true rfl⟩, X.2.2.2.2 _ q209, trivial⟩ rfl hl.1 rfl (by first | exact Nat.le_of_ble_eq_true rfl | simp [catK, catI, catR, catL]) dX6_readHead_148 ⟨Nat.le_refl _, Nat.le_refl _⟩) hS (fun r_53 σ_54 H locs rr_53 rkσ_54 h hWσ_54 hS => ?_)
        have h := h rr_53 rkσ_54
        refine w_if_eq (tgt := 158) X rr_53.i dX6_readHead_151 (by decide) (fun hc => ?_) (fun hc => ?_)
        · have h := h.1 hc
          refine lv_iconst (v := oI 0) X.1 X.2.1 dX6_readHead_158 rfl ?_
          exact wret_Z X hr hlk hWσ_54 hS rZ_0 h dX6_readHead_159
        · have h := h.2 hc
          refine lv_iconst (v := oI 1) X.1 X.2.1 dX6_readHead_154 rfl ?_
          refine lv_goto (tgt := 159) X.1 X.2.1 dX6_readHead_155 (by decide) ?_
          exact wret_Z X hr hlk hWσ_54 hS rZ_1 h dX6_readHead_159
  · have h := h.2 hc
    refine lv_iconst (v := oI 0) X.1 X.2.1 dX6_readHead_12 rfl ?_
    exact wret_Z X hr hlk hWσ_29 hS rZ_0 h dX6_readHead_13
/-! Blocks.checkOf(II)I -/
set_option maxHeartbeats 4000000 in
set_option maxRecDepth 100000 in
theorem wk_Blocks_checkOf_L5B {p : Program} {l : Launch} {e : Env} {st : State} {m : MethodId} {args : Array Value} {below : List Frame} {meth : Method} {c : Code} {w : Wp} {o : Int} {x1 : Int} {x2 : Int} {Q : Int → St → Prop} (X : CallFix p m c cX6_checkOf 5 st args lw_all RX6) (hr : meth.sig.returnType = (some .int)) (hlk : meth.locks = false) (hT : Tb w st) (hV : Hvl w) (ho : 0 ≤ o ∧ o < 2) (rx1 : rI x1) (rx2 : rI x2) (K5 : Int → Int → St → Prop) (hK5 : ∀ (y3 y4 : Int) (σ : St) (H : Heap) (locs : List Loc) (ls : Array Slot), rI y3 → rI y4 → lv_has ls 5 [(0, .ref (wad w 4 o)), (1, .int (oI x1)), (2, .int (oI x2)), (3, .int (oI y3)), (4, .int (oI y4))] → Wo w σ H → va_S (wA w) st.heap H locs → K5 y3 y4 σ → W p l e (headSpec (ws_ yX6_checkOf cX6_checkOf 5 (some .int)) rm_Blocks_checkOf).room st m args below meth c H locs 0 0 (MQ below (QcI w Q) args st 0 0 (wA w)) (F0 m 5 ls [])) : ∀ (y3 y4 : Int) (σ : St) (H : Heap) (locs : List Loc) (ls : Array Slot), rI y3 → rI y4 → lv_has ls 5 [(0, .ref (wad w 4 o)), (1, .int (oI x1)), (2, .int (oI x2)), (3, .int (oI y3)), (4, .int (oI y4))] → Wo w σ H → va_S (wA w) st.heap H locs → wp_Blocks_checkOf_L5 (wc w) (wtv w) o x1 x2 Q K5 y3 y4 σ → W p l e (headSpec (ws_ yX6_checkOf cX6_checkOf 5 (some .int)) rm_Blocks_checkOf).room st m args below meth c H locs 0 0 (MQ below (QcI w Q) args st 0 0 (wA w)) (F0 m 5 ls []) := by
  have vl2_0 : vl w 2 0 := hV.hv 2 rfl ⟨by omega, by show _ < (1 : Int); omega⟩
  have vl263_o : vl w 263 o := hV.hv 263 rfl ⟨by omega, by show _ < (2 : Int); omega⟩
  have vl4_o : vl w 4 o := hV.hv 4 rfl ⟨by omega, by show _ < (2 : Int); omega⟩
  intro y3 y4 σ H locs ls ry3 ry4 hl hW hS h
  unfold wp_Blocks_checkOf_L5 at h
  refine lv_iload X.1 X.2.1 dX6_checkOf_5 (lv_at hl 4 rfl) ?_
  refine lv_iload_n X.1 X.2.1 dX6_checkOf_7 rfl (lv_at hl 2 rfl) ?_
  refine w_icmp_ge (tgt := 47) X ry4 rx2 dX6_checkOf_8 (by decide) (fun hc => ?_) (fun hc => ?_)
  · have h := h.1 hc
    refine lv_iload_n X.1 X.2.1 dX6_checkOf_47 rfl (lv_at hl 3 rfl) ?_
    exact wret_I X hr hlk hW hS ry3 h dX6_checkOf_48
  · have h := h.2 hc
    refine lv_aload_n X.1 X.2.1 dX6_checkOf_11 rfl (lv_at hl 0 rfl) ?_
    refine wg (v := .ref (wad w 2 0)) X hT hW 4 0 256 vl4_o rfl rfl (by decide) rfl (by decide) in_X6 q269 rfl dX6_checkOf_12 ?_
    refine lv_iload_n X.1 X.2.1 dX6_checkOf_15 rfl (lv_at hl 1 rfl) ?_
    refine lv_iconst (v := oI 2) X.1 X.2.1 dX6_checkOf_16 rfl ?_
    refine lv_iload X.1 X.2.1 dX6_checkOf_17 (lv_at hl 4 rfl) ?_
    refine w_iadd X dX6_checkOf_19 ?_
    refine lv_aload_n X.1 X.2.1 dX6_checkOf_20 rfl (lv_at hl 0 rfl) ?_
    refine wg (v := .ref (wad w 263 o)) X hT hW 4 7 263 vl4_o rfl rfl (by decide) rfl (by decide) in_X6 q278 rfl dX6_checkOf_21 ?_
    refine lv_iconst (v := oI 0) X.1 X.2.1 dX6_checkOf_24 rfl ?_
    refine wr_V (rV (As := [.int (oI x1), .int (oI (w32 (2 + y4))), .ref (wad w 263 o), .int (oI 0)]) (rest := []) X hT hW hS (met_Flash_read l (w := w) hV x1 (w32 (2 + y4)) 263 o 0 _ σ rx1 (w32_r _) vl263_o (by decide) rfl rZ_0.i h) (cwV 4 X.2.2.2.2 (lw_V q889 q890 q891 q134 q892) rfl rfl rfl (by decide +kernel) ⟨Nat.le_of_ble_eq_true rfl, Nat.le_of_ble_eq_true rfl⟩) vl2_0 (by decide) rfl rfl hl.1 rfl (by first | exact Nat.le_of_ble_eq_true rfl | simp [catK, catI, catR, catL]) dX6_checkOf_25 ⟨Nat.le_refl _, Nat.le_refl _⟩) hS (fun σ_12 H locs rkσ_12 h hWσ_12 hS => ?_)
    have h := h rkσ_12
    refine lv_iload_n X.1 X.2.1 dX6_checkOf_28 rfl (lv_at hl 3 rfl) ?_
    refine lv_aload_n X.1 X.2.1 dX6_checkOf_29 rfl (lv_at hl 0 rfl) ?_
    refine wg (v := .ref (wad w 263 o)) X hT hWσ_12 4 7 263 vl4_o rfl rfl (by decide) rfl (by decide) in_X6 q278 rfl dX6_checkOf_30 ?_
    refine lv_iconst (v := oI 0) X.1 X.2.1 dX6_checkOf_33 rfl ?_
    refine lv_sipush (v := oI 128) X.1 X.2.1 dX6_checkOf_34 (by decide) ?_
    refine wr_I (rSN (As := [.int (oI y3), .ref (wad w 263 o), .int (oI 0), .int (oI 128)]) (rest := []) X hT hWσ_12 hS (met_House_check l (w := w) y3 263 o 0 128 _ σ_12 ry3 vl263_o (by decide) rfl rZ_0.i (rI_lit 128 (by decide)) h) ⟨va_cnB 4 X.2.2.2.2 (lw_meth q690) rfl rfl rfl (hT.2.1 _ (List.mem_of_getElem? (i := 7) rfl)) (X.2.2.2.2 _ q131) (by decide +kernel) ⟨Nat.le_of_ble_eq_true rfl, Nat.le_of_ble_eq_true rfl⟩, X.2.2.2.2 _ q689, trivial⟩ rfl hl.1 rfl (by first | exact Nat.le_of_ble_eq_true rfl | simp [catK, catI, catR, catL]) dX6_checkOf_37 ⟨Nat.le_refl _, Nat.le_refl _⟩) hS (fun r_13 σ_14 H locs rr_13 rkσ_14 h hWσ_14 hS => ?_)
    have h := h rr_13 rkσ_14
    refine lv_istore_n (i := 3) (lv' := [(3, .int (oI r_13)), (0, .ref (wad w 4 o)), (1, .int (oI x1)), (2, .int (oI x2)), (4, .int (oI y4))]) X.1 X.2.1 dX6_checkOf_40 rfl hl (by decide) (by first | rfl | simp [catK, catI, catR, catL]) (fun ls hl => ?_)
    obtain ⟨y4_15, ey4_15⟩ : ∃ y : Int, y = w32 (y4 + 1) := ⟨_, rfl⟩
    have h := h y4_15 ey4_15
    have ry4_15 : rI y4_15 := by rw [ey4_15]; exact w32_r _
    refine lv_iinc (v := oI y4_15) (lv' := [(4, .int (oI y4_15)), (3, .int (oI r_13)), (0, .ref (wad w 4 o)), (1, .int (oI x1)), (2, .int (oI x2))]) X.1 X.2.1 dX6_checkOf_41 hl (k := 4) rfl (by rw [ey4_15]; exact oI_add _ _) (by decide) (by first | rfl | simp [catK, catI, catR, catL]) (fun ls hl => ?_)
    refine lv_goto (tgt := 5) X.1 X.2.1 dX6_checkOf_44 (by decide) ?_
    exact hK5 r_13 y4_15 σ_14 _ _ _ rr_13 ry4_15 (lv_sub hl [2, 3, 4, 1, 0] rfl) hWσ_14 hS h
theorem wk_Blocks_checkOf_L5 {p : Program} {l : Launch} {e : Env} {st : State} {m : MethodId} {args : Array Value} {below : List Frame} {meth : Method} {c : Code} {w : Wp} {o : Int} {x1 : Int} {x2 : Int} {Q : Int → St → Prop} (X : CallFix p m c cX6_checkOf 5 st args lw_all RX6) (hr : meth.sig.returnType = (some .int)) (hlk : meth.locks = false) (hT : Tb w st) (hV : Hvl w) (ho : 0 ≤ o ∧ o < 2) (rx1 : rI x1) (rx2 : rI x2) : ∀ (y3 y4 : Int) (σ : St) (H : Heap) (locs : List Loc) (ls : Array Slot), rI y3 → rI y4 → lv_has ls 5 [(0, .ref (wad w 4 o)), (1, .int (oI x1)), (2, .int (oI x2)), (3, .int (oI y3)), (4, .int (oI y4))] → Wo w σ H → va_S (wA w) st.heap H locs → lQ2 (wp_Blocks_checkOf_L5 (wc w) (wtv w) o x1 x2 Q) y3 y4 σ → W p l e (headSpec (ws_ yX6_checkOf cX6_checkOf 5 (some .int)) rm_Blocks_checkOf).room st m args below meth c H locs 0 0 (MQ below (QcI w Q) args st 0 0 (wA w)) (F0 m 5 ls []) := by
  intro y3 y4 σ H locs ls ry3 ry4 hl hW hS h
  obtain ⟨fu, h⟩ := h
  induction fu generalizing y3 y4 σ H locs ls with
  | zero => exact h.elim
  | succ fu ih =>
    exact wk_Blocks_checkOf_L5B X hr hlk hT hV ho rx1 rx2 (lq2 (wp_Blocks_checkOf_L5 (wc w) (wtv w) o x1 x2 Q) fu) (fun y3 y4 σ H locs ls ry3 ry4 hl hW hS h => ih y3 y4 σ H locs ls ry3 ry4 hl hW hS h) y3 y4 σ H locs ls ry3 ry4 hl hW hS h
set_option maxHeartbeats 4000000 in
set_option maxRecDepth 100000 in
theorem met_Blocks_checkOf (l : Launch) {w : Wp} (hV : Hvl w) (o : Int) (x1 : Int) (x2 : Int) (Q : Int → St → Prop) (σ : St) (ho : 0 ≤ o ∧ o < 2) (rx1 : rI x1) (rx2 : rI x2) (h : wp_Blocks_checkOf (wc w) (wtv w) o x1 x2 Q σ) : Met l yX6_checkOf (ws_ yX6_checkOf cX6_checkOf 5 (some .int)) rm_Blocks_checkOf (PcW w σ [.ref (wad w 4 o), .int (oI x1), .int (oI x2)]) (QcI w Q) 0 0 (wA w) := by
  refine Met.ofW (cc := cX6_checkOf) (maxL := 5) (ret := (some .int)) (by decide) rfl ?_
  intro p e st m args below meth c s₁ B hml hv
  obtain ⟨hargs, hW, hT⟩ := hv
  have X : CallFix p m c cX6_checkOf 5 st _ lw_all RX6 := ⟨B.exec, B.bytes, hml, findClass_of_methodNamed B.named, fun w h => atoms_spec (ws := ws_ yX6_checkOf cX6_checkOf 5 (some .int)) B.pre w (List.mem_cons_of_mem _ h)⟩
  have hr := B.returns
  have hlk := B.notSynchronized
  have hS : va_S (wA w) st.heap st.heap [] := va_S.rf
  have vl4_o : vl w 4 o := hV.hv 4 rfl ⟨by omega, by show _ < (2 : Int); omega⟩
  have hl := lv_entry ([.ref (wad w 4 o), .int (oI x1), .int (oI x2)]) (n := 5) (Nat.le_of_ble_eq_true rfl)
  have hfr := lg_entry_eq m ([.ref (wad w 4 o), .int (oI x1), .int (oI x2)]) 5
  rw [← hargs] at hfr
  rw [hfr]
  generalize (lg_sl ([.ref (wad w 4 o), .int (oI x1), .int (oI x2)]) ++ List.replicate (5 - (lg_sl ([.ref (wad w 4 o), .int (oI x1), .int (oI x2)])).length) Slot.unset).toArray = ls at hl ⊢
  have hl : lv_has ls 5 [(0, .ref (wad w 4 o)), (1, .int (oI x1)), (2, .int (oI x2))] := hl
  unfold wp_Blocks_checkOf at h
  refine lv_iconst (v := oI (-1)) X.1 X.2.1 dX6_checkOf_0 rfl ?_
  refine lv_istore_n (i := 3) (lv' := [(3, .int (oI (-1))), (0, .ref (wad w 4 o)), (1, .int (oI x1)), (2, .int (oI x2))]) X.1 X.2.1 dX6_checkOf_1 rfl hl (by decide) (by first | rfl | simp [catK, catI, catR, catL]) (fun ls hl => ?_)
  refine lv_iconst (v := oI 0) X.1 X.2.1 dX6_checkOf_2 rfl ?_
  refine lv_istore (i := 4) (lv' := [(4, .int (oI 0)), (3, .int (oI (-1))), (0, .ref (wad w 4 o)), (1, .int (oI x1)), (2, .int (oI x2))]) X.1 X.2.1 dX6_checkOf_3 hl (by decide) (by first | rfl | simp [catK, catI, catR, catL]) (fun ls hl => ?_)
  exact wk_Blocks_checkOf_L5 X hr hlk hT hV ho rx1 rx2 (-1) 0 σ _ _ _ ((rB_lit (-1) (by decide)).i) rZ_0.i (lv_sub hl [2, 3, 4, 1, 0] rfl) hW hS h
/-! Blocks.claim(I)V -/
set_option maxHeartbeats 4000000 in
set_option maxRecDepth 100000 in
theorem wk_Blocks_claim_b133 {p : Program} {l : Launch} {e : Env} {st : State} {m : MethodId} {args : Array Value} {below : List Frame} {meth : Method} {c : Code} {w : Wp} {o : Int} {x1 : Int} {Q : St → Prop} (X : CallFix p m c cX6_claim 8 st args lw_all RX6) (hr : meth.sig.returnType = none) (hlk : meth.locks = false) (hT : Tb w st) (hV : Hvl w) (ho : 0 ≤ o ∧ o < 2) (rx1 : rI x1) : ∀ (σ : St) (H : Heap) (locs : List Loc) (ls : Array Slot), lv_has ls 8 [(0, .ref (wad w 4 o)), (1, .int (oI x1))] → Wo w σ H → va_S (wA w) st.heap H locs → wp_Blocks_claim_b133 (wc w) (wtv w) o x1 Q σ → W p l e (headSpec (ws_ yX6_claim cX6_claim 8 none) rm_Blocks_claim).room st m args below meth c H locs 0 0 (MQ below (QcV w Q) args st 0 0 (wA w)) (F0 m 133 ls []) := by
  have vl259_o : vl w 259 o := hV.hv 259 rfl ⟨by omega, by show _ < (2 : Int); omega⟩
  have vl4_o : vl w 4 o := hV.hv 4 rfl ⟨by omega, by show _ < (2 : Int); omega⟩
  intro σ H locs ls hl hW hS h
  unfold wp_Blocks_claim_b133 at h
  refine lv_aload_n X.1 X.2.1 dX6_claim_133 rfl (lv_at hl 0 rfl) ?_
  refine wg (v := .ref (wad w 259 o)) X hT hW 4 3 259 vl4_o rfl rfl (by decide) rfl (by decide) in_X6 q274 rfl dX6_claim_134 ?_
  refine lv_iload_n X.1 X.2.1 dX6_claim_137 rfl (lv_at hl 1 rfl) ?_
  refine lv_bipush (v := oI (-2)) X.1 X.2.1 dX6_claim_138 (by decide) ?_
  obtain ⟨bi, h⟩ := h
  refine w_iast (n := (wc w).1) X hT hW hS 259 vl259_o (by decide) rfl rfl bi ((rB_lit (-2) (by decide)).i) dX6_claim_140 (fun H locs hN hS => ?_)
  obtain ⟨σ_17, eσ_17⟩ : ∃ x, x = sA σ 259 o x1 (-2) := ⟨_, rfl⟩
  have hWσ_17 : Wo w σ_17 H := eσ_17 ▸ hN
  have h := h σ_17 eσ_17
  clear hN
  exact wret_V X hr hlk hWσ_17 hS h dX6_claim_141
set_option maxHeartbeats 4000000 in
set_option maxRecDepth 100000 in
theorem wk_Blocks_claim_b157 {p : Program} {l : Launch} {e : Env} {st : State} {m : MethodId} {args : Array Value} {below : List Frame} {meth : Method} {c : Code} {w : Wp} {o : Int} {x1 : Int} {Q : St → Prop} (X : CallFix p m c cX6_claim 8 st args lw_all RX6) (hr : meth.sig.returnType = none) (hlk : meth.locks = false) (hT : Tb w st) (hV : Hvl w) (ho : 0 ≤ o ∧ o < 2) (rx1 : rI x1) : ∀ (y2 : Int) (σ : St) (H : Heap) (locs : List Loc) (ls : Array Slot), rI y2 → lv_has ls 8 [(0, .ref (wad w 4 o)), (1, .int (oI x1)), (2, .int (oI y2))] → Wo w σ H → va_S (wA w) st.heap H locs → wp_Blocks_claim_b157 (wc w) (wtv w) o x1 Q y2 σ → W p l e (headSpec (ws_ yX6_claim cX6_claim 8 none) rm_Blocks_claim).room st m args below meth c H locs 0 0 (MQ below (QcV w Q) args st 0 0 (wA w)) (F0 m 157 ls []) := by
  have vl258_o : vl w 258 o := hV.hv 258 rfl ⟨by omega, by show _ < (2 : Int); omega⟩
  have vl259_o : vl w 259 o := hV.hv 259 rfl ⟨by omega, by show _ < (2 : Int); omega⟩
  have vl4_o : vl w 4 o := hV.hv 4 rfl ⟨by omega, by show _ < (2 : Int); omega⟩
  intro y2 σ H locs ls ry2 hl hW hS h
  unfold wp_Blocks_claim_b157 at h
  refine lv_aload_n X.1 X.2.1 dX6_claim_157 rfl (lv_at hl 0 rfl) ?_
  refine wg (v := .ref (wad w 259 o)) X hT hW 4 3 259 vl4_o rfl rfl (by decide) rfl (by decide) in_X6 q274 rfl dX6_claim_158 ?_
  refine lv_iload_n X.1 X.2.1 dX6_claim_161 rfl (lv_at hl 1 rfl) ?_
  refine lv_iload_n X.1 X.2.1 dX6_claim_162 rfl (lv_at hl 2 rfl) ?_
  obtain ⟨bi, h⟩ := h
  refine w_iast (n := (wc w).1) X hT hW hS 259 vl259_o (by decide) rfl rfl bi ry2 dX6_claim_163 (fun H locs hN hS => ?_)
  obtain ⟨σ_18, eσ_18⟩ : ∃ x, x = sA σ 259 o x1 y2 := ⟨_, rfl⟩
  have hWσ_18 : Wo w σ_18 H := eσ_18 ▸ hN
  have h := h σ_18 eσ_18
  clear hN
  refine lv_aload_n X.1 X.2.1 dX6_claim_164 rfl (lv_at hl 0 rfl) ?_
  refine wg (v := .ref (wad w 258 o)) X hT hWσ_18 4 2 258 vl4_o rfl rfl (by decide) rfl (by decide) in_X6 q273 rfl dX6_claim_165 ?_
  refine lv_iload_n X.1 X.2.1 dX6_claim_168 rfl (lv_at hl 2 rfl) ?_
  refine lv_iload_n X.1 X.2.1 dX6_claim_169 rfl (lv_at hl 1 rfl) ?_
  obtain ⟨bi, h⟩ := h
  refine w_iast (n := ((wc w).1 - 6)) X hT hWσ_18 hS 258 vl258_o (by decide) rfl rfl bi rx1 dX6_claim_170 (fun H locs hN hS => ?_)
  obtain ⟨σ_19, eσ_19⟩ : ∃ x, x = sA σ_18 258 o y2 x1 := ⟨_, rfl⟩
  have hWσ_19 : Wo w σ_19 H := eσ_19 ▸ hN
  have h := h σ_19 eσ_19
  clear hN
  exact wret_V X hr hlk hWσ_19 hS h dX6_claim_171
set_option maxHeartbeats 4000000 in
set_option maxRecDepth 100000 in
theorem wk_Blocks_claim_b123 {p : Program} {l : Launch} {e : Env} {st : State} {m : MethodId} {args : Array Value} {below : List Frame} {meth : Method} {c : Code} {w : Wp} {o : Int} {x1 : Int} {Q : St → Prop} (X : CallFix p m c cX6_claim 8 st args lw_all RX6) (hr : meth.sig.returnType = none) (hlk : meth.locks = false) (hT : Tb w st) (hV : Hvl w) (ho : 0 ≤ o ∧ o < 2) (rx1 : rI x1) : ∀ (y2 y5 y6 y7 : Int) (σ : St) (H : Heap) (locs : List Loc) (ls : Array Slot), rI y2 → rZ y5 → rI y6 → rZ y7 → lv_has ls 8 [(0, .ref (wad w 4 o)), (1, .int (oI x1)), (2, .int (oI y2)), (5, .int (oI y5)), (6, .int (oI y6)), (7, .int (oI y7))] → Wo w σ H → va_S (wA w) st.heap H locs → wp_Blocks_claim_b123 (wc w) (wtv w) o x1 Q y2 y5 y6 y7 σ → W p l e (headSpec (ws_ yX6_claim cX6_claim 8 none) rm_Blocks_claim).room st m args below meth c H locs 0 0 (MQ below (QcV w Q) args st 0 0 (wA w)) (F0 m 123 ls []) := by
  have vl259_o : vl w 259 o := hV.hv 259 rfl ⟨by omega, by show _ < (2 : Int); omega⟩
  have vl4_o : vl w 4 o := hV.hv 4 rfl ⟨by omega, by show _ < (2 : Int); omega⟩
  intro y2 y5 y6 y7 σ H locs ls ry2 ry5 ry6 ry7 hl hW hS h
  unfold wp_Blocks_claim_b123 at h
  refine lv_iload X.1 X.2.1 dX6_claim_123 (lv_at hl 3 rfl) ?_
  refine w_if_eq (tgt := 133) X ry5.i dX6_claim_125 (by decide) (fun hc => ?_) (fun hc => ?_)
  · have h := h.1 hc
    exact wk_Blocks_claim_b133 X hr hlk hT hV ho rx1 σ _ _ _ (lv_sub hl [0, 1] rfl) hW hS h
  · have h := h.2 hc
    refine lv_iload X.1 X.2.1 dX6_claim_128 (lv_at hl 5 rfl) ?_
    refine w_if_ne (tgt := 142) X ry7.i dX6_claim_130 (by decide) (fun hc => ?_) (fun hc => ?_)
    · have h := h.1 hc
      refine lv_iload X.1 X.2.1 dX6_claim_142 (lv_at hl 4 rfl) ?_
      refine lv_iconst (v := oI (-1)) X.1 X.2.1 dX6_claim_144 rfl ?_
      refine w_icmp_eq (tgt := 157) X ry6 ((rB_lit (-1) (by decide)).i) dX6_claim_145 (by decide) (fun hc => ?_) (fun hc => ?_)
      · have h := h.1 hc
        exact wk_Blocks_claim_b157 X hr hlk hT hV ho rx1 y2 σ _ _ _ ry2 (lv_sub hl [0, 1, 2] rfl) hW hS h
      · have h := h.2 hc
        refine lv_aload_n X.1 X.2.1 dX6_claim_148 rfl (lv_at hl 0 rfl) ?_
        refine wg (v := .ref (wad w 259 o)) X hT hW 4 3 259 vl4_o rfl rfl (by decide) rfl (by decide) in_X6 q274 rfl dX6_claim_149 ?_
        refine lv_iload X.1 X.2.1 dX6_claim_152 (lv_at hl 4 rfl) ?_
        refine lv_bipush (v := oI (-2)) X.1 X.2.1 dX6_claim_154 (by decide) ?_
        obtain ⟨bi, h⟩ := h
        refine w_iast (n := (wc w).1) X hT hW hS 259 vl259_o (by decide) rfl rfl bi ((rB_lit (-2) (by decide)).i) dX6_claim_156 (fun H locs hN hS => ?_)
        obtain ⟨σ_20, eσ_20⟩ : ∃ x, x = sA σ 259 o y6 (-2) := ⟨_, rfl⟩
        have hWσ_20 : Wo w σ_20 H := eσ_20 ▸ hN
        have h := h σ_20 eσ_20
        clear hN
        exact wk_Blocks_claim_b157 X hr hlk hT hV ho rx1 y2 σ_20 _ _ _ ry2 (lv_sub hl [0, 1, 2] rfl) hWσ_20 hS h
    · have h := h.2 hc
      exact wk_Blocks_claim_b133 X hr hlk hT hV ho rx1 σ _ _ _ (lv_sub hl [0, 1] rfl) hW hS h
set_option maxHeartbeats 4000000 in
set_option maxRecDepth 100000 in
theorem wk_Blocks_claim_b50 {p : Program} {l : Launch} {e : Env} {st : State} {m : MethodId} {args : Array Value} {below : List Frame} {meth : Method} {c : Code} {w : Wp} {o : Int} {x1 : Int} {Q : St → Prop} (X : CallFix p m c cX6_claim 8 st args lw_all RX6) (hr : meth.sig.returnType = none) (hlk : meth.locks = false) (hT : Tb w st) (hV : Hvl w) (ho : 0 ≤ o ∧ o < 2) (rx1 : rI x1) (K55 : Int → Int → Int → St → Prop) (hK55 : ∀ (y2 y3 t0 : Int) (σ : St) (H : Heap) (locs : List Loc) (ls : Array Slot), rI y2 → rJ y3 → rZ t0 → lv_has ls 8 [(0, .ref (wad w 4 o)), (1, .int (oI x1)), (2, .int (oI y2)), (3, .long (oL y3))] → Wo w σ H → va_S (wA w) st.heap H locs → K55 y2 y3 t0 σ → W p l e (headSpec (ws_ yX6_claim cX6_claim 8 none) rm_Blocks_claim).room st m args below meth c H locs 0 0 (MQ below (QcV w Q) args st 0 0 (wA w)) (F0 m 55 ls [.int (oI t0)])) : ∀ (y2 y3 : Int) (σ : St) (H : Heap) (locs : List Loc) (ls : Array Slot), rI y2 → rJ y3 → lv_has ls 8 [(0, .ref (wad w 4 o)), (1, .int (oI x1)), (2, .int (oI y2)), (3, .long (oL y3))] → Wo w σ H → va_S (wA w) st.heap H locs → wp_Blocks_claim_b50 (wc w) (wtv w) o x1 Q K55 y2 y3 σ → W p l e (headSpec (ws_ yX6_claim cX6_claim 8 none) rm_Blocks_claim).room st m args below meth c H locs 0 0 (MQ below (QcV w Q) args st 0 0 (wA w)) (F0 m 50 ls []) := by

  intro y2 y3 σ H locs ls ry2 ry3 hl hW hS h
  unfold wp_Blocks_claim_b50 at h
  refine lv_iconst (v := oI 1) X.1 X.2.1 dX6_claim_50 rfl ?_
  refine lv_goto (tgt := 55) X.1 X.2.1 dX6_claim_51 (by decide) ?_
  exact hK55 y2 y3 1 σ _ _ _ ry2 ry3 rZ_1 (lv_sub hl [0, 1, 2, 3] rfl) hW hS h
set_option maxHeartbeats 4000000 in
set_option maxRecDepth 100000 in
theorem wk_Blocks_claim_b54 {p : Program} {l : Launch} {e : Env} {st : State} {m : MethodId} {args : Array Value} {below : List Frame} {meth : Method} {c : Code} {w : Wp} {o : Int} {x1 : Int} {Q : St → Prop} (X : CallFix p m c cX6_claim 8 st args lw_all RX6) (hr : meth.sig.returnType = none) (hlk : meth.locks = false) (hT : Tb w st) (hV : Hvl w) (ho : 0 ≤ o ∧ o < 2) (rx1 : rI x1) (K55 : Int → Int → Int → St → Prop) (hK55 : ∀ (y2 y3 t0 : Int) (σ : St) (H : Heap) (locs : List Loc) (ls : Array Slot), rI y2 → rJ y3 → rZ t0 → lv_has ls 8 [(0, .ref (wad w 4 o)), (1, .int (oI x1)), (2, .int (oI y2)), (3, .long (oL y3))] → Wo w σ H → va_S (wA w) st.heap H locs → K55 y2 y3 t0 σ → W p l e (headSpec (ws_ yX6_claim cX6_claim 8 none) rm_Blocks_claim).room st m args below meth c H locs 0 0 (MQ below (QcV w Q) args st 0 0 (wA w)) (F0 m 55 ls [.int (oI t0)])) : ∀ (y2 y3 : Int) (σ : St) (H : Heap) (locs : List Loc) (ls : Array Slot), rI y2 → rJ y3 → lv_has ls 8 [(0, .ref (wad w 4 o)), (1, .int (oI x1)), (2, .int (oI y2)), (3, .long (oL y3))] → Wo w σ H → va_S (wA w) st.heap H locs → wp_Blocks_claim_b54 (wc w) (wtv w) o x1 Q K55 y2 y3 σ → W p l e (headSpec (ws_ yX6_claim cX6_claim 8 none) rm_Blocks_claim).room st m args below meth c H locs 0 0 (MQ below (QcV w Q) args st 0 0 (wA w)) (F0 m 54 ls []) := by

  intro y2 y3 σ H locs ls ry2 ry3 hl hW hS h
  unfold wp_Blocks_claim_b54 at h
  refine lv_iconst (v := oI 0) X.1 X.2.1 dX6_claim_54 rfl ?_
  exact hK55 y2 y3 0 σ _ _ _ ry2 ry3 rZ_0 (lv_sub hl [0, 1, 2, 3] rfl) hW hS h
set_option maxHeartbeats 4000000 in
set_option maxRecDepth 100000 in
theorem wk_Blocks_claim_b55 {p : Program} {l : Launch} {e : Env} {st : State} {m : MethodId} {args : Array Value} {below : List Frame} {meth : Method} {c : Code} {w : Wp} {o : Int} {x1 : Int} {Q : St → Prop} (X : CallFix p m c cX6_claim 8 st args lw_all RX6) (hr : meth.sig.returnType = none) (hlk : meth.locks = false) (hT : Tb w st) (hV : Hvl w) (ho : 0 ≤ o ∧ o < 2) (rx1 : rI x1) : ∀ (y2 y3 t0 : Int) (σ : St) (H : Heap) (locs : List Loc) (ls : Array Slot), rI y2 → rJ y3 → rZ t0 → lv_has ls 8 [(0, .ref (wad w 4 o)), (1, .int (oI x1)), (2, .int (oI y2)), (3, .long (oL y3))] → Wo w σ H → va_S (wA w) st.heap H locs → wp_Blocks_claim_b55 (wc w) (wtv w) o x1 Q y2 y3 t0 σ → W p l e (headSpec (ws_ yX6_claim cX6_claim 8 none) rm_Blocks_claim).room st m args below meth c H locs 0 0 (MQ below (QcV w Q) args st 0 0 (wA w)) (F0 m 55 ls [.int (oI t0)]) := by
  have vl258_o : vl w 258 o := hV.hv 258 rfl ⟨by omega, by show _ < (2 : Int); omega⟩
  have vl4_o : vl w 4 o := hV.hv 4 rfl ⟨by omega, by show _ < (2 : Int); omega⟩
  intro y2 y3 t0 σ H locs ls ry2 ry3 rt0 hl hW hS h
  unfold wp_Blocks_claim_b55 at h
  refine lv_istore (i := 5) (lv' := [(5, .int (oI t0)), (0, .ref (wad w 4 o)), (1, .int (oI x1)), (2, .int (oI y2)), (3, .long (oL y3))]) X.1 X.2.1 dX6_claim_55 hl (by decide) (by first | rfl | simp [catK, catI, catR, catL]) (fun ls hl => ?_)
  refine lv_aload_n X.1 X.2.1 dX6_claim_57 rfl (lv_at hl 1 rfl) ?_
  refine lv_aload_n X.1 X.2.1 dX6_claim_58 rfl (lv_at hl 1 rfl) ?_
  refine wg (v := .long (oL (gI σ 261 o))) X hT hW 4 5 261 vl4_o rfl rfl (by decide) rfl (by decide) in_X6 q276 rfl dX6_claim_59 ?_
  refine lv_lload_n X.1 X.2.1 dX6_claim_62 rfl (lv_at hl 4 rfl) ?_
  refine w_mmaxl X (hW.r.j 261 o rfl) ry3 hl.1 q1687 q1688 q149 q1689 (Nat.le_of_ble_eq_true rfl) (Nat.le_of_ble_eq_true rfl) (Nat.le_refl _) (Nat.le_refl _) dX6_claim_63 ?_
  refine wput (z := max (gI σ 261 o) y3) X hT hW hS 4 5 261 vl4_o rfl rfl (by decide) rfl (by decide) in_X6 tyX6 tyX6_ok nmX6 q276 rfl rfl (max_rJ (hW.r.j 261 o rfl) ry3) (fv1 w rfl) rfl rfl dX6_claim_66 (fun H locs hN hS => ?_)
  obtain ⟨σ_21, eσ_21⟩ : ∃ x, x = sI σ 261 o (max (gI σ 261 o) y3) := ⟨_, rfl⟩
  have hWσ_21 : Wo w σ_21 H := eσ_21 ▸ hN
  have h := h σ_21 eσ_21
  clear hN
  refine lv_aload_n X.1 X.2.1 dX6_claim_69 rfl (lv_at hl 1 rfl) ?_
  refine wg (v := .ref (wad w 258 o)) X hT hWσ_21 4 2 258 vl4_o rfl rfl (by decide) rfl (by decide) in_X6 q273 rfl dX6_claim_70 ?_
  refine lv_iload_n X.1 X.2.1 dX6_claim_73 rfl (lv_at hl 3 rfl) ?_
  obtain ⟨bi, h⟩ := h
  refine w_iald (n := ((wc w).1 - 6)) X hT hWσ_21 258 vl258_o (by decide) rfl rfl bi dX6_claim_74 ?_
  refine w_top (fun y6_22 ey6_22 => ?_)
  have h := h y6_22 ey6_22
  have ry6_22 : rI y6_22 := by rw [ey6_22]; exact (hWσ_21.r.ai 258 o y2 rfl)
  refine lv_istore (i := 6) (lv' := [(6, .int (oI y6_22)), (5, .int (oI t0)), (0, .ref (wad w 4 o)), (1, .int (oI x1)), (2, .int (oI y2)), (3, .long (oL y3))]) X.1 X.2.1 dX6_claim_75 hl (by decide) (by first | rfl | simp [catK, catI, catR, catL]) (fun ls hl => ?_)
  refine lv_iload X.1 X.2.1 dX6_claim_77 (lv_at hl 0 rfl) ?_
  refine lv_iconst (v := oI (-1)) X.1 X.2.1 dX6_claim_79 rfl ?_
  refine w_cut (pc2 := 88) (st2 := [.int (oI (if y6_22 = (-1) then (1 : Int) else (0 : Int)))]) (fun hj => ?_) ?_
  · refine w_icmp_ne (tgt := 87) X ry6_22 ((rB_lit (-1) (by decide)).i) dX6_claim_80 (by decide) (fun hc => ?_) (fun hc => ?_)
    · refine lv_iconst (v := oI 0) X.1 X.2.1 dX6_claim_87 rfl ?_
      rw [if_neg hc] at hj; exact hj
    · refine lv_iconst (v := oI 1) X.1 X.2.1 dX6_claim_83 rfl ?_
      refine lv_goto (tgt := 88) X.1 X.2.1 dX6_claim_84 (by decide) ?_
      rw [if_pos hc] at hj; exact hj
  refine w_top (fun y7_23 ey7_23 => ?_)
  have h := h y7_23 ey7_23
  have ry7_23 : rZ y7_23 := by rw [ey7_23]; exact (ite_rZ rZ_1 rZ_0)
  refine lv_istore (i := 7) (lv' := [(7, .int (oI y7_23)), (6, .int (oI y6_22)), (5, .int (oI t0)), (0, .ref (wad w 4 o)), (1, .int (oI x1)), (2, .int (oI y2)), (3, .long (oL y3))]) X.1 X.2.1 dX6_claim_88 hl (by decide) (by first | rfl | simp [catK, catI, catR, catL]) (fun ls hl => ?_)
  refine lv_iload X.1 X.2.1 dX6_claim_90 (lv_at hl 2 rfl) ?_
  refine w_if_eq (tgt := 123) X rt0.i dX6_claim_92 (by decide) (fun hc => ?_) (fun hc => ?_)
  · have h := h.1 hc
    exact wk_Blocks_claim_b123 X hr hlk hT hV ho rx1 y2 t0 y6_22 y7_23 σ_21 _ _ _ ry2 rt0 ry6_22 ry7_23 (lv_sub hl [3, 4, 5, 2, 1, 0] rfl) hWσ_21 hS h
  · have h := h.2 hc
    refine lv_iload X.1 X.2.1 dX6_claim_95 (lv_at hl 0 rfl) ?_
    refine w_if_ne (tgt := 123) X ry7_23.i dX6_claim_97 (by decide) (fun hc => ?_) (fun hc => ?_)
    · have h := h.1 hc
      exact wk_Blocks_claim_b123 X hr hlk hT hV ho rx1 y2 t0 y6_22 y7_23 σ_21 _ _ _ ry2 rt0 ry6_22 ry7_23 (lv_sub hl [3, 4, 5, 2, 1, 0] rfl) hWσ_21 hS h
    · have h := h.2 hc
      refine lv_aload_n X.1 X.2.1 dX6_claim_100 rfl (lv_at hl 3 rfl) ?_
      refine lv_iload X.1 X.2.1 dX6_claim_101 (lv_at hl 1 rfl) ?_
      refine wr_Z (rV (As := [.int (oI y6_22)]) (rest := []) X hT hWσ_21 hS (met_Blocks_readHead l (w := w) hV o y6_22 _ σ_21 (by omega) ry6_22 h) (cwV 1 X.2.2.2.2 (lw_V q1673 q1675 qs72 q137 q1676) rfl rfl rfl (by decide +kernel) ⟨Nat.le_of_ble_eq_true rfl, Nat.le_of_ble_eq_true rfl⟩) vl4_o (by decide) rfl rfl hl.1 rfl (by first | exact Nat.le_of_ble_eq_true rfl | simp [catK, catI, catR, catL]) dX6_claim_103 ⟨Nat.le_refl _, Nat.le_refl _⟩) hS (fun r_24 σ_25 H locs rr_24 rkσ_25 h hWσ_25 hS => ?_)
      have h := h rr_24 rkσ_25
      refine lv_pop X.1 X.2.1 dX6_claim_106 rfl ?_
      refine lv_lload_n X.1 X.2.1 dX6_claim_107 rfl (lv_at hl 6 rfl) ?_
      refine lv_aload_n X.1 X.2.1 dX6_claim_108 rfl (lv_at hl 3 rfl) ?_
      refine wg (v := .long (oL (gI σ_25 270 o))) X hT hWσ_25 4 14 270 vl4_o rfl rfl (by decide) rfl (by decide) in_X6 q285 rfl dX6_claim_109 ?_
      refine w_cut (pc2 := 121) (st2 := [.int (oI (if y3 ≤ (gI σ_25 270 o) then (0 : Int) else (1 : Int)))]) (fun hj => ?_) ?_
      · refine w_lcmp_le (tgt := 120) X ry3 (hWσ_25.r.j 270 o rfl) dX6_claim_112 dX6_claim_113 (by decide) (fun hc => ?_) (fun hc => ?_)
        · refine lv_iconst (v := oI 0) X.1 X.2.1 dX6_claim_120 rfl ?_
          rw [if_pos hc] at hj; exact hj
        · refine lv_iconst (v := oI 1) X.1 X.2.1 dX6_claim_116 rfl ?_
          refine lv_goto (tgt := 121) X.1 X.2.1 dX6_claim_117 (by decide) ?_
          rw [if_neg hc] at hj; exact hj
      refine w_top (fun y7_26 ey7_26 => ?_)
      have h := h y7_26 ey7_26
      have ry7_26 : rZ y7_26 := by rw [ey7_26]; exact (ite_rZ rZ_0 rZ_1)
      refine lv_istore (i := 7) (lv' := [(7, .int (oI y7_26)), (6, .int (oI y6_22)), (5, .int (oI t0)), (0, .ref (wad w 4 o)), (1, .int (oI x1)), (2, .int (oI y2)), (3, .long (oL y3))]) X.1 X.2.1 dX6_claim_121 hl (by decide) (by first | rfl | simp [catK, catI, catR, catL]) (fun ls hl => ?_)
      exact wk_Blocks_claim_b123 X hr hlk hT hV ho rx1 y2 t0 y6_22 y7_26 σ_25 _ _ _ ry2 rt0 ry6_22 ry7_26 (lv_sub hl [3, 4, 5, 2, 1, 0] rfl) hWσ_25 hS h
set_option maxHeartbeats 4000000 in
set_option maxRecDepth 100000 in
theorem met_Blocks_claim (l : Launch) {w : Wp} (hV : Hvl w) (o : Int) (x1 : Int) (Q : St → Prop) (σ : St) (ho : 0 ≤ o ∧ o < 2) (rx1 : rI x1) (h : wp_Blocks_claim (wc w) (wtv w) o x1 Q σ) : Met l yX6_claim (ws_ yX6_claim cX6_claim 8 none) rm_Blocks_claim (PcW w σ [.ref (wad w 4 o), .int (oI x1)]) (QcV w Q) 0 0 (wA w) := by
  refine Met.ofW (cc := cX6_claim) (maxL := 8) (ret := none) (by decide) rfl ?_
  intro p e st m args below meth c s₁ B hml hv
  obtain ⟨hargs, hW, hT⟩ := hv
  have X : CallFix p m c cX6_claim 8 st _ lw_all RX6 := ⟨B.exec, B.bytes, hml, findClass_of_methodNamed B.named, fun w h => atoms_spec (ws := ws_ yX6_claim cX6_claim 8 none) B.pre w (List.mem_cons_of_mem _ h)⟩
  have hr := B.returns
  have hlk := B.notSynchronized
  have hS : va_S (wA w) st.heap st.heap [] := va_S.rf
  have vl2_0 : vl w 2 0 := hV.hv 2 rfl ⟨by omega, by show _ < (1 : Int); omega⟩
  have vl4_o : vl w 4 o := hV.hv 4 rfl ⟨by omega, by show _ < (2 : Int); omega⟩
  have hl := lv_entry ([.ref (wad w 4 o), .int (oI x1)]) (n := 8) (Nat.le_of_ble_eq_true rfl)
  have hfr := lg_entry_eq m ([.ref (wad w 4 o), .int (oI x1)]) 8
  rw [← hargs] at hfr
  rw [hfr]
  generalize (lg_sl ([.ref (wad w 4 o), .int (oI x1)]) ++ List.replicate (8 - (lg_sl ([.ref (wad w 4 o), .int (oI x1)])).length) Slot.unset).toArray = ls at hl ⊢
  have hl : lv_has ls 8 [(0, .ref (wad w 4 o)), (1, .int (oI x1))] := hl
  unfold wp_Blocks_claim at h
  refine lv_aload_n X.1 X.2.1 dX6_claim_0 rfl (lv_at hl 0 rfl) ?_
  refine wg (v := .int (oI (gI σ 269 o))) X hT hW 4 13 269 vl4_o rfl rfl (by decide) rfl (by decide) in_X6 q284 rfl dX6_claim_1 ?_
  refine w_top (fun y2_27 ey2_27 => ?_)
  have h := h y2_27 ey2_27
  have ry2_27 : rI y2_27 := by rw [ey2_27]; exact (hW.r.i 269 o rfl)
  refine lv_istore_n (i := 2) (lv' := [(2, .int (oI y2_27)), (0, .ref (wad w 4 o)), (1, .int (oI x1))]) X.1 X.2.1 dX6_claim_4 rfl hl (by decide) (by first | rfl | simp [catK, catI, catR, catL]) (fun ls hl => ?_)
  refine lv_aload_n X.1 X.2.1 dX6_claim_5 rfl (lv_at hl 1 rfl) ?_
  refine wg (v := .long (oL (gI σ 270 o))) X hT hW 4 14 270 vl4_o rfl rfl (by decide) rfl (by decide) in_X6 q285 rfl dX6_claim_6 ?_
  refine w_topl (fun y3_28 ey3_28 => ?_)
  have h := h y3_28 ey3_28
  have ry3_28 : rJ y3_28 := by rw [ey3_28]; exact (hW.r.j 270 o rfl)
  refine lv_lstore_n (i := 3) (lv' := [(3, .long (oL y3_28)), (2, .int (oI y2_27)), (0, .ref (wad w 4 o)), (1, .int (oI x1))]) X.1 X.2.1 dX6_claim_9 rfl hl (by decide) (by first | rfl | simp [catK, catI, catR, catL]) (fun ls hl => ?_)
  refine lv_aload_n X.1 X.2.1 dX6_claim_10 rfl (lv_at hl 2 rfl) ?_
  refine wg (v := .int (oI (gI σ 271 o))) X hT hW 4 15 271 vl4_o rfl rfl (by decide) rfl (by decide) in_X6 q286 rfl dX6_claim_11 ?_
  refine w_if_eq (tgt := 50) X ((hW.r.z 271 o rfl).i) dX6_claim_14 (by decide) (fun hc => ?_) (fun hc => ?_)
  · have h := h.1 hc
    exact wk_Blocks_claim_b50 X hr hlk hT hV ho rx1 (wp_Blocks_claim_b55 (wc w) (wtv w) o x1 Q) (wk_Blocks_claim_b55 X hr hlk hT hV ho rx1) y2_27 y3_28 σ _ _ _ ry2_27 ry3_28 (lv_sub hl [2, 3, 1, 0] rfl) hW hS h
  · have h := h.2 hc
    refine lv_aload_n X.1 X.2.1 dX6_claim_17 rfl (lv_at hl 2 rfl) ?_
    refine wg (v := .ref (wad w 2 0)) X hT hW 4 0 256 vl4_o rfl rfl (by decide) rfl (by decide) in_X6 q269 rfl dX6_claim_18 ?_
    refine lv_iload_n X.1 X.2.1 dX6_claim_21 rfl (lv_at hl 3 rfl) ?_
    refine wr_I (rV (As := [.int (oI x1)]) (rest := []) X hT hW hS (met_Flash_written l (w := w) hV x1 _ σ rx1 h) (cwV 1 X.2.2.2.2 (lw_V q1021 q1022 q1023 q134 q1024) rfl rfl rfl (by decide +kernel) ⟨Nat.le_of_ble_eq_true rfl, Nat.le_of_ble_eq_true rfl⟩) vl2_0 (by decide) rfl rfl hl.1 rfl (by first | exact Nat.le_of_ble_eq_true rfl | simp [catK, catI, catR, catL]) dX6_claim_22 ⟨Nat.le_refl _, Nat.le_refl _⟩) hS (fun r_29 σ_30 H locs rr_29 rkσ_30 h hWσ_30 hS => ?_)
    have h := h rr_29 rkσ_30
    refine lv_iconst (v := oI 2) X.1 X.2.1 dX6_claim_25 rfl ?_
    refine w_isub X dX6_claim_26 ?_
    refine lv_aload_n X.1 X.2.1 dX6_claim_27 rfl (lv_at hl 2 rfl) ?_
    refine wg (v := .int (oI (gI σ_30 272 o))) X hT hWσ_30 4 16 272 vl4_o rfl rfl (by decide) rfl (by decide) in_X6 q287 rfl dX6_claim_28 ?_
    refine w_icmp_lt (tgt := 54) X (w32_r _) (hWσ_30.r.i 272 o rfl) dX6_claim_31 (by decide) (fun hc => ?_) (fun hc => ?_)
    · have h := h.1 hc
      exact wk_Blocks_claim_b54 X hr hlk hT hV ho rx1 (wp_Blocks_claim_b55 (wc w) (wtv w) o x1 Q) (wk_Blocks_claim_b55 X hr hlk hT hV ho rx1) y2_27 y3_28 σ_30 _ _ _ ry2_27 ry3_28 (lv_sub hl [2, 3, 1, 0] rfl) hWσ_30 hS h
    · have h := h.2 hc
      refine lv_aload_n X.1 X.2.1 dX6_claim_34 rfl (lv_at hl 2 rfl) ?_
      refine lv_iload_n X.1 X.2.1 dX6_claim_35 rfl (lv_at hl 3 rfl) ?_
      refine lv_aload_n X.1 X.2.1 dX6_claim_36 rfl (lv_at hl 2 rfl) ?_
      refine wg (v := .int (oI (gI σ_30 272 o))) X hT hWσ_30 4 16 272 vl4_o rfl rfl (by decide) rfl (by decide) in_X6 q287 rfl dX6_claim_37 ?_
      refine wr_I (rV (As := [.int (oI x1), .int (oI (gI σ_30 272 o))]) (rest := []) X hT hWσ_30 hS (met_Blocks_checkOf l (w := w) hV o x1 (gI σ_30 272 o) _ σ_30 (by omega) rx1 (hWσ_30.r.i 272 o rfl) h) (cwV 2 X.2.2.2.2 (lw_V q1683 q1685 qs74 q137 q1686) rfl rfl rfl (by decide +kernel) ⟨Nat.le_of_ble_eq_true rfl, Nat.le_of_ble_eq_true rfl⟩) vl4_o (by decide) rfl rfl hl.1 rfl (by first | exact Nat.le_of_ble_eq_true rfl | simp [catK, catI, catR, catL]) dX6_claim_40 ⟨Nat.le_refl _, Nat.le_refl _⟩) hS (fun r_31 σ_32 H locs rr_31 rkσ_32 h hWσ_32 hS => ?_)
      have h := h rr_31 rkσ_32
      refine lv_aload_n X.1 X.2.1 dX6_claim_43 rfl (lv_at hl 2 rfl) ?_
      refine wg (v := .int (oI (gI σ_32 273 o))) X hT hWσ_32 4 17 273 vl4_o rfl rfl (by decide) rfl (by decide) in_X6 q288 rfl dX6_claim_44 ?_
      refine w_icmp_ne (tgt := 54) X rr_31 (hWσ_32.r.i 273 o rfl) dX6_claim_47 (by decide) (fun hc => ?_) (fun hc => ?_)
      · have h := h.1 hc
        exact wk_Blocks_claim_b54 X hr hlk hT hV ho rx1 (wp_Blocks_claim_b55 (wc w) (wtv w) o x1 Q) (wk_Blocks_claim_b55 X hr hlk hT hV ho rx1) y2_27 y3_28 σ_32 _ _ _ ry2_27 ry3_28 (lv_sub hl [2, 3, 1, 0] rfl) hWσ_32 hS h
      · have h := h.2 hc
        exact wk_Blocks_claim_b50 X hr hlk hT hV ho rx1 (wp_Blocks_claim_b55 (wc w) (wtv w) o x1 Q) (wk_Blocks_claim_b55 X hr hlk hT hV ho rx1) y2_27 y3_28 σ_32 _ _ _ ry2_27 ry3_28 (lv_sub hl [2, 3, 1, 0] rfl) hWσ_32 hS h
/-! Blocks.attach()V -/
set_option maxHeartbeats 4000000 in
set_option maxRecDepth 100000 in
theorem wk_Blocks_attach_b251 {p : Program} {l : Launch} {e : Env} {st : State} {m : MethodId} {args : Array Value} {below : List Frame} {meth : Method} {c : Code} {w : Wp} {o : Int} {Q : St → Prop} (X : CallFix p m c cX6_attach 6 st args lw_all RX6) (hr : meth.sig.returnType = none) (hlk : meth.locks = false) (hT : Tb w st) (hV : Hvl w) (ho : 0 ≤ o ∧ o < 2) (K260 : Int → Int → Int → St → Prop) (hK260 : ∀ (y1 y3 y4 : Int) (σ : St) (H : Heap) (locs : List Loc) (ls : Array Slot), rJ y1 → rI y3 → rI y4 → lv_has ls 6 [(0, .ref (wad w 4 o)), (1, .long (oL y1)), (3, .int (oI y3)), (4, .int (oI y4))] → Wo w σ H → va_S (wA w) st.heap H locs → K260 y1 y3 y4 σ → W p l e (headSpec (ws_ yX6_attach cX6_attach 6 none) rm_Blocks_attach).room st m args below meth c H locs 0 0 (MQ below (QcV w Q) args st 0 0 (wA w)) (F0 m 260 ls [])) : ∀ (y1 y3 y4 : Int) (σ : St) (H : Heap) (locs : List Loc) (ls : Array Slot), rJ y1 → rI y3 → rI y4 → lv_has ls 6 [(0, .ref (wad w 4 o)), (1, .long (oL y1)), (3, .int (oI y3)), (4, .int (oI y4))] → Wo w σ H → va_S (wA w) st.heap H locs → wp_Blocks_attach_b251 (wc w) (wtv w) o Q K260 y1 y3 y4 σ → W p l e (headSpec (ws_ yX6_attach cX6_attach 6 none) rm_Blocks_attach).room st m args below meth c H locs 0 0 (MQ below (QcV w Q) args st 0 0 (wA w)) (F0 m 251 ls []) := by
  have vl259_o : vl w 259 o := hV.hv 259 rfl ⟨by omega, by show _ < (2 : Int); omega⟩
  have vl4_o : vl w 4 o := hV.hv 4 rfl ⟨by omega, by show _ < (2 : Int); omega⟩
  intro y1 y3 y4 σ H locs ls ry1 ry3 ry4 hl hW hS h
  unfold wp_Blocks_attach_b251 at h
  refine lv_aload_n X.1 X.2.1 dX6_attach_251 rfl (lv_at hl 0 rfl) ?_
  refine wg (v := .ref (wad w 259 o)) X hT hW 4 3 259 vl4_o rfl rfl (by decide) rfl (by decide) in_X6 q274 rfl dX6_attach_252 ?_
  refine lv_iload X.1 X.2.1 dX6_attach_255 (lv_at hl 3 rfl) ?_
  refine lv_bipush (v := oI (-2)) X.1 X.2.1 dX6_attach_257 (by decide) ?_
  obtain ⟨bi, h⟩ := h
  refine w_iast (n := (wc w).1) X hT hW hS 259 vl259_o (by decide) rfl rfl bi ((rB_lit (-2) (by decide)).i) dX6_attach_259 (fun H locs hN hS => ?_)
  obtain ⟨σ_79, eσ_79⟩ : ∃ x, x = sA σ 259 o y4 (-2) := ⟨_, rfl⟩
  have hWσ_79 : Wo w σ_79 H := eσ_79 ▸ hN
  have h := h σ_79 eσ_79
  clear hN
  exact hK260 y1 y3 y4 σ_79 _ _ _ ry1 ry3 ry4 (lv_sub hl [0, 1, 2, 3] rfl) hWσ_79 hS h
set_option maxHeartbeats 4000000 in
set_option maxRecDepth 100000 in
theorem wk_Blocks_attach_b228 {p : Program} {l : Launch} {e : Env} {st : State} {m : MethodId} {args : Array Value} {below : List Frame} {meth : Method} {c : Code} {w : Wp} {o : Int} {Q : St → Prop} (X : CallFix p m c cX6_attach 6 st args lw_all RX6) (hr : meth.sig.returnType = none) (hlk : meth.locks = false) (hT : Tb w st) (hV : Hvl w) (ho : 0 ≤ o ∧ o < 2) (K260 : Int → Int → Int → St → Prop) (hK260 : ∀ (y1 y3 y4 : Int) (σ : St) (H : Heap) (locs : List Loc) (ls : Array Slot), rJ y1 → rI y3 → rI y4 → lv_has ls 6 [(0, .ref (wad w 4 o)), (1, .long (oL y1)), (3, .int (oI y3)), (4, .int (oI y4))] → Wo w σ H → va_S (wA w) st.heap H locs → K260 y1 y3 y4 σ → W p l e (headSpec (ws_ yX6_attach cX6_attach 6 none) rm_Blocks_attach).room st m args below meth c H locs 0 0 (MQ below (QcV w Q) args st 0 0 (wA w)) (F0 m 260 ls [])) : ∀ (y1 y3 y4 y5 : Int) (σ : St) (H : Heap) (locs : List Loc) (ls : Array Slot), rJ y1 → rI y3 → rI y4 → rZ y5 → lv_has ls 6 [(0, .ref (wad w 4 o)), (1, .long (oL y1)), (3, .int (oI y3)), (4, .int (oI y4)), (5, .int (oI y5))] → Wo w σ H → va_S (wA w) st.heap H locs → wp_Blocks_attach_b228 (wc w) (wtv w) o Q K260 y1 y3 y4 y5 σ → W p l e (headSpec (ws_ yX6_attach cX6_attach 6 none) rm_Blocks_attach).room st m args below meth c H locs 0 0 (MQ below (QcV w Q) args st 0 0 (wA w)) (F0 m 228 ls []) := by
  have vl4_o : vl w 4 o := hV.hv 4 rfl ⟨by omega, by show _ < (2 : Int); omega⟩
  intro y1 y3 y4 y5 σ H locs ls ry1 ry3 ry4 ry5 hl hW hS h
  unfold wp_Blocks_attach_b228 at h
  refine lv_iload X.1 X.2.1 dX6_attach_228 (lv_at hl 4 rfl) ?_
  refine w_if_eq (tgt := 251) X ry5.i dX6_attach_230 (by decide) (fun hc => ?_) (fun hc => ?_)
  · have h := h.1 hc
    exact wk_Blocks_attach_b251 X hr hlk hT hV ho K260 hK260 y1 y3 y4 σ _ _ _ ry1 ry3 ry4 (lv_sub hl [0, 1, 2, 3] rfl) hW hS h
  · have h := h.2 hc
    refine lv_aload_n X.1 X.2.1 dX6_attach_233 rfl (lv_at hl 0 rfl) ?_
    refine lv_iload X.1 X.2.1 dX6_attach_234 (lv_at hl 3 rfl) ?_
    refine wr_Z (rV (As := [.int (oI y4)]) (rest := []) X hT hW hS (met_Blocks_readHead l (w := w) hV o y4 _ σ (by omega) ry4 h) (cwV 1 X.2.2.2.2 (lw_V q1673 q1675 qs72 q137 q1676) rfl rfl rfl (by decide +kernel) ⟨Nat.le_of_ble_eq_true rfl, Nat.le_of_ble_eq_true rfl⟩) vl4_o (by decide) rfl rfl hl.1 rfl (by first | exact Nat.le_of_ble_eq_true rfl | simp [catK, catI, catR, catL]) dX6_attach_236 ⟨Nat.le_refl _, Nat.le_refl _⟩) hS (fun r_80 σ_81 H locs rr_80 rkσ_81 h hWσ_81 hS => ?_)
    have h := h rr_80 rkσ_81
    refine w_if_eq (tgt := 251) X rr_80.i dX6_attach_239 (by decide) (fun hc => ?_) (fun hc => ?_)
    · have h := h.1 hc
      exact wk_Blocks_attach_b251 X hr hlk hT hV ho K260 hK260 y1 y3 y4 σ_81 _ _ _ ry1 ry3 ry4 (lv_sub hl [0, 1, 2, 3] rfl) hWσ_81 hS h
    · have h := h.2 hc
      refine lv_aload_n X.1 X.2.1 dX6_attach_242 rfl (lv_at hl 0 rfl) ?_
      refine lv_iload X.1 X.2.1 dX6_attach_243 (lv_at hl 3 rfl) ?_
      refine wr_V (rV (As := [.int (oI y4)]) (rest := []) X hT hWσ_81 hS (met_Blocks_claim l (w := w) hV o y4 _ σ_81 (by omega) ry4 h) (cwV 1 X.2.2.2.2 (lw_V q1679 q1681 qs73 q137 q1682) rfl rfl rfl (by decide +kernel) ⟨Nat.le_of_ble_eq_true rfl, Nat.le_of_ble_eq_true rfl⟩) vl4_o (by decide) rfl rfl hl.1 rfl (by first | exact Nat.le_of_ble_eq_true rfl | simp [catK, catI, catR, catL]) dX6_attach_245 ⟨Nat.le_refl _, Nat.le_refl _⟩) hS (fun σ_83 H locs rkσ_83 h hWσ_83 hS => ?_)
      have h := h rkσ_83
      refine lv_goto (tgt := 260) X.1 X.2.1 dX6_attach_248 (by decide) ?_
      exact hK260 y1 y3 y4 σ_83 _ _ _ ry1 ry3 ry4 (lv_sub hl [0, 1, 2, 3] rfl) hWσ_83 hS h
set_option maxHeartbeats 4000000 in
set_option maxRecDepth 100000 in
theorem wk_Blocks_attach_b260 {p : Program} {l : Launch} {e : Env} {st : State} {m : MethodId} {args : Array Value} {below : List Frame} {meth : Method} {c : Code} {w : Wp} {o : Int} {Q : St → Prop} (X : CallFix p m c cX6_attach 6 st args lw_all RX6) (hr : meth.sig.returnType = none) (hlk : meth.locks = false) (hT : Tb w st) (hV : Hvl w) (ho : 0 ≤ o ∧ o < 2) (K120 : Int → Int → Int → St → Prop) (hK120 : ∀ (y1 y3 y4 : Int) (σ : St) (H : Heap) (locs : List Loc) (ls : Array Slot), rJ y1 → rI y3 → rI y4 → lv_has ls 6 [(0, .ref (wad w 4 o)), (1, .long (oL y1)), (3, .int (oI y3)), (4, .int (oI y4))] → Wo w σ H → va_S (wA w) st.heap H locs → K120 y1 y3 y4 σ → W p l e (headSpec (ws_ yX6_attach cX6_attach 6 none) rm_Blocks_attach).room st m args below meth c H locs 0 0 (MQ below (QcV w Q) args st 0 0 (wA w)) (F0 m 120 ls [])) : ∀ (y1 y3 y4 : Int) (σ : St) (H : Heap) (locs : List Loc) (ls : Array Slot), rJ y1 → rI y3 → rI y4 → lv_has ls 6 [(0, .ref (wad w 4 o)), (1, .long (oL y1)), (3, .int (oI y3)), (4, .int (oI y4))] → Wo w σ H → va_S (wA w) st.heap H locs → wp_Blocks_attach_b260 (wc w) (wtv w) o Q K120 y1 y3 y4 σ → W p l e (headSpec (ws_ yX6_attach cX6_attach 6 none) rm_Blocks_attach).room st m args below meth c H locs 0 0 (MQ below (QcV w Q) args st 0 0 (wA w)) (F0 m 260 ls []) := by

  intro y1 y3 y4 σ H locs ls ry1 ry3 ry4 hl hW hS h
  unfold wp_Blocks_attach_b260 at h
  obtain ⟨y4_84, ey4_84⟩ : ∃ y : Int, y = w32 (y4 + 1) := ⟨_, rfl⟩
  have h := h y4_84 ey4_84
  have ry4_84 : rI y4_84 := by rw [ey4_84]; exact w32_r _
  refine lv_iinc (v := oI y4_84) (lv' := [(4, .int (oI y4_84)), (0, .ref (wad w 4 o)), (1, .long (oL y1)), (3, .int (oI y3))]) X.1 X.2.1 dX6_attach_260 hl (k := 3) rfl (by rw [ey4_84]; exact oI_add _ _) (by decide) (by first | rfl | simp [catK, catI, catR, catL]) (fun ls hl => ?_)
  refine lv_goto (tgt := 120) X.1 X.2.1 dX6_attach_263 (by decide) ?_
  exact hK120 y1 y3 y4_84 σ _ _ _ ry1 ry3 ry4_84 (lv_sub hl [1, 2, 3, 0] rfl) hW hS h
set_option maxHeartbeats 4000000 in
set_option maxRecDepth 100000 in
theorem wk_Blocks_attach_b174 {p : Program} {l : Launch} {e : Env} {st : State} {m : MethodId} {args : Array Value} {below : List Frame} {meth : Method} {c : Code} {w : Wp} {o : Int} {Q : St → Prop} (X : CallFix p m c cX6_attach 6 st args lw_all RX6) (hr : meth.sig.returnType = none) (hlk : meth.locks = false) (hT : Tb w st) (hV : Hvl w) (ho : 0 ≤ o ∧ o < 2) (K175 : Int → Int → Int → Int → St → Prop) (hK175 : ∀ (y1 y3 y4 y5 : Int) (σ : St) (H : Heap) (locs : List Loc) (ls : Array Slot), rJ y1 → rI y3 → rI y4 → rZ y5 → lv_has ls 6 [(0, .ref (wad w 4 o)), (1, .long (oL y1)), (3, .int (oI y3)), (4, .int (oI y4)), (5, .int (oI y5))] → Wo w σ H → va_S (wA w) st.heap H locs → K175 y1 y3 y4 y5 σ → W p l e (headSpec (ws_ yX6_attach cX6_attach 6 none) rm_Blocks_attach).room st m args below meth c H locs 0 0 (MQ below (QcV w Q) args st 0 0 (wA w)) (F0 m 175 ls [])) : ∀ (y1 y3 y4 y5 t0 t1 : Int) (σ : St) (H : Heap) (locs : List Loc) (ls : Array Slot), rJ y1 → rI y3 → rI y4 → rZ y5 → rI t0 → rI t1 → lv_has ls 6 [(0, .ref (wad w 4 o)), (1, .long (oL y1)), (3, .int (oI y3)), (4, .int (oI y4)), (5, .int (oI y5))] → Wo w σ H → va_S (wA w) st.heap H locs → wp_Blocks_attach_b174 (wc w) (wtv w) o Q K175 y1 y3 y4 y5 t0 t1 σ → W p l e (headSpec (ws_ yX6_attach cX6_attach 6 none) rm_Blocks_attach).room st m args below meth c H locs 0 0 (MQ below (QcV w Q) args st 0 0 (wA w)) (F0 m 174 ls [.int (oI t0), .int (oI t1), .ref (wad w 260 o)]) := by
  have vl260_o : vl w 260 o := hV.hv 260 rfl ⟨by omega, by show _ < (2 : Int); omega⟩
  intro y1 y3 y4 y5 t0 t1 σ H locs ls ry1 ry3 ry4 ry5 rt0 rt1 hl hW hS h
  unfold wp_Blocks_attach_b174 at h
  obtain ⟨bi, h⟩ := h
  refine w_iast (n := (wc w).1) X hT hW hS 260 vl260_o (by decide) rfl rfl bi rt0 dX6_attach_174 (fun H locs hN hS => ?_)
  obtain ⟨σ_85, eσ_85⟩ : ∃ x, x = sA σ 260 o t1 t0 := ⟨_, rfl⟩
  have hWσ_85 : Wo w σ_85 H := eσ_85 ▸ hN
  have h := h σ_85 eσ_85
  clear hN
  exact hK175 y1 y3 y4 y5 σ_85 _ _ _ ry1 ry3 ry4 ry5 (lv_sub hl [0, 1, 2, 3, 4] rfl) hWσ_85 hS h
set_option maxHeartbeats 4000000 in
set_option maxRecDepth 100000 in
theorem wk_Blocks_attach_b175 {p : Program} {l : Launch} {e : Env} {st : State} {m : MethodId} {args : Array Value} {below : List Frame} {meth : Method} {c : Code} {w : Wp} {o : Int} {Q : St → Prop} (X : CallFix p m c cX6_attach 6 st args lw_all RX6) (hr : meth.sig.returnType = none) (hlk : meth.locks = false) (hT : Tb w st) (hV : Hvl w) (ho : 0 ≤ o ∧ o < 2) (K120 : Int → Int → Int → St → Prop) (hK120 : ∀ (y1 y3 y4 : Int) (σ : St) (H : Heap) (locs : List Loc) (ls : Array Slot), rJ y1 → rI y3 → rI y4 → lv_has ls 6 [(0, .ref (wad w 4 o)), (1, .long (oL y1)), (3, .int (oI y3)), (4, .int (oI y4))] → Wo w σ H → va_S (wA w) st.heap H locs → K120 y1 y3 y4 σ → W p l e (headSpec (ws_ yX6_attach cX6_attach 6 none) rm_Blocks_attach).room st m args below meth c H locs 0 0 (MQ below (QcV w Q) args st 0 0 (wA w)) (F0 m 120 ls [])) : ∀ (y1 y3 y4 y5 : Int) (σ : St) (H : Heap) (locs : List Loc) (ls : Array Slot), rJ y1 → rI y3 → rI y4 → rZ y5 → lv_has ls 6 [(0, .ref (wad w 4 o)), (1, .long (oL y1)), (3, .int (oI y3)), (4, .int (oI y4)), (5, .int (oI y5))] → Wo w σ H → va_S (wA w) st.heap H locs → wp_Blocks_attach_b175 (wc w) (wtv w) o Q K120 y1 y3 y4 y5 σ → W p l e (headSpec (ws_ yX6_attach cX6_attach 6 none) rm_Blocks_attach).room st m args below meth c H locs 0 0 (MQ below (QcV w Q) args st 0 0 (wA w)) (F0 m 175 ls []) := by
  have vl2_0 : vl w 2 0 := hV.hv 2 rfl ⟨by omega, by show _ < (1 : Int); omega⟩
  have vl259_o : vl w 259 o := hV.hv 259 rfl ⟨by omega, by show _ < (2 : Int); omega⟩
  have vl4_o : vl w 4 o := hV.hv 4 rfl ⟨by omega, by show _ < (2 : Int); omega⟩
  intro y1 y3 y4 y5 σ H locs ls ry1 ry3 ry4 ry5 hl hW hS h
  unfold wp_Blocks_attach_b175 at h
  refine lv_aload_n X.1 X.2.1 dX6_attach_175 rfl (lv_at hl 0 rfl) ?_
  refine wg (v := .ref (wad w 2 0)) X hT hW 4 0 256 vl4_o rfl rfl (by decide) rfl (by decide) in_X6 q269 rfl dX6_attach_176 ?_
  refine lv_iload X.1 X.2.1 dX6_attach_179 (lv_at hl 3 rfl) ?_
  refine wr_Z (rV (As := [.int (oI y4)]) (rest := []) X hT hW hS (met_Flash_isBroken l (w := w) hV y4 _ σ ry4 h) (cwV 1 X.2.2.2.2 (lw_V q1664 q1665 q1666 q134 q1667) rfl rfl rfl (by decide +kernel) ⟨Nat.le_of_ble_eq_true rfl, Nat.le_of_ble_eq_true rfl⟩) vl2_0 (by decide) rfl rfl hl.1 rfl (by first | exact Nat.le_of_ble_eq_true rfl | simp [catK, catI, catR, catL]) dX6_attach_181 ⟨Nat.le_refl _, Nat.le_refl _⟩) hS (fun r_86 σ_87 H locs rr_86 rkσ_87 h hWσ_87 hS => ?_)
  have h := h rr_86 rkσ_87
  refine w_if_eq (tgt := 199) X rr_86.i dX6_attach_184 (by decide) (fun hc => ?_) (fun hc => ?_)
  · have h := h.1 hc
    refine lv_iload X.1 X.2.1 dX6_attach_199 (lv_at hl 4 rfl) ?_
    refine w_if_eq (tgt := 228) X ry5.i dX6_attach_201 (by decide) (fun hc => ?_) (fun hc => ?_)
    · have h := h.1 hc
      exact wk_Blocks_attach_b228 X hr hlk hT hV ho (wp_Blocks_attach_b260 (wc w) (wtv w) o Q K120) (wk_Blocks_attach_b260 X hr hlk hT hV ho K120 hK120) y1 y3 y4 y5 σ_87 _ _ _ ry1 ry3 ry4 ry5 (lv_sub hl [0, 1, 2, 3, 4] rfl) hWσ_87 hS h
    · have h := h.2 hc
      refine lv_aload_n X.1 X.2.1 dX6_attach_204 rfl (lv_at hl 0 rfl) ?_
      refine wg (v := .ref (wad w 2 0)) X hT hWσ_87 4 0 256 vl4_o rfl rfl (by decide) rfl (by decide) in_X6 q269 rfl dX6_attach_205 ?_
      refine lv_iload X.1 X.2.1 dX6_attach_208 (lv_at hl 3 rfl) ?_
      refine wr_I (rV (As := [.int (oI y4)]) (rest := []) X hT hWσ_87 hS (met_Flash_written l (w := w) hV y4 _ σ_87 ry4 h) (cwV 1 X.2.2.2.2 (lw_V q1021 q1022 q1023 q134 q1024) rfl rfl rfl (by decide +kernel) ⟨Nat.le_of_ble_eq_true rfl, Nat.le_of_ble_eq_true rfl⟩) vl2_0 (by decide) rfl rfl hl.1 rfl (by first | exact Nat.le_of_ble_eq_true rfl | simp [catK, catI, catR, catL]) dX6_attach_210 ⟨Nat.le_refl _, Nat.le_refl _⟩) hS (fun r_88 σ_89 H locs rr_88 rkσ_89 h hWσ_89 hS => ?_)
      have h := h rr_88 rkσ_89
      refine lv_iconst (v := oI 1) X.1 X.2.1 dX6_attach_213 rfl ?_
      refine w_icmp_ne (tgt := 228) X rr_88 rZ_1.i dX6_attach_214 (by decide) (fun hc => ?_) (fun hc => ?_)
      · have h := h.1 hc
        exact wk_Blocks_attach_b228 X hr hlk hT hV ho (wp_Blocks_attach_b260 (wc w) (wtv w) o Q K120) (wk_Blocks_attach_b260 X hr hlk hT hV ho K120 hK120) y1 y3 y4 y5 σ_89 _ _ _ ry1 ry3 ry4 ry5 (lv_sub hl [0, 1, 2, 3, 4] rfl) hWσ_89 hS h
      · have h := h.2 hc
        refine lv_aload_n X.1 X.2.1 dX6_attach_217 rfl (lv_at hl 0 rfl) ?_
        refine wg (v := .ref (wad w 259 o)) X hT hWσ_89 4 3 259 vl4_o rfl rfl (by decide) rfl (by decide) in_X6 q274 rfl dX6_attach_218 ?_
        refine lv_iload X.1 X.2.1 dX6_attach_221 (lv_at hl 3 rfl) ?_
        refine lv_iconst (v := oI (-1)) X.1 X.2.1 dX6_attach_223 rfl ?_
        obtain ⟨bi, h⟩ := h
        refine w_iast (n := (wc w).1) X hT hWσ_89 hS 259 vl259_o (by decide) rfl rfl bi ((rB_lit (-1) (by decide)).i) dX6_attach_224 (fun H locs hN hS => ?_)
        obtain ⟨σ_90, eσ_90⟩ : ∃ x, x = sA σ_89 259 o y4 (-1) := ⟨_, rfl⟩
        have hWσ_90 : Wo w σ_90 H := eσ_90 ▸ hN
        have h := h σ_90 eσ_90
        clear hN
        refine lv_goto (tgt := 260) X.1 X.2.1 dX6_attach_225 (by decide) ?_
        exact wk_Blocks_attach_b260 X hr hlk hT hV ho K120 hK120 y1 y3 y4 σ_90 _ _ _ ry1 ry3 ry4 (lv_sub hl [0, 1, 2, 3] rfl) hWσ_90 hS h
  · have h := h.2 hc
    refine lv_aload_n X.1 X.2.1 dX6_attach_187 rfl (lv_at hl 0 rfl) ?_
    refine wg (v := .ref (wad w 259 o)) X hT hWσ_87 4 3 259 vl4_o rfl rfl (by decide) rfl (by decide) in_X6 q274 rfl dX6_attach_188 ?_
    refine lv_iload X.1 X.2.1 dX6_attach_191 (lv_at hl 3 rfl) ?_
    refine lv_bipush (v := oI (-3)) X.1 X.2.1 dX6_attach_193 (by decide) ?_
    obtain ⟨bi, h⟩ := h
    refine w_iast (n := (wc w).1) X hT hWσ_87 hS 259 vl259_o (by decide) rfl rfl bi ((rB_lit (-3) (by decide)).i) dX6_attach_195 (fun H locs hN hS => ?_)
    obtain ⟨σ_91, eσ_91⟩ : ∃ x, x = sA σ_87 259 o y4 (-3) := ⟨_, rfl⟩
    have hWσ_91 : Wo w σ_91 H := eσ_91 ▸ hN
    have h := h σ_91 eσ_91
    clear hN
    refine lv_goto (tgt := 260) X.1 X.2.1 dX6_attach_196 (by decide) ?_
    exact wk_Blocks_attach_b260 X hr hlk hT hV ho K120 hK120 y1 y3 y4 σ_91 _ _ _ ry1 ry3 ry4 (lv_sub hl [0, 1, 2, 3] rfl) hWσ_91 hS h
set_option maxHeartbeats 4000000 in
set_option maxRecDepth 100000 in
theorem wk_Blocks_attach_b90 {p : Program} {l : Launch} {e : Env} {st : State} {m : MethodId} {args : Array Value} {below : List Frame} {meth : Method} {c : Code} {w : Wp} {o : Int} {Q : St → Prop} (X : CallFix p m c cX6_attach 6 st args lw_all RX6) (hr : meth.sig.returnType = none) (hlk : meth.locks = false) (hT : Tb w st) (hV : Hvl w) (ho : 0 ≤ o ∧ o < 2) (K25 : Int → Int → Int → St → Prop) (hK25 : ∀ (y1 y3 y4 : Int) (σ : St) (H : Heap) (locs : List Loc) (ls : Array Slot), rJ y1 → rI y3 → rI y4 → lv_has ls 6 [(0, .ref (wad w 4 o)), (1, .long (oL y1)), (3, .int (oI y3)), (4, .int (oI y4))] → Wo w σ H → va_S (wA w) st.heap H locs → K25 y1 y3 y4 σ → W p l e (headSpec (ws_ yX6_attach cX6_attach 6 none) rm_Blocks_attach).room st m args below meth c H locs 0 0 (MQ below (QcV w Q) args st 0 0 (wA w)) (F0 m 25 ls [])) : ∀ (y3 y4 t0 t1 : Int) (σ : St) (H : Heap) (locs : List Loc) (ls : Array Slot), rI y3 → rI y4 → rJ t0 → rJ t1 → lv_has ls 6 [(0, .ref (wad w 4 o)), (3, .int (oI y3)), (4, .int (oI y4))] → Wo w σ H → va_S (wA w) st.heap H locs → wp_Blocks_attach_b90 (wc w) (wtv w) o Q K25 y3 y4 t0 t1 σ → W p l e (headSpec (ws_ yX6_attach cX6_attach 6 none) rm_Blocks_attach).room st m args below meth c H locs 0 0 (MQ below (QcV w Q) args st 0 0 (wA w)) (F0 m 90 ls [.long (oL t0), .long (oL t1)]) := by
  have vl260_o : vl w 260 o := hV.hv 260 rfl ⟨by omega, by show _ < (2 : Int); omega⟩
  have vl4_o : vl w 4 o := hV.hv 4 rfl ⟨by omega, by show _ < (2 : Int); omega⟩
  intro y3 y4 t0 t1 σ H locs ls ry3 ry4 rt0 rt1 hl hW hS h
  unfold wp_Blocks_attach_b90 at h
  refine w_ladd X dX6_attach_90 ?_
  refine w_topl (fun y1_92 ey1_92 => ?_)
  have h := h y1_92 ey1_92
  have ry1_92 : rJ y1_92 := by rw [ey1_92]; exact (w64_r _)
  refine lv_lstore_n (i := 1) (lv' := [(1, .long (oL y1_92)), (0, .ref (wad w 4 o)), (3, .int (oI y3)), (4, .int (oI y4))]) X.1 X.2.1 dX6_attach_91 rfl hl (by decide) (by first | rfl | simp [catK, catI, catR, catL]) (fun ls hl => ?_)
  refine lv_iload_n X.1 X.2.1 dX6_attach_92 rfl (lv_at hl 2 rfl) ?_
  refine lv_aload_n X.1 X.2.1 dX6_attach_93 rfl (lv_at hl 1 rfl) ?_
  refine wg (v := .ref (wad w 260 o)) X hT hW 4 4 260 vl4_o rfl rfl (by decide) rfl (by decide) in_X6 q275 rfl dX6_attach_94 ?_
  refine lv_iload X.1 X.2.1 dX6_attach_97 (lv_at hl 3 rfl) ?_
  obtain ⟨bi, h⟩ := h
  refine w_iald (n := (wc w).1) X hT hW 260 vl260_o (by decide) rfl rfl bi dX6_attach_99 ?_
  refine lv_iconst (v := oI (-1)) X.1 X.2.1 dX6_attach_100 rfl ?_
  refine w_cut (pc2 := 109) (st2 := [.int (oI (if (gA σ 260 o y4) = (-1) then (0 : Int) else (1 : Int))), .int (oI y3)]) (fun hj => ?_) ?_
  · refine w_icmp_ne (tgt := 108) X (hW.r.ai 260 o y4 rfl) ((rB_lit (-1) (by decide)).i) dX6_attach_101 (by decide) (fun hc => ?_) (fun hc => ?_)
    · refine lv_iconst (v := oI 1) X.1 X.2.1 dX6_attach_108 rfl ?_
      rw [if_neg hc] at hj; exact hj
    · refine lv_iconst (v := oI 0) X.1 X.2.1 dX6_attach_104 rfl ?_
      refine lv_goto (tgt := 109) X.1 X.2.1 dX6_attach_105 (by decide) ?_
      rw [if_pos hc] at hj; exact hj
  refine w_iadd X dX6_attach_109 ?_
  refine w_top (fun y3_93 ey3_93 => ?_)
  have h := h y3_93 ey3_93
  have ry3_93 : rI y3_93 := by rw [ey3_93]; exact (w32_r _)
  refine lv_istore_n (i := 3) (lv' := [(3, .int (oI y3_93)), (1, .long (oL y1_92)), (0, .ref (wad w 4 o)), (4, .int (oI y4))]) X.1 X.2.1 dX6_attach_110 rfl hl (by decide) (by first | rfl | simp [catK, catI, catR, catL]) (fun ls hl => ?_)
  obtain ⟨y4_94, ey4_94⟩ : ∃ y : Int, y = w32 (y4 + 1) := ⟨_, rfl⟩
  have h := h y4_94 ey4_94
  have ry4_94 : rI y4_94 := by rw [ey4_94]; exact w32_r _
  refine lv_iinc (v := oI y4_94) (lv' := [(4, .int (oI y4_94)), (3, .int (oI y3_93)), (1, .long (oL y1_92)), (0, .ref (wad w 4 o))]) X.1 X.2.1 dX6_attach_111 hl (k := 3) rfl (by rw [ey4_94]; exact oI_add _ _) (by decide) (by first | rfl | simp [catK, catI, catR, catL]) (fun ls hl => ?_)
  refine lv_goto (tgt := 25) X.1 X.2.1 dX6_attach_114 (by decide) ?_
  exact hK25 y1_92 y3_93 y4_94 σ _ _ _ ry1_92 ry3_93 ry4_94 (lv_sub hl [3, 2, 1, 0] rfl) hW hS h
set_option maxHeartbeats 4000000 in
set_option maxRecDepth 100000 in
theorem wk_Blocks_attach_b65 {p : Program} {l : Launch} {e : Env} {st : State} {m : MethodId} {args : Array Value} {below : List Frame} {meth : Method} {c : Code} {w : Wp} {o : Int} {Q : St → Prop} (X : CallFix p m c cX6_attach 6 st args lw_all RX6) (hr : meth.sig.returnType = none) (hlk : meth.locks = false) (hT : Tb w st) (hV : Hvl w) (ho : 0 ≤ o ∧ o < 2) (K25 : Int → Int → Int → St → Prop) (hK25 : ∀ (y1 y3 y4 : Int) (σ : St) (H : Heap) (locs : List Loc) (ls : Array Slot), rJ y1 → rI y3 → rI y4 → lv_has ls 6 [(0, .ref (wad w 4 o)), (1, .long (oL y1)), (3, .int (oI y3)), (4, .int (oI y4))] → Wo w σ H → va_S (wA w) st.heap H locs → K25 y1 y3 y4 σ → W p l e (headSpec (ws_ yX6_attach cX6_attach 6 none) rm_Blocks_attach).room st m args below meth c H locs 0 0 (MQ below (QcV w Q) args st 0 0 (wA w)) (F0 m 25 ls [])) : ∀ (y1 y3 y4 t0 t1 : Int) (σ : St) (H : Heap) (locs : List Loc) (ls : Array Slot), rJ y1 → rI y3 → rI y4 → rI t0 → rI t1 → lv_has ls 6 [(0, .ref (wad w 4 o)), (1, .long (oL y1)), (3, .int (oI y3)), (4, .int (oI y4))] → Wo w σ H → va_S (wA w) st.heap H locs → wp_Blocks_attach_b65 (wc w) (wtv w) o Q K25 y1 y3 y4 t0 t1 σ → W p l e (headSpec (ws_ yX6_attach cX6_attach 6 none) rm_Blocks_attach).room st m args below meth c H locs 0 0 (MQ below (QcV w Q) args st 0 0 (wA w)) (F0 m 65 ls [.int (oI t0), .int (oI t1), .ref (wad w 260 o)]) := by
  have vl260_o : vl w 260 o := hV.hv 260 rfl ⟨by omega, by show _ < (2 : Int); omega⟩
  have vl4_o : vl w 4 o := hV.hv 4 rfl ⟨by omega, by show _ < (2 : Int); omega⟩
  intro y1 y3 y4 t0 t1 σ H locs ls ry1 ry3 ry4 rt0 rt1 hl hW hS h
  unfold wp_Blocks_attach_b65 at h
  obtain ⟨bi, h⟩ := h
  refine w_iast (n := (wc w).1) X hT hW hS 260 vl260_o (by decide) rfl rfl bi rt0 dX6_attach_65 (fun H locs hN hS => ?_)
  obtain ⟨σ_95, eσ_95⟩ : ∃ x, x = sA σ 260 o t1 t0 := ⟨_, rfl⟩
  have hWσ_95 : Wo w σ_95 H := eσ_95 ▸ hN
  have h := h σ_95 eσ_95
  clear hN
  refine lv_lload_n X.1 X.2.1 dX6_attach_66 rfl (lv_at hl 1 rfl) ?_
  refine lv_aload_n X.1 X.2.1 dX6_attach_67 rfl (lv_at hl 0 rfl) ?_
  refine wg (v := .ref (wad w 260 o)) X hT hWσ_95 4 4 260 vl4_o rfl rfl (by decide) rfl (by decide) in_X6 q275 rfl dX6_attach_68 ?_
  refine lv_iload X.1 X.2.1 dX6_attach_71 (lv_at hl 3 rfl) ?_
  obtain ⟨bi, h⟩ := h
  refine w_iald (n := (wc w).1) X hT hWσ_95 260 vl260_o (by decide) rfl rfl bi dX6_attach_73 ?_
  refine lv_iconst (v := oI (-1)) X.1 X.2.1 dX6_attach_74 rfl ?_
  refine w_icmp_ne (tgt := 82) X (hWσ_95.r.ai 260 o y4 rfl) ((rB_lit (-1) (by decide)).i) dX6_attach_75 (by decide) (fun hc => ?_) (fun hc => ?_)
  · have h := h.1 hc
    refine lv_aload_n X.1 X.2.1 dX6_attach_82 rfl (lv_at hl 0 rfl) ?_
    refine wg (v := .ref (wad w 260 o)) X hT hWσ_95 4 4 260 vl4_o rfl rfl (by decide) rfl (by decide) in_X6 q275 rfl dX6_attach_83 ?_
    refine lv_iload X.1 X.2.1 dX6_attach_86 (lv_at hl 3 rfl) ?_
    obtain ⟨bi, h⟩ := h
    refine w_iald (n := (wc w).1) X hT hWσ_95 260 vl260_o (by decide) rfl rfl bi dX6_attach_88 ?_
    refine w_i2l X (hWσ_95.r.ai 260 o y4 rfl) dX6_attach_89 ?_
    exact wk_Blocks_attach_b90 X hr hlk hT hV ho K25 hK25 y3 y4 (gA σ_95 260 o y4) y1 σ_95 _ _ _ ry3 ry4 (rI.j (hWσ_95.r.ai 260 o y4 rfl)) ry1 (lv_sub hl [0, 2, 3] rfl) hWσ_95 hS h
  · have h := h.2 hc
    refine lv_lconst (v := oL 0) X.1 X.2.1 dX6_attach_78 (by decide) ?_
    refine lv_goto (tgt := 90) X.1 X.2.1 dX6_attach_79 (by decide) ?_
    exact wk_Blocks_attach_b90 X hr hlk hT hV ho K25 hK25 y3 y4 0 y1 σ_95 _ _ _ ry3 ry4 (rJ_lit 0 (by decide)) ry1 (lv_sub hl [0, 2, 3] rfl) hWσ_95 hS h
set_option maxHeartbeats 4000000 in
set_option maxRecDepth 100000 in
theorem wk_Blocks_attach_L120B {p : Program} {l : Launch} {e : Env} {st : State} {m : MethodId} {args : Array Value} {below : List Frame} {meth : Method} {c : Code} {w : Wp} {o : Int} {Q : St → Prop} (X : CallFix p m c cX6_attach 6 st args lw_all RX6) (hr : meth.sig.returnType = none) (hlk : meth.locks = false) (hT : Tb w st) (hV : Hvl w) (ho : 0 ≤ o ∧ o < 2) (K120 : Int → Int → Int → St → Prop) (hK120 : ∀ (y1 y3 y4 : Int) (σ : St) (H : Heap) (locs : List Loc) (ls : Array Slot), rJ y1 → rI y3 → rI y4 → lv_has ls 6 [(0, .ref (wad w 4 o)), (1, .long (oL y1)), (3, .int (oI y3)), (4, .int (oI y4))] → Wo w σ H → va_S (wA w) st.heap H locs → K120 y1 y3 y4 σ → W p l e (headSpec (ws_ yX6_attach cX6_attach 6 none) rm_Blocks_attach).room st m args below meth c H locs 0 0 (MQ below (QcV w Q) args st 0 0 (wA w)) (F0 m 120 ls [])) : ∀ (y1 y3 y4 : Int) (σ : St) (H : Heap) (locs : List Loc) (ls : Array Slot), rJ y1 → rI y3 → rI y4 → lv_has ls 6 [(0, .ref (wad w 4 o)), (1, .long (oL y1)), (3, .int (oI y3)), (4, .int (oI y4))] → Wo w σ H → va_S (wA w) st.heap H locs → wp_Blocks_attach_L120 (wc w) (wtv w) o Q K120 y1 y3 y4 σ → W p l e (headSpec (ws_ yX6_attach cX6_attach 6 none) rm_Blocks_attach).room st m args below meth c H locs 0 0 (MQ below (QcV w Q) args st 0 0 (wA w)) (F0 m 120 ls []) := by
  have vl2_0 : vl w 2 0 := hV.hv 2 rfl ⟨by omega, by show _ < (1 : Int); omega⟩
  have vl260_o : vl w 260 o := hV.hv 260 rfl ⟨by omega, by show _ < (2 : Int); omega⟩
  have vl4_o : vl w 4 o := hV.hv 4 rfl ⟨by omega, by show _ < (2 : Int); omega⟩
  intro y1 y3 y4 σ H locs ls ry1 ry3 ry4 hl hW hS h
  unfold wp_Blocks_attach_L120 at h
  refine lv_iload X.1 X.2.1 dX6_attach_120 (lv_at hl 3 rfl) ?_
  refine lv_aload_n X.1 X.2.1 dX6_attach_122 rfl (lv_at hl 0 rfl) ?_
  refine wg (v := .ref (wad w 2 0)) X hT hW 4 0 256 vl4_o rfl rfl (by decide) rfl (by decide) in_X6 q269 rfl dX6_attach_123 ?_
  refine wg (v := .int (oI (wc w).1)) X hT hW 2 0 128 vl2_0 rfl rfl (by decide) rfl (by decide) in_X4 q221 rfl dX6_attach_126 ?_
  refine w_icmp_ge (tgt := 266) X ry4 (cin_r hT.c 128) dX6_attach_129 (by decide) (fun hc => ?_) (fun hc => ?_)
  · have h := h.1 hc
    exact wret_V X hr hlk hW hS h dX6_attach_266
  · have h := h.2 hc
    refine lv_aload_n X.1 X.2.1 dX6_attach_132 rfl (lv_at hl 0 rfl) ?_
    refine wg (v := .ref (wad w 260 o)) X hT hW 4 4 260 vl4_o rfl rfl (by decide) rfl (by decide) in_X6 q275 rfl dX6_attach_133 ?_
    refine lv_iload X.1 X.2.1 dX6_attach_136 (lv_at hl 3 rfl) ?_
    obtain ⟨bi, h⟩ := h
    refine w_iald (n := (wc w).1) X hT hW 260 vl260_o (by decide) rfl rfl bi dX6_attach_138 ?_
    refine lv_iconst (v := oI (-1)) X.1 X.2.1 dX6_attach_139 rfl ?_
    refine w_cut (pc2 := 148) (st2 := [.int (oI (if (gA σ 260 o y4) = (-1) then (0 : Int) else (1 : Int)))]) (fun hj => ?_) ?_
    · refine w_icmp_eq (tgt := 147) X (hW.r.ai 260 o y4 rfl) ((rB_lit (-1) (by decide)).i) dX6_attach_140 (by decide) (fun hc => ?_) (fun hc => ?_)
      · refine lv_iconst (v := oI 0) X.1 X.2.1 dX6_attach_147 rfl ?_
        rw [if_pos hc] at hj; exact hj
      · refine lv_iconst (v := oI 1) X.1 X.2.1 dX6_attach_143 rfl ?_
        refine lv_goto (tgt := 148) X.1 X.2.1 dX6_attach_144 (by decide) ?_
        rw [if_neg hc] at hj; exact hj
    refine w_top (fun y5_96 ey5_96 => ?_)
    have h := h y5_96 ey5_96
    have ry5_96 : rZ y5_96 := by rw [ey5_96]; exact (ite_rZ rZ_0 rZ_1)
    refine lv_istore (i := 5) (lv' := [(5, .int (oI y5_96)), (0, .ref (wad w 4 o)), (1, .long (oL y1)), (3, .int (oI y3)), (4, .int (oI y4))]) X.1 X.2.1 dX6_attach_148 hl (by decide) (by first | rfl | simp [catK, catI, catR, catL]) (fun ls hl => ?_)
    refine lv_iload X.1 X.2.1 dX6_attach_150 (lv_at hl 0 rfl) ?_
    refine w_if_ne (tgt := 175) X ry5_96.i dX6_attach_152 (by decide) (fun hc => ?_) (fun hc => ?_)
    · have h := h.1 hc
      exact wk_Blocks_attach_b175 X hr hlk hT hV ho K120 hK120 y1 y3 y4 y5_96 σ _ _ _ ry1 ry3 ry4 ry5_96 (lv_sub hl [1, 2, 3, 4, 0] rfl) hW hS h
    · have h := h.2 hc
      refine lv_aload_n X.1 X.2.1 dX6_attach_155 rfl (lv_at hl 1 rfl) ?_
      refine wg (v := .ref (wad w 260 o)) X hT hW 4 4 260 vl4_o rfl rfl (by decide) rfl (by decide) in_X6 q275 rfl dX6_attach_156 ?_
      refine lv_iload X.1 X.2.1 dX6_attach_159 (lv_at hl 4 rfl) ?_
      refine lv_iload_n X.1 X.2.1 dX6_attach_161 rfl (lv_at hl 3 rfl) ?_
      refine w_if_ne (tgt := 169) X ry3 dX6_attach_162 (by decide) (fun hc => ?_) (fun hc => ?_)
      · have h := h.1 hc
        refine lv_lload_n X.1 X.2.1 dX6_attach_169 rfl (lv_at hl 2 rfl) ?_
        refine lv_iload_n X.1 X.2.1 dX6_attach_170 rfl (lv_at hl 3 rfl) ?_
        refine w_i2l X ry3 dX6_attach_171 ?_
        obtain ⟨hz0, h⟩ := h
        refine w_ldiv X ry1 (rI.j ry3) hz0 dX6_attach_172 ?_
        refine w_l2i X dX6_attach_173 ?_
        exact wk_Blocks_attach_b174 X hr hlk hT hV ho (wp_Blocks_attach_b175 (wc w) (wtv w) o Q K120) (wk_Blocks_attach_b175 X hr hlk hT hV ho K120 hK120) y1 y3 y4 y5_96 (w32 (jdl y1 y3)) y4 σ _ _ _ ry1 ry3 ry4 ry5_96 (w32_r _) ry4 (lv_sub hl [1, 2, 3, 4, 0] rfl) hW hS h
      · have h := h.2 hc
        refine lv_iconst (v := oI 0) X.1 X.2.1 dX6_attach_165 rfl ?_
        refine lv_goto (tgt := 174) X.1 X.2.1 dX6_attach_166 (by decide) ?_
        exact wk_Blocks_attach_b174 X hr hlk hT hV ho (wp_Blocks_attach_b175 (wc w) (wtv w) o Q K120) (wk_Blocks_attach_b175 X hr hlk hT hV ho K120 hK120) y1 y3 y4 y5_96 0 y4 σ _ _ _ ry1 ry3 ry4 ry5_96 rZ_0.i ry4 (lv_sub hl [1, 2, 3, 4, 0] rfl) hW hS h
theorem wk_Blocks_attach_L120 {p : Program} {l : Launch} {e : Env} {st : State} {m : MethodId} {args : Array Value} {below : List Frame} {meth : Method} {c : Code} {w : Wp} {o : Int} {Q : St → Prop} (X : CallFix p m c cX6_attach 6 st args lw_all RX6) (hr : meth.sig.returnType = none) (hlk : meth.locks = false) (hT : Tb w st) (hV : Hvl w) (ho : 0 ≤ o ∧ o < 2) : ∀ (y1 y3 y4 : Int) (σ : St) (H : Heap) (locs : List Loc) (ls : Array Slot), rJ y1 → rI y3 → rI y4 → lv_has ls 6 [(0, .ref (wad w 4 o)), (1, .long (oL y1)), (3, .int (oI y3)), (4, .int (oI y4))] → Wo w σ H → va_S (wA w) st.heap H locs → lQ3 (wp_Blocks_attach_L120 (wc w) (wtv w) o Q) y1 y3 y4 σ → W p l e (headSpec (ws_ yX6_attach cX6_attach 6 none) rm_Blocks_attach).room st m args below meth c H locs 0 0 (MQ below (QcV w Q) args st 0 0 (wA w)) (F0 m 120 ls []) := by
  intro y1 y3 y4 σ H locs ls ry1 ry3 ry4 hl hW hS h
  obtain ⟨fu, h⟩ := h
  induction fu generalizing y1 y3 y4 σ H locs ls with
  | zero => exact h.elim
  | succ fu ih =>
    exact wk_Blocks_attach_L120B X hr hlk hT hV ho (lq3 (wp_Blocks_attach_L120 (wc w) (wtv w) o Q) fu) (fun y1 y3 y4 σ H locs ls ry1 ry3 ry4 hl hW hS h => ih y1 y3 y4 σ H locs ls ry1 ry3 ry4 hl hW hS h) y1 y3 y4 σ H locs ls ry1 ry3 ry4 hl hW hS h
set_option maxHeartbeats 4000000 in
set_option maxRecDepth 100000 in
theorem wk_Blocks_attach_L25B {p : Program} {l : Launch} {e : Env} {st : State} {m : MethodId} {args : Array Value} {below : List Frame} {meth : Method} {c : Code} {w : Wp} {o : Int} {Q : St → Prop} (X : CallFix p m c cX6_attach 6 st args lw_all RX6) (hr : meth.sig.returnType = none) (hlk : meth.locks = false) (hT : Tb w st) (hV : Hvl w) (ho : 0 ≤ o ∧ o < 2) (K25 : Int → Int → Int → St → Prop) (hK25 : ∀ (y1 y3 y4 : Int) (σ : St) (H : Heap) (locs : List Loc) (ls : Array Slot), rJ y1 → rI y3 → rI y4 → lv_has ls 6 [(0, .ref (wad w 4 o)), (1, .long (oL y1)), (3, .int (oI y3)), (4, .int (oI y4))] → Wo w σ H → va_S (wA w) st.heap H locs → K25 y1 y3 y4 σ → W p l e (headSpec (ws_ yX6_attach cX6_attach 6 none) rm_Blocks_attach).room st m args below meth c H locs 0 0 (MQ below (QcV w Q) args st 0 0 (wA w)) (F0 m 25 ls [])) : ∀ (y1 y3 y4 : Int) (σ : St) (H : Heap) (locs : List Loc) (ls : Array Slot), rJ y1 → rI y3 → rI y4 → lv_has ls 6 [(0, .ref (wad w 4 o)), (1, .long (oL y1)), (3, .int (oI y3)), (4, .int (oI y4))] → Wo w σ H → va_S (wA w) st.heap H locs → wp_Blocks_attach_L25 (wc w) (wtv w) o Q K25 y1 y3 y4 σ → W p l e (headSpec (ws_ yX6_attach cX6_attach 6 none) rm_Blocks_attach).room st m args below meth c H locs 0 0 (MQ below (QcV w Q) args st 0 0 (wA w)) (F0 m 25 ls []) := by
  have vl2_0 : vl w 2 0 := hV.hv 2 rfl ⟨by omega, by show _ < (1 : Int); omega⟩
  have vl260_o : vl w 260 o := hV.hv 260 rfl ⟨by omega, by show _ < (2 : Int); omega⟩
  have vl4_o : vl w 4 o := hV.hv 4 rfl ⟨by omega, by show _ < (2 : Int); omega⟩
  intro y1 y3 y4 σ H locs ls ry1 ry3 ry4 hl hW hS h
  unfold wp_Blocks_attach_L25 at h
  refine lv_iload X.1 X.2.1 dX6_attach_25 (lv_at hl 3 rfl) ?_
  refine lv_aload_n X.1 X.2.1 dX6_attach_27 rfl (lv_at hl 0 rfl) ?_
  refine wg (v := .ref (wad w 2 0)) X hT hW 4 0 256 vl4_o rfl rfl (by decide) rfl (by decide) in_X6 q269 rfl dX6_attach_28 ?_
  refine wg (v := .int (oI (wc w).1)) X hT hW 2 0 128 vl2_0 rfl rfl (by decide) rfl (by decide) in_X4 q221 rfl dX6_attach_31 ?_
  refine w_icmp_ge (tgt := 117) X ry4 (cin_r hT.c 128) dX6_attach_34 (by decide) (fun hc => ?_) (fun hc => ?_)
  · have h := h.1 hc
    refine lv_iconst (v := oI 0) X.1 X.2.1 dX6_attach_117 rfl ?_
    refine lv_istore (i := 4) (lv' := [(4, .int (oI 0)), (0, .ref (wad w 4 o)), (1, .long (oL y1)), (3, .int (oI y3))]) X.1 X.2.1 dX6_attach_118 hl (by decide) (by first | rfl | simp [catK, catI, catR, catL]) (fun ls hl => ?_)
    exact wk_Blocks_attach_L120 X hr hlk hT hV ho y1 y3 0 σ _ _ _ ry1 ry3 rZ_0.i (lv_sub hl [1, 2, 3, 0] rfl) hW hS h
  · have h := h.2 hc
    refine lv_aload_n X.1 X.2.1 dX6_attach_37 rfl (lv_at hl 0 rfl) ?_
    refine wg (v := .ref (wad w 260 o)) X hT hW 4 4 260 vl4_o rfl rfl (by decide) rfl (by decide) in_X6 q275 rfl dX6_attach_38 ?_
    refine lv_iload X.1 X.2.1 dX6_attach_41 (lv_at hl 3 rfl) ?_
    refine lv_aload_n X.1 X.2.1 dX6_attach_43 rfl (lv_at hl 0 rfl) ?_
    refine wg (v := .ref (wad w 2 0)) X hT hW 4 0 256 vl4_o rfl rfl (by decide) rfl (by decide) in_X6 q269 rfl dX6_attach_44 ?_
    refine lv_iload X.1 X.2.1 dX6_attach_47 (lv_at hl 3 rfl) ?_
    refine wr_Z (rV (As := [.int (oI y4)]) (rest := [.int (oI y4), .ref (wad w 260 o)]) X hT hW hS (met_Flash_isBroken l (w := w) hV y4 _ σ ry4 h) (cwV 1 X.2.2.2.2 (lw_V q1664 q1665 q1666 q134 q1667) rfl rfl rfl (by decide +kernel) ⟨Nat.le_of_ble_eq_true rfl, Nat.le_of_ble_eq_true rfl⟩) vl2_0 (by decide) rfl rfl hl.1 rfl (by first | exact Nat.le_of_ble_eq_true rfl | simp [catK, catI, catR, catL]) dX6_attach_49 ⟨Nat.le_refl _, Nat.le_refl _⟩) hS (fun r_97 σ_98 H locs rr_97 rkσ_98 h hWσ_98 hS => ?_)
    have h := h rr_97 rkσ_98
    refine w_if_eq (tgt := 59) X rr_97.i dX6_attach_52 (by decide) (fun hc => ?_) (fun hc => ?_)
    · have h := h.1 hc
      refine lv_aload_n X.1 X.2.1 dX6_attach_59 rfl (lv_at hl 0 rfl) ?_
      refine lv_iload X.1 X.2.1 dX6_attach_60 (lv_at hl 3 rfl) ?_
      refine wr_I (rV (As := [.int (oI y4)]) (rest := [.int (oI y4), .ref (wad w 260 o)]) X hT hWσ_98 hS (met_Blocks_readErased l (w := w) hV o y4 _ σ_98 (by omega) ry4 h) (cwV 1 X.2.2.2.2 (lw_V q1668 q1670 qs71 q137 q1671) rfl rfl rfl (by decide +kernel) ⟨Nat.le_of_ble_eq_true rfl, Nat.le_of_ble_eq_true rfl⟩) vl4_o (by decide) rfl rfl hl.1 rfl (by first | exact Nat.le_of_ble_eq_true rfl | simp [catK, catI, catR, catL]) dX6_attach_62 ⟨Nat.le_refl _, Nat.le_refl _⟩) hS (fun r_99 σ_100 H locs rr_99 rkσ_100 h hWσ_100 hS => ?_)
      have h := h rr_99 rkσ_100
      exact wk_Blocks_attach_b65 X hr hlk hT hV ho K25 hK25 y1 y3 y4 r_99 y4 σ_100 _ _ _ ry1 ry3 ry4 rr_99 ry4 (lv_sub hl [0, 1, 2, 3] rfl) hWσ_100 hS h
    · have h := h.2 hc
      refine lv_iconst (v := oI (-1)) X.1 X.2.1 dX6_attach_55 rfl ?_
      refine lv_goto (tgt := 65) X.1 X.2.1 dX6_attach_56 (by decide) ?_
      exact wk_Blocks_attach_b65 X hr hlk hT hV ho K25 hK25 y1 y3 y4 (-1) y4 σ_98 _ _ _ ry1 ry3 ry4 ((rB_lit (-1) (by decide)).i) ry4 (lv_sub hl [0, 1, 2, 3] rfl) hWσ_98 hS h
theorem wk_Blocks_attach_L25 {p : Program} {l : Launch} {e : Env} {st : State} {m : MethodId} {args : Array Value} {below : List Frame} {meth : Method} {c : Code} {w : Wp} {o : Int} {Q : St → Prop} (X : CallFix p m c cX6_attach 6 st args lw_all RX6) (hr : meth.sig.returnType = none) (hlk : meth.locks = false) (hT : Tb w st) (hV : Hvl w) (ho : 0 ≤ o ∧ o < 2) : ∀ (y1 y3 y4 : Int) (σ : St) (H : Heap) (locs : List Loc) (ls : Array Slot), rJ y1 → rI y3 → rI y4 → lv_has ls 6 [(0, .ref (wad w 4 o)), (1, .long (oL y1)), (3, .int (oI y3)), (4, .int (oI y4))] → Wo w σ H → va_S (wA w) st.heap H locs → lQ3 (wp_Blocks_attach_L25 (wc w) (wtv w) o Q) y1 y3 y4 σ → W p l e (headSpec (ws_ yX6_attach cX6_attach 6 none) rm_Blocks_attach).room st m args below meth c H locs 0 0 (MQ below (QcV w Q) args st 0 0 (wA w)) (F0 m 25 ls []) := by
  intro y1 y3 y4 σ H locs ls ry1 ry3 ry4 hl hW hS h
  obtain ⟨fu, h⟩ := h
  induction fu generalizing y1 y3 y4 σ H locs ls with
  | zero => exact h.elim
  | succ fu ih =>
    exact wk_Blocks_attach_L25B X hr hlk hT hV ho (lq3 (wp_Blocks_attach_L25 (wc w) (wtv w) o Q) fu) (fun y1 y3 y4 σ H locs ls ry1 ry3 ry4 hl hW hS h => ih y1 y3 y4 σ H locs ls ry1 ry3 ry4 hl hW hS h) y1 y3 y4 σ H locs ls ry1 ry3 ry4 hl hW hS h
set_option maxHeartbeats 4000000 in
set_option maxRecDepth 100000 in
theorem met_Blocks_attach (l : Launch) {w : Wp} (hV : Hvl w) (o : Int) (Q : St → Prop) (σ : St) (ho : 0 ≤ o ∧ o < 2) (h : wp_Blocks_attach (wc w) (wtv w) o Q σ) : Met l yX6_attach (ws_ yX6_attach cX6_attach 6 none) rm_Blocks_attach (PcW w σ [.ref (wad w 4 o)]) (QcV w Q) 0 0 (wA w) := by
  refine Met.ofW (cc := cX6_attach) (maxL := 6) (ret := none) (by decide) rfl ?_
  intro p e st m args below meth c s₁ B hml hv
  obtain ⟨hargs, hW, hT⟩ := hv
  have X : CallFix p m c cX6_attach 6 st _ lw_all RX6 := ⟨B.exec, B.bytes, hml, findClass_of_methodNamed B.named, fun w h => atoms_spec (ws := ws_ yX6_attach cX6_attach 6 none) B.pre w (List.mem_cons_of_mem _ h)⟩
  have hr := B.returns
  have hlk := B.notSynchronized
  have hS : va_S (wA w) st.heap st.heap [] := va_S.rf
  have vl258_o : vl w 258 o := hV.hv 258 rfl ⟨by omega, by show _ < (2 : Int); omega⟩
  have vl4_o : vl w 4 o := hV.hv 4 rfl ⟨by omega, by show _ < (2 : Int); omega⟩
  have hl := lv_entry ([.ref (wad w 4 o)]) (n := 6) (Nat.le_of_ble_eq_true rfl)
  have hfr := lg_entry_eq m ([.ref (wad w 4 o)]) 6
  rw [← hargs] at hfr
  rw [hfr]
  generalize (lg_sl ([.ref (wad w 4 o)]) ++ List.replicate (6 - (lg_sl ([.ref (wad w 4 o)])).length) Slot.unset).toArray = ls at hl ⊢
  have hl : lv_has ls 6 [(0, .ref (wad w 4 o))] := hl
  unfold wp_Blocks_attach at h
  refine lv_aload_n X.1 X.2.1 dX6_attach_0 rfl (lv_at hl 0 rfl) ?_
  refine wg (v := .ref (wad w 258 o)) X hT hW 4 2 258 vl4_o rfl rfl (by decide) rfl (by decide) in_X6 q273 rfl dX6_attach_1 ?_
  refine lv_iconst (v := oI (-1)) X.1 X.2.1 dX6_attach_4 rfl ?_
  refine wr_V (rS (As := [.ref (wad w 258 o), .int (oI (-1))]) (rest := []) X hT hW hS (met_Arrays_fill_2 l (w := w) 258 o (-1) _ σ vl258_o (by decide) rfl ((rB_lit (-1) (by decide)).i) h) (va_cwS 2 X.2.2.2.2 (lw_S q652 q653 q135 q654) rfl rfl rfl (by decide +kernel) ⟨Nat.le_of_ble_eq_true rfl, Nat.le_of_ble_eq_true rfl⟩) rfl hl.1 rfl (by first | exact Nat.le_of_ble_eq_true rfl | simp [catK, catI, catR, catL]) dX6_attach_5 ⟨Nat.le_refl _, Nat.le_refl _⟩) hS (fun σ_102 H locs rkσ_102 h hWσ_102 hS => ?_)
  have h := h rkσ_102
  refine lv_aload_n X.1 X.2.1 dX6_attach_8 rfl (lv_at hl 0 rfl) ?_
  refine lv_iconst (v := oI (-1)) X.1 X.2.1 dX6_attach_9 rfl ?_
  refine wput (z := (-1)) X hT hWσ_102 hS 4 9 265 vl4_o rfl rfl (by decide) rfl (by decide) in_X6 tyX6 tyX6_ok nmX6 q280 rfl rfl ((rB_lit (-1) (by decide)).i) (fv0 w rfl) rfl rfl dX6_attach_10 (fun H locs hN hS => ?_)
  obtain ⟨σ_103, eσ_103⟩ : ∃ x, x = sI σ_102 265 o (-1) := ⟨_, rfl⟩
  have hWσ_103 : Wo w σ_103 H := eσ_103 ▸ hN
  have h := h σ_103 eσ_103
  clear hN
  refine lv_aload_n X.1 X.2.1 dX6_attach_13 rfl (lv_at hl 0 rfl) ?_
  refine lv_lconst (v := oL 0) X.1 X.2.1 dX6_attach_14 (by decide) ?_
  refine wput (z := 0) X hT hWσ_103 hS 4 5 261 vl4_o rfl rfl (by decide) rfl (by decide) in_X6 tyX6 tyX6_ok nmX6 q276 rfl rfl (rJ_lit 0 (by decide)) (fv1 w rfl) rfl rfl dX6_attach_15 (fun H locs hN hS => ?_)
  obtain ⟨σ_104, eσ_104⟩ : ∃ x, x = sI σ_103 261 o 0 := ⟨_, rfl⟩
  have hWσ_104 : Wo w σ_104 H := eσ_104 ▸ hN
  have h := h σ_104 eσ_104
  clear hN
  refine lv_lconst (v := oL 0) X.1 X.2.1 dX6_attach_18 (by decide) ?_
  refine lv_lstore_n (i := 1) (lv' := [(1, .long (oL 0)), (0, .ref (wad w 4 o))]) X.1 X.2.1 dX6_attach_19 rfl hl (by decide) (by first | rfl | simp [catK, catI, catR, catL]) (fun ls hl => ?_)
  refine lv_iconst (v := oI 0) X.1 X.2.1 dX6_attach_20 rfl ?_
  refine lv_istore_n (i := 3) (lv' := [(3, .int (oI 0)), (1, .long (oL 0)), (0, .ref (wad w 4 o))]) X.1 X.2.1 dX6_attach_21 rfl hl (by decide) (by first | rfl | simp [catK, catI, catR, catL]) (fun ls hl => ?_)
  refine lv_iconst (v := oI 0) X.1 X.2.1 dX6_attach_22 rfl ?_
  refine lv_istore (i := 4) (lv' := [(4, .int (oI 0)), (3, .int (oI 0)), (1, .long (oL 0)), (0, .ref (wad w 4 o))]) X.1 X.2.1 dX6_attach_23 hl (by decide) (by first | rfl | simp [catK, catI, catR, catL]) (fun ls hl => ?_)
  exact wk_Blocks_attach_L25 X hr hlk hT hV ho 0 0 0 σ_104 _ _ _ (rJ_lit 0 (by decide)) rZ_0.i rZ_0.i (lv_sub hl [3, 2, 1, 0] rfl) hWσ_104 hS h
/-! Blocks.count(I)I -/
set_option maxHeartbeats 4000000 in
set_option maxRecDepth 100000 in
theorem wk_Blocks_count_L4B {p : Program} {l : Launch} {e : Env} {st : State} {m : MethodId} {args : Array Value} {below : List Frame} {meth : Method} {c : Code} {w : Wp} {o : Int} {x1 : Int} {Q : Int → St → Prop} (X : CallFix p m c cX6_count 4 st args lw_all RX6) (hr : meth.sig.returnType = (some .int)) (hlk : meth.locks = false) (hT : Tb w st) (hV : Hvl w) (ho : 0 ≤ o ∧ o < 2) (rx1 : rI x1) (K4 : Int → Int → St → Prop) (hK4 : ∀ (y2 y3 : Int) (σ : St) (H : Heap) (locs : List Loc) (ls : Array Slot), rI y2 → rI y3 → lv_has ls 4 [(0, .ref (wad w 4 o)), (1, .int (oI x1)), (2, .int (oI y2)), (3, .int (oI y3))] → Wo w σ H → va_S (wA w) st.heap H locs → K4 y2 y3 σ → W p l e (headSpec (ws_ yX6_count cX6_count 4 (some .int)) rm_Blocks_count).room st m args below meth c H locs 0 0 (MQ below (QcI w Q) args st 0 0 (wA w)) (F0 m 4 ls [])) : ∀ (y2 y3 : Int) (σ : St) (H : Heap) (locs : List Loc) (ls : Array Slot), rI y2 → rI y3 → lv_has ls 4 [(0, .ref (wad w 4 o)), (1, .int (oI x1)), (2, .int (oI y2)), (3, .int (oI y3))] → Wo w σ H → va_S (wA w) st.heap H locs → wp_Blocks_count_L4 (wc w) (wtv w) o x1 Q K4 y2 y3 σ → W p l e (headSpec (ws_ yX6_count cX6_count 4 (some .int)) rm_Blocks_count).room st m args below meth c H locs 0 0 (MQ below (QcI w Q) args st 0 0 (wA w)) (F0 m 4 ls []) := by
  have vl2_0 : vl w 2 0 := hV.hv 2 rfl ⟨by omega, by show _ < (1 : Int); omega⟩
  have vl259_o : vl w 259 o := hV.hv 259 rfl ⟨by omega, by show _ < (2 : Int); omega⟩
  have vl4_o : vl w 4 o := hV.hv 4 rfl ⟨by omega, by show _ < (2 : Int); omega⟩
  intro y2 y3 σ H locs ls ry2 ry3 hl hW hS h
  unfold wp_Blocks_count_L4 at h
  refine lv_iload_n X.1 X.2.1 dX6_count_4 rfl (lv_at hl 3 rfl) ?_
  refine lv_aload_n X.1 X.2.1 dX6_count_5 rfl (lv_at hl 0 rfl) ?_
  refine wg (v := .ref (wad w 2 0)) X hT hW 4 0 256 vl4_o rfl rfl (by decide) rfl (by decide) in_X6 q269 rfl dX6_count_6 ?_
  refine wg (v := .int (oI (wc w).1)) X hT hW 2 0 128 vl2_0 rfl rfl (by decide) rfl (by decide) in_X4 q221 rfl dX6_count_9 ?_
  refine w_icmp_ge (tgt := 39) X ry3 (cin_r hT.c 128) dX6_count_12 (by decide) (fun hc => ?_) (fun hc => ?_)
  · have h := h.1 hc
    refine lv_iload_n X.1 X.2.1 dX6_count_39 rfl (lv_at hl 2 rfl) ?_
    exact wret_I X hr hlk hW hS ry2 h dX6_count_40
  · have h := h.2 hc
    refine lv_iload_n X.1 X.2.1 dX6_count_15 rfl (lv_at hl 2 rfl) ?_
    refine lv_aload_n X.1 X.2.1 dX6_count_16 rfl (lv_at hl 0 rfl) ?_
    refine wg (v := .ref (wad w 259 o)) X hT hW 4 3 259 vl4_o rfl rfl (by decide) rfl (by decide) in_X6 q274 rfl dX6_count_17 ?_
    refine lv_iload_n X.1 X.2.1 dX6_count_20 rfl (lv_at hl 3 rfl) ?_
    obtain ⟨bi, h⟩ := h
    refine w_iald (n := (wc w).1) X hT hW 259 vl259_o (by decide) rfl rfl bi dX6_count_21 ?_
    refine lv_iload_n X.1 X.2.1 dX6_count_22 rfl (lv_at hl 1 rfl) ?_
    refine w_cut (pc2 := 31) (st2 := [.int (oI (if (gA σ 259 o y3) = x1 then (1 : Int) else (0 : Int))), .int (oI y2)]) (fun hj => ?_) ?_
    · refine w_icmp_ne (tgt := 30) X (hW.r.ai 259 o y3 rfl) rx1 dX6_count_23 (by decide) (fun hc => ?_) (fun hc => ?_)
      · refine lv_iconst (v := oI 0) X.1 X.2.1 dX6_count_30 rfl ?_
        rw [if_neg hc] at hj; exact hj
      · refine lv_iconst (v := oI 1) X.1 X.2.1 dX6_count_26 rfl ?_
        refine lv_goto (tgt := 31) X.1 X.2.1 dX6_count_27 (by decide) ?_
        rw [if_pos hc] at hj; exact hj
    refine w_iadd X dX6_count_31 ?_
    refine w_top (fun y2_5 ey2_5 => ?_)
    have h := h y2_5 ey2_5
    have ry2_5 : rI y2_5 := by rw [ey2_5]; exact (w32_r _)
    refine lv_istore_n (i := 2) (lv' := [(2, .int (oI y2_5)), (0, .ref (wad w 4 o)), (1, .int (oI x1)), (3, .int (oI y3))]) X.1 X.2.1 dX6_count_32 rfl hl (by decide) (by first | rfl | simp [catK, catI, catR, catL]) (fun ls hl => ?_)
    obtain ⟨y3_6, ey3_6⟩ : ∃ y : Int, y = w32 (y3 + 1) := ⟨_, rfl⟩
    have h := h y3_6 ey3_6
    have ry3_6 : rI y3_6 := by rw [ey3_6]; exact w32_r _
    refine lv_iinc (v := oI y3_6) (lv' := [(3, .int (oI y3_6)), (2, .int (oI y2_5)), (0, .ref (wad w 4 o)), (1, .int (oI x1))]) X.1 X.2.1 dX6_count_33 hl (k := 3) rfl (by rw [ey3_6]; exact oI_add _ _) (by decide) (by first | rfl | simp [catK, catI, catR, catL]) (fun ls hl => ?_)
    refine lv_goto (tgt := 4) X.1 X.2.1 dX6_count_36 (by decide) ?_
    exact hK4 y2_5 y3_6 σ _ _ _ ry2_5 ry3_6 (lv_sub hl [2, 3, 1, 0] rfl) hW hS h
theorem wk_Blocks_count_L4 {p : Program} {l : Launch} {e : Env} {st : State} {m : MethodId} {args : Array Value} {below : List Frame} {meth : Method} {c : Code} {w : Wp} {o : Int} {x1 : Int} {Q : Int → St → Prop} (X : CallFix p m c cX6_count 4 st args lw_all RX6) (hr : meth.sig.returnType = (some .int)) (hlk : meth.locks = false) (hT : Tb w st) (hV : Hvl w) (ho : 0 ≤ o ∧ o < 2) (rx1 : rI x1) : ∀ (y2 y3 : Int) (σ : St) (H : Heap) (locs : List Loc) (ls : Array Slot), rI y2 → rI y3 → lv_has ls 4 [(0, .ref (wad w 4 o)), (1, .int (oI x1)), (2, .int (oI y2)), (3, .int (oI y3))] → Wo w σ H → va_S (wA w) st.heap H locs → lQ2 (wp_Blocks_count_L4 (wc w) (wtv w) o x1 Q) y2 y3 σ → W p l e (headSpec (ws_ yX6_count cX6_count 4 (some .int)) rm_Blocks_count).room st m args below meth c H locs 0 0 (MQ below (QcI w Q) args st 0 0 (wA w)) (F0 m 4 ls []) := by
  intro y2 y3 σ H locs ls ry2 ry3 hl hW hS h
  obtain ⟨fu, h⟩ := h
  induction fu generalizing y2 y3 σ H locs ls with
  | zero => exact h.elim
  | succ fu ih =>
    exact wk_Blocks_count_L4B X hr hlk hT hV ho rx1 (lq2 (wp_Blocks_count_L4 (wc w) (wtv w) o x1 Q) fu) (fun y2 y3 σ H locs ls ry2 ry3 hl hW hS h => ih y2 y3 σ H locs ls ry2 ry3 hl hW hS h) y2 y3 σ H locs ls ry2 ry3 hl hW hS h
set_option maxHeartbeats 4000000 in
set_option maxRecDepth 100000 in
theorem met_Blocks_count (l : Launch) {w : Wp} (hV : Hvl w) (o : Int) (x1 : Int) (Q : Int → St → Prop) (σ : St) (ho : 0 ≤ o ∧ o < 2) (rx1 : rI x1) (h : wp_Blocks_count (wc w) (wtv w) o x1 Q σ) : Met l yX6_count (ws_ yX6_count cX6_count 4 (some .int)) rm_Blocks_count (PcW w σ [.ref (wad w 4 o), .int (oI x1)]) (QcI w Q) 0 0 (wA w) := by
  refine Met.ofW (cc := cX6_count) (maxL := 4) (ret := (some .int)) (by decide) rfl ?_
  intro p e st m args below meth c s₁ B hml hv
  obtain ⟨hargs, hW, hT⟩ := hv
  have X : CallFix p m c cX6_count 4 st _ lw_all RX6 := ⟨B.exec, B.bytes, hml, findClass_of_methodNamed B.named, fun w h => atoms_spec (ws := ws_ yX6_count cX6_count 4 (some .int)) B.pre w (List.mem_cons_of_mem _ h)⟩
  have hr := B.returns
  have hlk := B.notSynchronized
  have hS : va_S (wA w) st.heap st.heap [] := va_S.rf
  have vl4_o : vl w 4 o := hV.hv 4 rfl ⟨by omega, by show _ < (2 : Int); omega⟩
  have hl := lv_entry ([.ref (wad w 4 o), .int (oI x1)]) (n := 4) (Nat.le_of_ble_eq_true rfl)
  have hfr := lg_entry_eq m ([.ref (wad w 4 o), .int (oI x1)]) 4
  rw [← hargs] at hfr
  rw [hfr]
  generalize (lg_sl ([.ref (wad w 4 o), .int (oI x1)]) ++ List.replicate (4 - (lg_sl ([.ref (wad w 4 o), .int (oI x1)])).length) Slot.unset).toArray = ls at hl ⊢
  have hl : lv_has ls 4 [(0, .ref (wad w 4 o)), (1, .int (oI x1))] := hl
  unfold wp_Blocks_count at h
  refine lv_iconst (v := oI 0) X.1 X.2.1 dX6_count_0 rfl ?_
  refine lv_istore_n (i := 2) (lv' := [(2, .int (oI 0)), (0, .ref (wad w 4 o)), (1, .int (oI x1))]) X.1 X.2.1 dX6_count_1 rfl hl (by decide) (by first | rfl | simp [catK, catI, catR, catL]) (fun ls hl => ?_)
  refine lv_iconst (v := oI 0) X.1 X.2.1 dX6_count_2 rfl ?_
  refine lv_istore_n (i := 3) (lv' := [(3, .int (oI 0)), (2, .int (oI 0)), (0, .ref (wad w 4 o)), (1, .int (oI x1))]) X.1 X.2.1 dX6_count_3 rfl hl (by decide) (by first | rfl | simp [catK, catI, catR, catL]) (fun ls hl => ?_)
  exact wk_Blocks_count_L4 X hr hlk hT hV ho rx1 0 0 σ _ _ _ rZ_0.i rZ_0.i (lv_sub hl [2, 3, 1, 0] rfl) hW hS h
/-! Blocks.toMove()I -/
set_option maxHeartbeats 4000000 in
set_option maxRecDepth 100000 in
theorem wk_Blocks_toMove_b73 {p : Program} {l : Launch} {e : Env} {st : State} {m : MethodId} {args : Array Value} {below : List Frame} {meth : Method} {c : Code} {w : Wp} {o : Int} {Q : Int → St → Prop} (X : CallFix p m c cX6_toMove 3 st args lw_all RX6) (hr : meth.sig.returnType = (some .int)) (hlk : meth.locks = false) (hT : Tb w st) (hV : Hvl w) (ho : 0 ≤ o ∧ o < 2) (K75 : Int → Int → St → Prop) (hK75 : ∀ (y1 y2 : Int) (σ : St) (H : Heap) (locs : List Loc) (ls : Array Slot), rI y1 → rI y2 → lv_has ls 3 [(0, .ref (wad w 4 o)), (1, .int (oI y1)), (2, .int (oI y2))] → Wo w σ H → va_S (wA w) st.heap H locs → K75 y1 y2 σ → W p l e (headSpec (ws_ yX6_toMove cX6_toMove 3 (some .int)) rm_Blocks_toMove).room st m args below meth c H locs 0 0 (MQ below (QcI w Q) args st 0 0 (wA w)) (F0 m 75 ls [])) : ∀ (y2 : Int) (σ : St) (H : Heap) (locs : List Loc) (ls : Array Slot), rI y2 → lv_has ls 3 [(0, .ref (wad w 4 o)), (2, .int (oI y2))] → Wo w σ H → va_S (wA w) st.heap H locs → wp_Blocks_toMove_b73 (wc w) (wtv w) o Q K75 y2 σ → W p l e (headSpec (ws_ yX6_toMove cX6_toMove 3 (some .int)) rm_Blocks_toMove).room st m args below meth c H locs 0 0 (MQ below (QcI w Q) args st 0 0 (wA w)) (F0 m 73 ls []) := by

  intro y2 σ H locs ls ry2 hl hW hS h
  unfold wp_Blocks_toMove_b73 at h
  refine lv_iload_n X.1 X.2.1 dX6_toMove_73 rfl (lv_at hl 1 rfl) ?_
  refine lv_istore_n (i := 1) (lv' := [(1, .int (oI y2)), (0, .ref (wad w 4 o)), (2, .int (oI y2))]) X.1 X.2.1 dX6_toMove_74 rfl hl (by decide) (by first | rfl | simp [catK, catI, catR, catL]) (fun ls hl => ?_)
  exact hK75 y2 y2 σ _ _ _ ry2 ry2 (lv_sub hl [1, 0, 2] rfl) hW hS h
set_option maxHeartbeats 4000000 in
set_option maxRecDepth 100000 in
theorem wk_Blocks_toMove_b75 {p : Program} {l : Launch} {e : Env} {st : State} {m : MethodId} {args : Array Value} {below : List Frame} {meth : Method} {c : Code} {w : Wp} {o : Int} {Q : Int → St → Prop} (X : CallFix p m c cX6_toMove 3 st args lw_all RX6) (hr : meth.sig.returnType = (some .int)) (hlk : meth.locks = false) (hT : Tb w st) (hV : Hvl w) (ho : 0 ≤ o ∧ o < 2) (K4 : Int → Int → St → Prop) (hK4 : ∀ (y1 y2 : Int) (σ : St) (H : Heap) (locs : List Loc) (ls : Array Slot), rI y1 → rI y2 → lv_has ls 3 [(0, .ref (wad w 4 o)), (1, .int (oI y1)), (2, .int (oI y2))] → Wo w σ H → va_S (wA w) st.heap H locs → K4 y1 y2 σ → W p l e (headSpec (ws_ yX6_toMove cX6_toMove 3 (some .int)) rm_Blocks_toMove).room st m args below meth c H locs 0 0 (MQ below (QcI w Q) args st 0 0 (wA w)) (F0 m 4 ls [])) : ∀ (y1 y2 : Int) (σ : St) (H : Heap) (locs : List Loc) (ls : Array Slot), rI y1 → rI y2 → lv_has ls 3 [(0, .ref (wad w 4 o)), (1, .int (oI y1)), (2, .int (oI y2))] → Wo w σ H → va_S (wA w) st.heap H locs → wp_Blocks_toMove_b75 (wc w) (wtv w) o Q K4 y1 y2 σ → W p l e (headSpec (ws_ yX6_toMove cX6_toMove 3 (some .int)) rm_Blocks_toMove).room st m args below meth c H locs 0 0 (MQ below (QcI w Q) args st 0 0 (wA w)) (F0 m 75 ls []) := by

  intro y1 y2 σ H locs ls ry1 ry2 hl hW hS h
  unfold wp_Blocks_toMove_b75 at h
  obtain ⟨y2_16, ey2_16⟩ : ∃ y : Int, y = w32 (y2 + 1) := ⟨_, rfl⟩
  have h := h y2_16 ey2_16
  have ry2_16 : rI y2_16 := by rw [ey2_16]; exact w32_r _
  refine lv_iinc (v := oI y2_16) (lv' := [(2, .int (oI y2_16)), (0, .ref (wad w 4 o)), (1, .int (oI y1))]) X.1 X.2.1 dX6_toMove_75 hl (k := 2) rfl (by rw [ey2_16]; exact oI_add _ _) (by decide) (by first | rfl | simp [catK, catI, catR, catL]) (fun ls hl => ?_)
  refine lv_goto (tgt := 4) X.1 X.2.1 dX6_toMove_78 (by decide) ?_
  exact hK4 y1 y2_16 σ _ _ _ ry1 ry2_16 (lv_sub hl [1, 2, 0] rfl) hW hS h
set_option maxHeartbeats 4000000 in
set_option maxRecDepth 100000 in
theorem wk_Blocks_toMove_L4B {p : Program} {l : Launch} {e : Env} {st : State} {m : MethodId} {args : Array Value} {below : List Frame} {meth : Method} {c : Code} {w : Wp} {o : Int} {Q : Int → St → Prop} (X : CallFix p m c cX6_toMove 3 st args lw_all RX6) (hr : meth.sig.returnType = (some .int)) (hlk : meth.locks = false) (hT : Tb w st) (hV : Hvl w) (ho : 0 ≤ o ∧ o < 2) (K4 : Int → Int → St → Prop) (hK4 : ∀ (y1 y2 : Int) (σ : St) (H : Heap) (locs : List Loc) (ls : Array Slot), rI y1 → rI y2 → lv_has ls 3 [(0, .ref (wad w 4 o)), (1, .int (oI y1)), (2, .int (oI y2))] → Wo w σ H → va_S (wA w) st.heap H locs → K4 y1 y2 σ → W p l e (headSpec (ws_ yX6_toMove cX6_toMove 3 (some .int)) rm_Blocks_toMove).room st m args below meth c H locs 0 0 (MQ below (QcI w Q) args st 0 0 (wA w)) (F0 m 4 ls [])) : ∀ (y1 y2 : Int) (σ : St) (H : Heap) (locs : List Loc) (ls : Array Slot), rI y1 → rI y2 → lv_has ls 3 [(0, .ref (wad w 4 o)), (1, .int (oI y1)), (2, .int (oI y2))] → Wo w σ H → va_S (wA w) st.heap H locs → wp_Blocks_toMove_L4 (wc w) (wtv w) o Q K4 y1 y2 σ → W p l e (headSpec (ws_ yX6_toMove cX6_toMove 3 (some .int)) rm_Blocks_toMove).room st m args below meth c H locs 0 0 (MQ below (QcI w Q) args st 0 0 (wA w)) (F0 m 4 ls []) := by
  have vl2_0 : vl w 2 0 := hV.hv 2 rfl ⟨by omega, by show _ < (1 : Int); omega⟩
  have vl258_o : vl w 258 o := hV.hv 258 rfl ⟨by omega, by show _ < (2 : Int); omega⟩
  have vl260_o : vl w 260 o := hV.hv 260 rfl ⟨by omega, by show _ < (2 : Int); omega⟩
  have vl4_o : vl w 4 o := hV.hv 4 rfl ⟨by omega, by show _ < (2 : Int); omega⟩
  intro y1 y2 σ H locs ls ry1 ry2 hl hW hS h
  unfold wp_Blocks_toMove_L4 at h
  refine lv_iload_n X.1 X.2.1 dX6_toMove_4 rfl (lv_at hl 2 rfl) ?_
  refine lv_aload_n X.1 X.2.1 dX6_toMove_5 rfl (lv_at hl 0 rfl) ?_
  refine wg (v := .int (oI ((wc w).1 - 6))) X hT hW 4 1 257 vl4_o rfl rfl (by decide) rfl (by decide) in_X6 q271 rfl dX6_toMove_6 ?_
  refine w_icmp_ge (tgt := 81) X ry2 (cin_r hT.c 257) dX6_toMove_9 (by decide) (fun hc => ?_) (fun hc => ?_)
  · have h := h.1 hc
    refine lv_aload_n X.1 X.2.1 dX6_toMove_81 rfl (lv_at hl 0 rfl) ?_
    refine lv_iconst (v := oI 1) X.1 X.2.1 dX6_toMove_82 rfl ?_
    refine wr_I (rV (As := [.int (oI 1)]) (rest := []) X hT hW hS (met_Blocks_freeOne l (w := w) hV o 1 _ σ (by omega) rZ_1 h) (cwV 1 X.2.2.2.2 (lw_V q872 q874 qs12 q137 q875) rfl rfl rfl (by decide +kernel) ⟨Nat.le_of_ble_eq_true rfl, Nat.le_of_ble_eq_true rfl⟩) vl4_o (by decide) rfl rfl hl.1 rfl (by first | exact Nat.le_of_ble_eq_true rfl | simp [catK, catI, catR, catL]) dX6_toMove_83 ⟨Nat.le_refl _, Nat.le_refl _⟩) hS (fun r_17 σ_18 H locs rr_17 rkσ_18 h hWσ_18 hS => ?_)
    have h := h rr_17 rkσ_18
    refine lv_istore_n (i := 2) (lv' := [(2, .int (oI r_17)), (0, .ref (wad w 4 o)), (1, .int (oI y1))]) X.1 X.2.1 dX6_toMove_86 rfl hl (by decide) (by first | rfl | simp [catK, catI, catR, catL]) (fun ls hl => ?_)
    refine lv_iload_n X.1 X.2.1 dX6_toMove_87 rfl (lv_at hl 2 rfl) ?_
    refine lv_iconst (v := oI (-1)) X.1 X.2.1 dX6_toMove_88 rfl ?_
    refine w_icmp_eq (tgt := 123) X ry1 ((rB_lit (-1) (by decide)).i) dX6_toMove_89 (by decide) (fun hc => ?_) (fun hc => ?_)
    · have h := h.1 hc
      refine lv_iconst (v := oI (-1)) X.1 X.2.1 dX6_toMove_123 rfl ?_
      exact wret_I X hr hlk hWσ_18 hS ((rB_lit (-1) (by decide)).i) h dX6_toMove_124
    · have h := h.2 hc
      refine lv_iload_n X.1 X.2.1 dX6_toMove_92 rfl (lv_at hl 0 rfl) ?_
      refine lv_iconst (v := oI (-1)) X.1 X.2.1 dX6_toMove_93 rfl ?_
      refine w_icmp_eq (tgt := 123) X rr_17 ((rB_lit (-1) (by decide)).i) dX6_toMove_94 (by decide) (fun hc => ?_) (fun hc => ?_)
      · have h := h.1 hc
        refine lv_iconst (v := oI (-1)) X.1 X.2.1 dX6_toMove_123 rfl ?_
        exact wret_I X hr hlk hWσ_18 hS ((rB_lit (-1) (by decide)).i) h dX6_toMove_124
      · have h := h.2 hc
        refine lv_aload_n X.1 X.2.1 dX6_toMove_97 rfl (lv_at hl 1 rfl) ?_
        refine wg (v := .ref (wad w 260 o)) X hT hWσ_18 4 4 260 vl4_o rfl rfl (by decide) rfl (by decide) in_X6 q275 rfl dX6_toMove_98 ?_
        refine lv_iload_n X.1 X.2.1 dX6_toMove_101 rfl (lv_at hl 0 rfl) ?_
        obtain ⟨bi, h⟩ := h
        refine w_iald (n := (wc w).1) X hT hWσ_18 260 vl260_o (by decide) rfl rfl bi dX6_toMove_102 ?_
        refine lv_aload_n X.1 X.2.1 dX6_toMove_103 rfl (lv_at hl 1 rfl) ?_
        refine wg (v := .ref (wad w 260 o)) X hT hWσ_18 4 4 260 vl4_o rfl rfl (by decide) rfl (by decide) in_X6 q275 rfl dX6_toMove_104 ?_
        refine lv_aload_n X.1 X.2.1 dX6_toMove_107 rfl (lv_at hl 1 rfl) ?_
        refine wg (v := .ref (wad w 258 o)) X hT hWσ_18 4 2 258 vl4_o rfl rfl (by decide) rfl (by decide) in_X6 q273 rfl dX6_toMove_108 ?_
        refine lv_iload_n X.1 X.2.1 dX6_toMove_111 rfl (lv_at hl 2 rfl) ?_
        obtain ⟨bi, h⟩ := h
        refine w_iald (n := ((wc w).1 - 6)) X hT hWσ_18 258 vl258_o (by decide) rfl rfl bi dX6_toMove_112 ?_
        obtain ⟨bi, h⟩ := h
        refine w_iald (n := (wc w).1) X hT hWσ_18 260 vl260_o (by decide) rfl rfl bi dX6_toMove_113 ?_
        refine w_isub X dX6_toMove_114 ?_
        refine lv_iconst (v := oI 4) X.1 X.2.1 dX6_toMove_115 rfl ?_
        refine w_icmp_lt (tgt := 123) X (w32_r _) ((rB_lit 4 (by decide)).i) dX6_toMove_116 (by decide) (fun hc => ?_) (fun hc => ?_)
        · have h := h.1 hc
          refine lv_iconst (v := oI (-1)) X.1 X.2.1 dX6_toMove_123 rfl ?_
          exact wret_I X hr hlk hWσ_18 hS ((rB_lit (-1) (by decide)).i) h dX6_toMove_124
        · have h := h.2 hc
          refine lv_iload_n X.1 X.2.1 dX6_toMove_119 rfl (lv_at hl 2 rfl) ?_
          refine lv_goto (tgt := 124) X.1 X.2.1 dX6_toMove_120 (by decide) ?_
          exact wret_I X hr hlk hWσ_18 hS ry1 h dX6_toMove_124
  · have h := h.2 hc
    refine lv_aload_n X.1 X.2.1 dX6_toMove_12 rfl (lv_at hl 0 rfl) ?_
    refine wg (v := .ref (wad w 258 o)) X hT hW 4 2 258 vl4_o rfl rfl (by decide) rfl (by decide) in_X6 q273 rfl dX6_toMove_13 ?_
    refine lv_iload_n X.1 X.2.1 dX6_toMove_16 rfl (lv_at hl 2 rfl) ?_
    obtain ⟨bi, h⟩ := h
    refine w_iald (n := ((wc w).1 - 6)) X hT hW 258 vl258_o (by decide) rfl rfl bi dX6_toMove_17 ?_
    refine lv_iconst (v := oI (-1)) X.1 X.2.1 dX6_toMove_18 rfl ?_
    refine w_icmp_ne (tgt := 25) X (hW.r.ai 258 o y2 rfl) ((rB_lit (-1) (by decide)).i) dX6_toMove_19 (by decide) (fun hc => ?_) (fun hc => ?_)
    · have h := h.1 hc
      refine lv_aload_n X.1 X.2.1 dX6_toMove_25 rfl (lv_at hl 0 rfl) ?_
      refine wg (v := .ref (wad w 2 0)) X hT hW 4 0 256 vl4_o rfl rfl (by decide) rfl (by decide) in_X6 q269 rfl dX6_toMove_26 ?_
      refine lv_aload_n X.1 X.2.1 dX6_toMove_29 rfl (lv_at hl 0 rfl) ?_
      refine wg (v := .ref (wad w 258 o)) X hT hW 4 2 258 vl4_o rfl rfl (by decide) rfl (by decide) in_X6 q273 rfl dX6_toMove_30 ?_
      refine lv_iload_n X.1 X.2.1 dX6_toMove_33 rfl (lv_at hl 2 rfl) ?_
      obtain ⟨bi, h⟩ := h
      refine w_iald (n := ((wc w).1 - 6)) X hT hW 258 vl258_o (by decide) rfl rfl bi dX6_toMove_34 ?_
      refine wr_Z (rV (As := [.int (oI (gA σ 258 o y2))]) (rest := []) X hT hW hS (met_Flash_isWeak l (w := w) hV (gA σ 258 o y2) _ σ (hW.r.ai 258 o y2 rfl) h) (cwV 1 X.2.2.2.2 (lw_V q1758 q1759 q1760 q134 q1761) rfl rfl rfl (by decide +kernel) ⟨Nat.le_of_ble_eq_true rfl, Nat.le_of_ble_eq_true rfl⟩) vl2_0 (by decide) rfl rfl hl.1 rfl (by first | exact Nat.le_of_ble_eq_true rfl | simp [catK, catI, catR, catL]) dX6_toMove_35 ⟨Nat.le_refl _, Nat.le_refl _⟩) hS (fun r_19 σ_20 H locs rr_19 rkσ_20 h hWσ_20 hS => ?_)
      have h := h rr_19 rkσ_20
      refine w_if_eq (tgt := 43) X rr_19.i dX6_toMove_38 (by decide) (fun hc => ?_) (fun hc => ?_)
      · have h := h.1 hc
        refine lv_iload_n X.1 X.2.1 dX6_toMove_43 rfl (lv_at hl 1 rfl) ?_
        refine lv_iconst (v := oI (-1)) X.1 X.2.1 dX6_toMove_44 rfl ?_
        refine w_icmp_eq (tgt := 73) X ry1 ((rB_lit (-1) (by decide)).i) dX6_toMove_45 (by decide) (fun hc => ?_) (fun hc => ?_)
        · have h := h.1 hc
          exact wk_Blocks_toMove_b73 X hr hlk hT hV ho (wp_Blocks_toMove_b75 (wc w) (wtv w) o Q K4) (wk_Blocks_toMove_b75 X hr hlk hT hV ho K4 hK4) y2 σ_20 _ _ _ ry2 (lv_sub hl [0, 2] rfl) hWσ_20 hS h
        · have h := h.2 hc
          refine lv_aload_n X.1 X.2.1 dX6_toMove_48 rfl (lv_at hl 0 rfl) ?_
          refine wg (v := .ref (wad w 260 o)) X hT hWσ_20 4 4 260 vl4_o rfl rfl (by decide) rfl (by decide) in_X6 q275 rfl dX6_toMove_49 ?_
          refine lv_aload_n X.1 X.2.1 dX6_toMove_52 rfl (lv_at hl 0 rfl) ?_
          refine wg (v := .ref (wad w 258 o)) X hT hWσ_20 4 2 258 vl4_o rfl rfl (by decide) rfl (by decide) in_X6 q273 rfl dX6_toMove_53 ?_
          refine lv_iload_n X.1 X.2.1 dX6_toMove_56 rfl (lv_at hl 2 rfl) ?_
          obtain ⟨bi, h⟩ := h
          refine w_iald (n := ((wc w).1 - 6)) X hT hWσ_20 258 vl258_o (by decide) rfl rfl bi dX6_toMove_57 ?_
          obtain ⟨bi, h⟩ := h
          refine w_iald (n := (wc w).1) X hT hWσ_20 260 vl260_o (by decide) rfl rfl bi dX6_toMove_58 ?_
          refine lv_aload_n X.1 X.2.1 dX6_toMove_59 rfl (lv_at hl 0 rfl) ?_
          refine wg (v := .ref (wad w 260 o)) X hT hWσ_20 4 4 260 vl4_o rfl rfl (by decide) rfl (by decide) in_X6 q275 rfl dX6_toMove_60 ?_
          refine lv_aload_n X.1 X.2.1 dX6_toMove_63 rfl (lv_at hl 0 rfl) ?_
          refine wg (v := .ref (wad w 258 o)) X hT hWσ_20 4 2 258 vl4_o rfl rfl (by decide) rfl (by decide) in_X6 q273 rfl dX6_toMove_64 ?_
          refine lv_iload_n X.1 X.2.1 dX6_toMove_67 rfl (lv_at hl 1 rfl) ?_
          obtain ⟨bi, h⟩ := h
          refine w_iald (n := ((wc w).1 - 6)) X hT hWσ_20 258 vl258_o (by decide) rfl rfl bi dX6_toMove_68 ?_
          obtain ⟨bi, h⟩ := h
          refine w_iald (n := (wc w).1) X hT hWσ_20 260 vl260_o (by decide) rfl rfl bi dX6_toMove_69 ?_
          refine w_icmp_ge (tgt := 75) X (hWσ_20.r.ai 260 o (gA σ_20 258 o y2) rfl) (hWσ_20.r.ai 260 o (gA σ_20 258 o y1) rfl) dX6_toMove_70 (by decide) (fun hc => ?_) (fun hc => ?_)
          · have h := h.1 hc
            exact wk_Blocks_toMove_b75 X hr hlk hT hV ho K4 hK4 y1 y2 σ_20 _ _ _ ry1 ry2 (lv_sub hl [0, 1, 2] rfl) hWσ_20 hS h
          · have h := h.2 hc
            exact wk_Blocks_toMove_b73 X hr hlk hT hV ho (wp_Blocks_toMove_b75 (wc w) (wtv w) o Q K4) (wk_Blocks_toMove_b75 X hr hlk hT hV ho K4 hK4) y2 σ_20 _ _ _ ry2 (lv_sub hl [0, 2] rfl) hWσ_20 hS h
      · have h := h.2 hc
        refine lv_iload_n X.1 X.2.1 dX6_toMove_41 rfl (lv_at hl 2 rfl) ?_
        exact wret_I X hr hlk hWσ_20 hS ry2 h dX6_toMove_42
    · have h := h.2 hc
      refine lv_goto (tgt := 75) X.1 X.2.1 dX6_toMove_22 (by decide) ?_
      exact wk_Blocks_toMove_b75 X hr hlk hT hV ho K4 hK4 y1 y2 σ _ _ _ ry1 ry2 (lv_sub hl [0, 1, 2] rfl) hW hS h
theorem wk_Blocks_toMove_L4 {p : Program} {l : Launch} {e : Env} {st : State} {m : MethodId} {args : Array Value} {below : List Frame} {meth : Method} {c : Code} {w : Wp} {o : Int} {Q : Int → St → Prop} (X : CallFix p m c cX6_toMove 3 st args lw_all RX6) (hr : meth.sig.returnType = (some .int)) (hlk : meth.locks = false) (hT : Tb w st) (hV : Hvl w) (ho : 0 ≤ o ∧ o < 2) : ∀ (y1 y2 : Int) (σ : St) (H : Heap) (locs : List Loc) (ls : Array Slot), rI y1 → rI y2 → lv_has ls 3 [(0, .ref (wad w 4 o)), (1, .int (oI y1)), (2, .int (oI y2))] → Wo w σ H → va_S (wA w) st.heap H locs → lQ2 (wp_Blocks_toMove_L4 (wc w) (wtv w) o Q) y1 y2 σ → W p l e (headSpec (ws_ yX6_toMove cX6_toMove 3 (some .int)) rm_Blocks_toMove).room st m args below meth c H locs 0 0 (MQ below (QcI w Q) args st 0 0 (wA w)) (F0 m 4 ls []) := by
  intro y1 y2 σ H locs ls ry1 ry2 hl hW hS h
  obtain ⟨fu, h⟩ := h
  induction fu generalizing y1 y2 σ H locs ls with
  | zero => exact h.elim
  | succ fu ih =>
    exact wk_Blocks_toMove_L4B X hr hlk hT hV ho (lq2 (wp_Blocks_toMove_L4 (wc w) (wtv w) o Q) fu) (fun y1 y2 σ H locs ls ry1 ry2 hl hW hS h => ih y1 y2 σ H locs ls ry1 ry2 hl hW hS h) y1 y2 σ H locs ls ry1 ry2 hl hW hS h
set_option maxHeartbeats 4000000 in
set_option maxRecDepth 100000 in
theorem met_Blocks_toMove (l : Launch) {w : Wp} (hV : Hvl w) (o : Int) (Q : Int → St → Prop) (σ : St) (ho : 0 ≤ o ∧ o < 2) (h : wp_Blocks_toMove (wc w) (wtv w) o Q σ) : Met l yX6_toMove (ws_ yX6_toMove cX6_toMove 3 (some .int)) rm_Blocks_toMove (PcW w σ [.ref (wad w 4 o)]) (QcI w Q) 0 0 (wA w) := by
  refine Met.ofW (cc := cX6_toMove) (maxL := 3) (ret := (some .int)) (by decide) rfl ?_
  intro p e st m args below meth c s₁ B hml hv
  obtain ⟨hargs, hW, hT⟩ := hv
  have X : CallFix p m c cX6_toMove 3 st _ lw_all RX6 := ⟨B.exec, B.bytes, hml, findClass_of_methodNamed B.named, fun w h => atoms_spec (ws := ws_ yX6_toMove cX6_toMove 3 (some .int)) B.pre w (List.mem_cons_of_mem _ h)⟩
  have hr := B.returns
  have hlk := B.notSynchronized
  have hS : va_S (wA w) st.heap st.heap [] := va_S.rf
  have vl4_o : vl w 4 o := hV.hv 4 rfl ⟨by omega, by show _ < (2 : Int); omega⟩
  have hl := lv_entry ([.ref (wad w 4 o)]) (n := 3) (Nat.le_of_ble_eq_true rfl)
  have hfr := lg_entry_eq m ([.ref (wad w 4 o)]) 3
  rw [← hargs] at hfr
  rw [hfr]
  generalize (lg_sl ([.ref (wad w 4 o)]) ++ List.replicate (3 - (lg_sl ([.ref (wad w 4 o)])).length) Slot.unset).toArray = ls at hl ⊢
  have hl : lv_has ls 3 [(0, .ref (wad w 4 o))] := hl
  unfold wp_Blocks_toMove at h
  refine lv_iconst (v := oI (-1)) X.1 X.2.1 dX6_toMove_0 rfl ?_
  refine lv_istore_n (i := 1) (lv' := [(1, .int (oI (-1))), (0, .ref (wad w 4 o))]) X.1 X.2.1 dX6_toMove_1 rfl hl (by decide) (by first | rfl | simp [catK, catI, catR, catL]) (fun ls hl => ?_)
  refine lv_iconst (v := oI 0) X.1 X.2.1 dX6_toMove_2 rfl ?_
  refine lv_istore_n (i := 2) (lv' := [(2, .int (oI 0)), (1, .int (oI (-1))), (0, .ref (wad w 4 o))]) X.1 X.2.1 dX6_toMove_3 rfl hl (by decide) (by first | rfl | simp [catK, catI, catR, catL]) (fun ls hl => ?_)
  exact wk_Blocks_toMove_L4 X hr hlk hT hV ho (-1) 0 σ _ _ _ ((rB_lit (-1) (by decide)).i) rZ_0.i (lv_sub hl [2, 1, 0] rfl) hW hS h
/-! Blocks.failMove()V -/
set_option maxHeartbeats 4000000 in
set_option maxRecDepth 100000 in
theorem met_Blocks_failMove (l : Launch) {w : Wp} (hV : Hvl w) (o : Int) (Q : St → Prop) (σ : St) (ho : 0 ≤ o ∧ o < 2) (h : wp_Blocks_failMove (wc w) (wtv w) o Q σ) : Met l yX6_failMove (ws_ yX6_failMove cX6_failMove 1 none) rm_Blocks_failMove (PcW w σ [.ref (wad w 4 o)]) (QcV w Q) 0 0 (wA w) := by
  refine Met.ofW (cc := cX6_failMove) (maxL := 1) (ret := none) (by decide) rfl ?_
  intro p e st m args below meth c s₁ B hml hv
  obtain ⟨hargs, hW, hT⟩ := hv
  have X : CallFix p m c cX6_failMove 1 st _ lw_all RX6 := ⟨B.exec, B.bytes, hml, findClass_of_methodNamed B.named, fun w h => atoms_spec (ws := ws_ yX6_failMove cX6_failMove 1 none) B.pre w (List.mem_cons_of_mem _ h)⟩
  have hr := B.returns
  have hlk := B.notSynchronized
  have hS : va_S (wA w) st.heap st.heap [] := va_S.rf
  have vl4_o : vl w 4 o := hV.hv 4 rfl ⟨by omega, by show _ < (2 : Int); omega⟩
  have hl := lv_entry ([.ref (wad w 4 o)]) (n := 1) (Nat.le_of_ble_eq_true rfl)
  have hfr := lg_entry_eq m ([.ref (wad w 4 o)]) 1
  rw [← hargs] at hfr
  rw [hfr]
  generalize (lg_sl ([.ref (wad w 4 o)]) ++ List.replicate (1 - (lg_sl ([.ref (wad w 4 o)])).length) Slot.unset).toArray = ls at hl ⊢
  have hl : lv_has ls 1 [(0, .ref (wad w 4 o))] := hl
  unfold wp_Blocks_failMove at h
  refine lv_aload_n X.1 X.2.1 dX6_failMove_0 rfl (lv_at hl 0 rfl) ?_
  refine lv_aload_n X.1 X.2.1 dX6_failMove_1 rfl (lv_at hl 0 rfl) ?_
  refine wg (v := .int (oI (gI σ 266 o))) X hT hW 4 10 266 vl4_o rfl rfl (by decide) rfl (by decide) in_X6 q281 rfl dX6_failMove_2 ?_
  refine wr_V (rV (As := [.int (oI (gI σ 266 o))]) (rest := []) X hT hW hS (met_Blocks_lose l (w := w) hV o (gI σ 266 o) _ σ (by omega) (hW.r.i 266 o rfl) h) (cwV 1 X.2.2.2.2 (lw_V q704 q706 qs5 q137 q707) rfl rfl rfl (by decide +kernel) ⟨Nat.le_of_ble_eq_true rfl, Nat.le_of_ble_eq_true rfl⟩) vl4_o (by decide) rfl rfl hl.1 rfl (by first | exact Nat.le_of_ble_eq_true rfl | simp [catK, catI, catR, catL]) dX6_failMove_5 ⟨Nat.le_refl _, Nat.le_refl _⟩) hS (fun σ_5 H locs rkσ_5 h hWσ_5 hS => ?_)
  have h := h rkσ_5
  refine lv_aload_n X.1 X.2.1 dX6_failMove_8 rfl (lv_at hl 0 rfl) ?_
  refine lv_iconst (v := oI (-1)) X.1 X.2.1 dX6_failMove_9 rfl ?_
  refine wput (z := (-1)) X hT hWσ_5 hS 4 9 265 vl4_o rfl rfl (by decide) rfl (by decide) in_X6 tyX6 tyX6_ok nmX6 q280 rfl rfl ((rB_lit (-1) (by decide)).i) (fv0 w rfl) rfl rfl dX6_failMove_10 (fun H locs hN hS => ?_)
  obtain ⟨σ_6, eσ_6⟩ : ∃ x, x = sI σ_5 265 o (-1) := ⟨_, rfl⟩
  have hWσ_6 : Wo w σ_6 H := eσ_6 ▸ hN
  have h := h σ_6 eσ_6
  clear hN
  exact wret_V X hr hlk hWσ_6 hS h dX6_failMove_13
/-! Blocks.beginMove()Z -/
set_option maxHeartbeats 4000000 in
set_option maxRecDepth 100000 in
theorem met_Blocks_beginMove (l : Launch) {w : Wp} (hV : Hvl w) (o : Int) (Q : Int → St → Prop) (σ : St) (ho : 0 ≤ o ∧ o < 2) (h : wp_Blocks_beginMove (wc w) (wtv w) o Q σ) : Met l yX6_beginMove (ws_ yX6_beginMove cX6_beginMove 3 (some .boolean)) rm_Blocks_beginMove (PcW w σ [.ref (wad w 4 o)]) (QcZ w Q) 0 0 (wA w) := by
  refine Met.ofW (cc := cX6_beginMove) (maxL := 3) (ret := (some .boolean)) (by decide) rfl ?_
  intro p e st m args below meth c s₁ B hml hv
  obtain ⟨hargs, hW, hT⟩ := hv
  have X : CallFix p m c cX6_beginMove 3 st _ lw_all RX6 := ⟨B.exec, B.bytes, hml, findClass_of_methodNamed B.named, fun w h => atoms_spec (ws := ws_ yX6_beginMove cX6_beginMove 3 (some .boolean)) B.pre w (List.mem_cons_of_mem _ h)⟩
  have hr := B.returns
  have hlk := B.notSynchronized
  have hS : va_S (wA w) st.heap st.heap [] := va_S.rf
  have vl2_0 : vl w 2 0 := hV.hv 2 rfl ⟨by omega, by show _ < (1 : Int); omega⟩
  have vl258_o : vl w 258 o := hV.hv 258 rfl ⟨by omega, by show _ < (2 : Int); omega⟩
  have vl259_o : vl w 259 o := hV.hv 259 rfl ⟨by omega, by show _ < (2 : Int); omega⟩
  have vl4_o : vl w 4 o := hV.hv 4 rfl ⟨by omega, by show _ < (2 : Int); omega⟩
  have hl := lv_entry ([.ref (wad w 4 o)]) (n := 3) (Nat.le_of_ble_eq_true rfl)
  have hfr := lg_entry_eq m ([.ref (wad w 4 o)]) 3
  rw [← hargs] at hfr
  rw [hfr]
  generalize (lg_sl ([.ref (wad w 4 o)]) ++ List.replicate (3 - (lg_sl ([.ref (wad w 4 o)])).length) Slot.unset).toArray = ls at hl ⊢
  have hl : lv_has ls 3 [(0, .ref (wad w 4 o))] := hl
  unfold wp_Blocks_beginMove at h
  refine lv_aload_n X.1 X.2.1 dX6_beginMove_0 rfl (lv_at hl 0 rfl) ?_
  refine lv_iconst (v := oI (-1)) X.1 X.2.1 dX6_beginMove_1 rfl ?_
  refine wr_I (rV (As := [.int (oI (-1))]) (rest := []) X hT hW hS (met_Blocks_count l (w := w) hV o (-1) _ σ (by omega) ((rB_lit (-1) (by decide)).i) h) (cwV 1 X.2.2.2.2 (lw_V q1750 q1752 qs82 q137 q1753) rfl rfl rfl (by decide +kernel) ⟨Nat.le_of_ble_eq_true rfl, Nat.le_of_ble_eq_true rfl⟩) vl4_o (by decide) rfl rfl hl.1 rfl (by first | exact Nat.le_of_ble_eq_true rfl | simp [catK, catI, catR, catL]) dX6_beginMove_2 ⟨Nat.le_refl _, Nat.le_refl _⟩) hS (fun r_23 σ_24 H locs rr_23 rkσ_24 h hWσ_24 hS => ?_)
  have h := h rr_23 rkσ_24
  refine lv_iconst (v := oI 2) X.1 X.2.1 dX6_beginMove_5 rfl ?_
  refine w_icmp_ge (tgt := 11) X rr_23 ((rB_lit 2 (by decide)).i) dX6_beginMove_6 (by decide) (fun hc => ?_) (fun hc => ?_)
  · have h := h.1 hc
    refine lv_aload_n X.1 X.2.1 dX6_beginMove_11 rfl (lv_at hl 0 rfl) ?_
    refine wr_I (rV (As := []) (rest := []) X hT hWσ_24 hS (met_Blocks_toMove l (w := w) hV o _ σ_24 (by omega) h) (cwV 0 X.2.2.2.2 (lw_V q1754 q1756 qs83 q137 q1757) rfl rfl rfl (by decide +kernel) ⟨Nat.le_of_ble_eq_true rfl, Nat.le_of_ble_eq_true rfl⟩) vl4_o (by decide) rfl rfl hl.1 rfl (by first | exact Nat.le_of_ble_eq_true rfl | simp [catK, catI, catR, catL]) dX6_beginMove_12 ⟨Nat.le_refl _, Nat.le_refl _⟩) hS (fun r_25 σ_26 H locs rr_25 rkσ_26 h hWσ_26 hS => ?_)
    have h := h rr_25 rkσ_26
    refine lv_istore_n (i := 1) (lv' := [(1, .int (oI r_25)), (0, .ref (wad w 4 o))]) X.1 X.2.1 dX6_beginMove_15 rfl hl (by decide) (by first | rfl | simp [catK, catI, catR, catL]) (fun ls hl => ?_)
    refine lv_iload_n X.1 X.2.1 dX6_beginMove_16 rfl (lv_at hl 0 rfl) ?_
    refine lv_iconst (v := oI (-1)) X.1 X.2.1 dX6_beginMove_17 rfl ?_
    refine w_icmp_ne (tgt := 23) X rr_25 ((rB_lit (-1) (by decide)).i) dX6_beginMove_18 (by decide) (fun hc => ?_) (fun hc => ?_)
    · have h := h.1 hc
      refine lv_aload_n X.1 X.2.1 dX6_beginMove_23 rfl (lv_at hl 1 rfl) ?_
      refine wg (v := .ref (wad w 258 o)) X hT hWσ_26 4 2 258 vl4_o rfl rfl (by decide) rfl (by decide) in_X6 q273 rfl dX6_beginMove_24 ?_
      refine lv_iload_n X.1 X.2.1 dX6_beginMove_27 rfl (lv_at hl 0 rfl) ?_
      obtain ⟨bi, h⟩ := h
      refine w_iald (n := ((wc w).1 - 6)) X hT hWσ_26 258 vl258_o (by decide) rfl rfl bi dX6_beginMove_28 ?_
      refine w_top (fun y2_27 ey2_27 => ?_)
      have h := h y2_27 ey2_27
      have ry2_27 : rI y2_27 := by rw [ey2_27]; exact (hWσ_26.r.ai 258 o r_25 rfl)
      refine lv_istore_n (i := 2) (lv' := [(2, .int (oI y2_27)), (1, .int (oI r_25)), (0, .ref (wad w 4 o))]) X.1 X.2.1 dX6_beginMove_29 rfl hl (by decide) (by first | rfl | simp [catK, catI, catR, catL]) (fun ls hl => ?_)
      refine lv_aload_n X.1 X.2.1 dX6_beginMove_30 rfl (lv_at hl 2 rfl) ?_
      refine lv_aload_n X.1 X.2.1 dX6_beginMove_31 rfl (lv_at hl 2 rfl) ?_
      refine lv_aload_n X.1 X.2.1 dX6_beginMove_32 rfl (lv_at hl 2 rfl) ?_
      refine wg (v := .ref (wad w 2 0)) X hT hWσ_26 4 0 256 vl4_o rfl rfl (by decide) rfl (by decide) in_X6 q269 rfl dX6_beginMove_33 ?_
      refine lv_iload_n X.1 X.2.1 dX6_beginMove_36 rfl (lv_at hl 0 rfl) ?_
      refine wr_Z (rV (As := [.int (oI y2_27)]) (rest := [.ref (wad w 4 o), .ref (wad w 4 o)]) X hT hWσ_26 hS (met_Flash_isWeak l (w := w) hV y2_27 _ σ_26 ry2_27 h) (cwV 1 X.2.2.2.2 (lw_V q1758 q1759 q1760 q134 q1761) rfl rfl rfl (by decide +kernel) ⟨Nat.le_of_ble_eq_true rfl, Nat.le_of_ble_eq_true rfl⟩) vl2_0 (by decide) rfl rfl hl.1 rfl (by first | exact Nat.le_of_ble_eq_true rfl | simp [catK, catI, catR, catL]) dX6_beginMove_37 ⟨Nat.le_refl _, Nat.le_refl _⟩) hS (fun r_28 σ_29 H locs rr_28 rkσ_29 h hWσ_29 hS => ?_)
      have h := h rr_28 rkσ_29
      refine w_cut (pc2 := 48) (st2 := [.int (oI (if r_28 = 0 then (1 : Int) else (0 : Int))), .ref (wad w 4 o), .ref (wad w 4 o)]) (fun hj => ?_) ?_
      · refine w_if_ne (tgt := 47) X rr_28.i dX6_beginMove_40 (by decide) (fun hc => ?_) (fun hc => ?_)
        · refine lv_iconst (v := oI 0) X.1 X.2.1 dX6_beginMove_47 rfl ?_
          rw [if_neg hc] at hj; exact hj
        · refine lv_iconst (v := oI 1) X.1 X.2.1 dX6_beginMove_43 rfl ?_
          refine lv_goto (tgt := 48) X.1 X.2.1 dX6_beginMove_44 (by decide) ?_
          rw [if_pos hc] at hj; exact hj
      refine wr_I (rV (As := [.int (oI (if r_28 = 0 then (1 : Int) else (0 : Int)))]) (rest := [.ref (wad w 4 o)]) X hT hWσ_29 hS (met_Blocks_freeOne l (w := w) hV o (if r_28 = 0 then (1 : Int) else (0 : Int)) _ σ_29 (by omega) (ite_rZ rZ_1 rZ_0) h) (cwV 1 X.2.2.2.2 (lw_V q872 q874 qs12 q137 q875) rfl rfl rfl (by decide +kernel) ⟨Nat.le_of_ble_eq_true rfl, Nat.le_of_ble_eq_true rfl⟩) vl4_o (by decide) rfl rfl hl.1 rfl (by first | exact Nat.le_of_ble_eq_true rfl | simp [catK, catI, catR, catL]) dX6_beginMove_48 ⟨Nat.le_refl _, Nat.le_refl _⟩) hS (fun r_30 σ_31 H locs rr_30 rkσ_31 h hWσ_31 hS => ?_)
      have h := h rr_30 rkσ_31
      refine wput (z := r_30) X hT hWσ_31 hS 4 10 266 vl4_o rfl rfl (by decide) rfl (by decide) in_X6 tyX6 tyX6_ok nmX6 q281 rfl rfl rr_30 (fv0 w rfl) rfl rfl dX6_beginMove_51 (fun H locs hN hS => ?_)
      obtain ⟨σ_32, eσ_32⟩ : ∃ x, x = sI σ_31 266 o r_30 := ⟨_, rfl⟩
      have hWσ_32 : Wo w σ_32 H := eσ_32 ▸ hN
      have h := h σ_32 eσ_32
      clear hN
      refine lv_aload_n X.1 X.2.1 dX6_beginMove_54 rfl (lv_at hl 2 rfl) ?_
      refine lv_aload_n X.1 X.2.1 dX6_beginMove_55 rfl (lv_at hl 2 rfl) ?_
      refine lv_iload_n X.1 X.2.1 dX6_beginMove_56 rfl (lv_at hl 1 rfl) ?_
      refine wr_I (rV (As := [.int (oI r_25)]) (rest := [.ref (wad w 4 o)]) X hT hWσ_32 hS (met_Blocks_written l (w := w) hV o r_25 _ σ_32 (by omega) rr_25 h) (cwV 1 X.2.2.2.2 (lw_V q1203 q1018 q1019 q137 q1020) rfl rfl rfl (by decide +kernel) ⟨Nat.le_of_ble_eq_true rfl, Nat.le_of_ble_eq_true rfl⟩) vl4_o (by decide) rfl rfl hl.1 rfl (by first | exact Nat.le_of_ble_eq_true rfl | simp [catK, catI, catR, catL]) dX6_beginMove_57 ⟨Nat.le_refl _, Nat.le_refl _⟩) hS (fun r_33 σ_34 H locs rr_33 rkσ_34 h hWσ_34 hS => ?_)
      have h := h rr_33 rkσ_34
      refine wput (z := r_33) X hT hWσ_34 hS 4 12 268 vl4_o rfl rfl (by decide) rfl (by decide) in_X6 tyX6 tyX6_ok nmX6 q283 rfl rfl rr_33 (fv0 w rfl) rfl rfl dX6_beginMove_60 (fun H locs hN hS => ?_)
      obtain ⟨σ_35, eσ_35⟩ : ∃ x, x = sI σ_34 268 o r_33 := ⟨_, rfl⟩
      have hWσ_35 : Wo w σ_35 H := eσ_35 ▸ hN
      have h := h σ_35 eσ_35
      clear hN
      refine lv_aload_n X.1 X.2.1 dX6_beginMove_63 rfl (lv_at hl 2 rfl) ?_
      refine lv_iconst (v := oI 0) X.1 X.2.1 dX6_beginMove_64 rfl ?_
      refine wput (z := 0) X hT hWσ_35 hS 4 11 267 vl4_o rfl rfl (by decide) rfl (by decide) in_X6 tyX6 tyX6_ok nmX6 q282 rfl rfl rZ_0.i (fv0 w rfl) rfl rfl dX6_beginMove_65 (fun H locs hN hS => ?_)
      obtain ⟨σ_36, eσ_36⟩ : ∃ x, x = sI σ_35 267 o 0 := ⟨_, rfl⟩
      have hWσ_36 : Wo w σ_36 H := eσ_36 ▸ hN
      have h := h σ_36 eσ_36
      clear hN
      refine lv_aload_n X.1 X.2.1 dX6_beginMove_68 rfl (lv_at hl 2 rfl) ?_
      refine lv_iload_n X.1 X.2.1 dX6_beginMove_69 rfl (lv_at hl 1 rfl) ?_
      refine wput (z := r_25) X hT hWσ_36 hS 4 9 265 vl4_o rfl rfl (by decide) rfl (by decide) in_X6 tyX6 tyX6_ok nmX6 q280 rfl rfl rr_25 (fv0 w rfl) rfl rfl dX6_beginMove_70 (fun H locs hN hS => ?_)
      obtain ⟨σ_37, eσ_37⟩ : ∃ x, x = sI σ_36 265 o r_25 := ⟨_, rfl⟩
      have hWσ_37 : Wo w σ_37 H := eσ_37 ▸ hN
      have h := h σ_37 eσ_37
      clear hN
      refine lv_aload_n X.1 X.2.1 dX6_beginMove_73 rfl (lv_at hl 2 rfl) ?_
      refine wg (v := .ref (wad w 259 o)) X hT hWσ_37 4 3 259 vl4_o rfl rfl (by decide) rfl (by decide) in_X6 q274 rfl dX6_beginMove_74 ?_
      refine lv_aload_n X.1 X.2.1 dX6_beginMove_77 rfl (lv_at hl 2 rfl) ?_
      refine wg (v := .int (oI (gI σ_37 266 o))) X hT hWσ_37 4 10 266 vl4_o rfl rfl (by decide) rfl (by decide) in_X6 q281 rfl dX6_beginMove_78 ?_
      refine lv_bipush (v := oI (-3)) X.1 X.2.1 dX6_beginMove_81 (by decide) ?_
      obtain ⟨bi, h⟩ := h
      refine w_iast (n := (wc w).1) X hT hWσ_37 hS 259 vl259_o (by decide) rfl rfl bi ((rB_lit (-3) (by decide)).i) dX6_beginMove_83 (fun H locs hN hS => ?_)
      obtain ⟨σ_38, eσ_38⟩ : ∃ x, x = sA σ_37 259 o (gI σ_37 266 o) (-3) := ⟨_, rfl⟩
      have hWσ_38 : Wo w σ_38 H := eσ_38 ▸ hN
      have h := h σ_38 eσ_38
      clear hN
      refine lv_aload_n X.1 X.2.1 dX6_beginMove_84 rfl (lv_at hl 2 rfl) ?_
      refine lv_aload_n X.1 X.2.1 dX6_beginMove_85 rfl (lv_at hl 2 rfl) ?_
      refine wg (v := .int (oI (gI σ_38 266 o))) X hT hWσ_38 4 10 266 vl4_o rfl rfl (by decide) rfl (by decide) in_X6 q281 rfl dX6_beginMove_86 ?_
      refine lv_iload_n X.1 X.2.1 dX6_beginMove_89 rfl (lv_at hl 1 rfl) ?_
      refine lv_iconst (v := oI 1) X.1 X.2.1 dX6_beginMove_90 rfl ?_
      refine lv_aload_n X.1 X.2.1 dX6_beginMove_91 rfl (lv_at hl 2 rfl) ?_
      refine wg (v := .int (oI (gI σ_38 268 o))) X hT hWσ_38 4 12 268 vl4_o rfl rfl (by decide) rfl (by decide) in_X6 q283 rfl dX6_beginMove_92 ?_
      refine lv_aload_n X.1 X.2.1 dX6_beginMove_95 rfl (lv_at hl 2 rfl) ?_
      refine lv_iload_n X.1 X.2.1 dX6_beginMove_96 rfl (lv_at hl 0 rfl) ?_
      refine lv_aload_n X.1 X.2.1 dX6_beginMove_97 rfl (lv_at hl 2 rfl) ?_
      refine wg (v := .int (oI (gI σ_38 268 o))) X hT hWσ_38 4 12 268 vl4_o rfl rfl (by decide) rfl (by decide) in_X6 q283 rfl dX6_beginMove_98 ?_
      refine wr_I (rV (As := [.int (oI y2_27), .int (oI (gI σ_38 268 o))]) (rest := [.int (oI (gI σ_38 268 o)), .int (oI 1), .int (oI r_25), .int (oI (gI σ_38 266 o)), .ref (wad w 4 o)]) X hT hWσ_38 hS (met_Blocks_checkOf l (w := w) hV o y2_27 (gI σ_38 268 o) _ σ_38 (by omega) ry2_27 (hWσ_38.r.i 268 o rfl) h) (cwV 2 X.2.2.2.2 (lw_V q1683 q1685 qs74 q137 q1686) rfl rfl rfl (by decide +kernel) ⟨Nat.le_of_ble_eq_true rfl, Nat.le_of_ble_eq_true rfl⟩) vl4_o (by decide) rfl rfl hl.1 rfl (by first | exact Nat.le_of_ble_eq_true rfl | simp [catK, catI, catR, catL]) dX6_beginMove_101 ⟨Nat.le_refl _, Nat.le_refl _⟩) hS (fun r_39 σ_40 H locs rr_39 rkσ_40 h hWσ_40 hS => ?_)
      have h := h rr_39 rkσ_40
      refine wr_Z (rV (As := [.int (oI (gI σ_38 266 o)), .int (oI r_25), .int (oI 1), .int (oI (gI σ_38 268 o)), .int (oI r_39)]) (rest := []) X hT hWσ_40 hS (met_Blocks_writeHead l (w := w) hV o (gI σ_38 266 o) r_25 1 (gI σ_38 268 o) r_39 _ σ_40 (by omega) (hWσ_38.r.i 266 o rfl) rr_25 rZ_1 (hWσ_38.r.i 268 o rfl) rr_39 h) (cwV 5 X.2.2.2.2 (lw_V q883 q885 qs13 q137 q886) rfl rfl rfl (by decide +kernel) ⟨Nat.le_of_ble_eq_true rfl, Nat.le_of_ble_eq_true rfl⟩) vl4_o (by decide) rfl rfl hl.1 rfl (by first | exact Nat.le_of_ble_eq_true rfl | simp [catK, catI, catR, catL]) dX6_beginMove_104 ⟨Nat.le_refl _, Nat.le_refl _⟩) hS (fun r_41 σ_42 H locs rr_41 rkσ_42 h hWσ_42 hS => ?_)
      have h := h rr_41 rkσ_42
      refine w_if_ne (tgt := 114) X rr_41.i dX6_beginMove_107 (by decide) (fun hc => ?_) (fun hc => ?_)
      · have h := h.1 hc
        refine lv_iconst (v := oI 1) X.1 X.2.1 dX6_beginMove_114 rfl ?_
        exact wret_Z X hr hlk hWσ_42 hS rZ_1 h dX6_beginMove_115
      · have h := h.2 hc
        refine lv_aload_n X.1 X.2.1 dX6_beginMove_110 rfl (lv_at hl 2 rfl) ?_
        refine wr_V (rV (As := []) (rest := []) X hT hWσ_42 hS (met_Blocks_failMove l (w := w) hV o _ σ_42 (by omega) h) (cwV 0 X.2.2.2.2 (lw_V q1762 q1764 qs84 q137 q1765) rfl rfl rfl (by decide +kernel) ⟨Nat.le_of_ble_eq_true rfl, Nat.le_of_ble_eq_true rfl⟩) vl4_o (by decide) rfl rfl hl.1 rfl (by first | exact Nat.le_of_ble_eq_true rfl | simp [catK, catI, catR, catL]) dX6_beginMove_111 ⟨Nat.le_refl _, Nat.le_refl _⟩) hS (fun σ_44 H locs rkσ_44 h hWσ_44 hS => ?_)
        have h := h rkσ_44
        refine lv_iconst (v := oI 1) X.1 X.2.1 dX6_beginMove_114 rfl ?_
        exact wret_Z X hr hlk hWσ_44 hS rZ_1 h dX6_beginMove_115
    · have h := h.2 hc
      refine lv_iconst (v := oI 0) X.1 X.2.1 dX6_beginMove_21 rfl ?_
      exact wret_Z X hr hlk hWσ_26 hS rZ_0 h dX6_beginMove_22
  · have h := h.2 hc
    refine lv_iconst (v := oI 0) X.1 X.2.1 dX6_beginMove_9 rfl ?_
    exact wret_Z X hr hlk hWσ_24 hS rZ_0 h dX6_beginMove_10
/-! Blocks.moveStep()Z -/
set_option maxHeartbeats 4000000 in
set_option maxRecDepth 100000 in
theorem met_Blocks_moveStep (l : Launch) {w : Wp} (hV : Hvl w) (o : Int) (Q : Int → St → Prop) (σ : St) (ho : 0 ≤ o ∧ o < 2) (h : wp_Blocks_moveStep (wc w) (wtv w) o Q σ) : Met l yX6_moveStep (ws_ yX6_moveStep cX6_moveStep 2 (some .boolean)) rm_Blocks_moveStep (PcW w σ [.ref (wad w 4 o)]) (QcZ w Q) 0 0 (wA w) := by
  refine Met.ofW (cc := cX6_moveStep) (maxL := 2) (ret := (some .boolean)) (by decide) rfl ?_
  intro p e st m args below meth c s₁ B hml hv
  obtain ⟨hargs, hW, hT⟩ := hv
  have X : CallFix p m c cX6_moveStep 2 st _ lw_all RX6 := ⟨B.exec, B.bytes, hml, findClass_of_methodNamed B.named, fun w h => atoms_spec (ws := ws_ yX6_moveStep cX6_moveStep 2 (some .boolean)) B.pre w (List.mem_cons_of_mem _ h)⟩
  have hr := B.returns
  have hlk := B.notSynchronized
  have hS : va_S (wA w) st.heap st.heap [] := va_S.rf
  have vl2_0 : vl w 2 0 := hV.hv 2 rfl ⟨by omega, by show _ < (1 : Int); omega⟩
  have vl258_o : vl w 258 o := hV.hv 258 rfl ⟨by omega, by show _ < (2 : Int); omega⟩
  have vl263_o : vl w 263 o := hV.hv 263 rfl ⟨by omega, by show _ < (2 : Int); omega⟩
  have vl4_o : vl w 4 o := hV.hv 4 rfl ⟨by omega, by show _ < (2 : Int); omega⟩
  have hl := lv_entry ([.ref (wad w 4 o)]) (n := 2) (Nat.le_of_ble_eq_true rfl)
  have hfr := lg_entry_eq m ([.ref (wad w 4 o)]) 2
  rw [← hargs] at hfr
  rw [hfr]
  generalize (lg_sl ([.ref (wad w 4 o)]) ++ List.replicate (2 - (lg_sl ([.ref (wad w 4 o)])).length) Slot.unset).toArray = ls at hl ⊢
  have hl : lv_has ls 2 [(0, .ref (wad w 4 o))] := hl
  unfold wp_Blocks_moveStep at h
  refine lv_aload_n X.1 X.2.1 dX6_moveStep_0 rfl (lv_at hl 0 rfl) ?_
  refine wg (v := .int (oI (gI σ 265 o))) X hT hW 4 9 265 vl4_o rfl rfl (by decide) rfl (by decide) in_X6 q280 rfl dX6_moveStep_1 ?_
  refine lv_iconst (v := oI (-1)) X.1 X.2.1 dX6_moveStep_4 rfl ?_
  refine w_icmp_ne (tgt := 13) X (hW.r.i 265 o rfl) ((rB_lit (-1) (by decide)).i) dX6_moveStep_5 (by decide) (fun hc => ?_) (fun hc => ?_)
  · have h := h.1 hc
    refine lv_aload_n X.1 X.2.1 dX6_moveStep_13 rfl (lv_at hl 0 rfl) ?_
    refine wg (v := .ref (wad w 258 o)) X hT hW 4 2 258 vl4_o rfl rfl (by decide) rfl (by decide) in_X6 q273 rfl dX6_moveStep_14 ?_
    refine lv_aload_n X.1 X.2.1 dX6_moveStep_17 rfl (lv_at hl 0 rfl) ?_
    refine wg (v := .int (oI (gI σ 265 o))) X hT hW 4 9 265 vl4_o rfl rfl (by decide) rfl (by decide) in_X6 q280 rfl dX6_moveStep_18 ?_
    obtain ⟨bi, h⟩ := h
    refine w_iald (n := ((wc w).1 - 6)) X hT hW 258 vl258_o (by decide) rfl rfl bi dX6_moveStep_21 ?_
    refine w_top (fun y1_13 ey1_13 => ?_)
    have h := h y1_13 ey1_13
    have ry1_13 : rI y1_13 := by rw [ey1_13]; exact (hW.r.ai 258 o (gI σ 265 o) rfl)
    refine lv_istore_n (i := 1) (lv' := [(1, .int (oI y1_13)), (0, .ref (wad w 4 o))]) X.1 X.2.1 dX6_moveStep_22 rfl hl (by decide) (by first | rfl | simp [catK, catI, catR, catL]) (fun ls hl => ?_)
    refine lv_aload_n X.1 X.2.1 dX6_moveStep_23 rfl (lv_at hl 1 rfl) ?_
    refine wg (v := .int (oI (gI σ 267 o))) X hT hW 4 11 267 vl4_o rfl rfl (by decide) rfl (by decide) in_X6 q282 rfl dX6_moveStep_24 ?_
    refine lv_aload_n X.1 X.2.1 dX6_moveStep_27 rfl (lv_at hl 1 rfl) ?_
    refine wg (v := .int (oI (gI σ 268 o))) X hT hW 4 12 268 vl4_o rfl rfl (by decide) rfl (by decide) in_X6 q283 rfl dX6_moveStep_28 ?_
    refine w_icmp_ge (tgt := 97) X (hW.r.i 267 o rfl) (hW.r.i 268 o rfl) dX6_moveStep_31 (by decide) (fun hc => ?_) (fun hc => ?_)
    · have h := h.1 hc
      refine lv_aload_n X.1 X.2.1 dX6_moveStep_97 rfl (lv_at hl 1 rfl) ?_
      refine wr_V (rV (As := []) (rest := []) X hT hW hS (met_Blocks_endMove l (w := w) hV o _ σ (by omega) h) (cwV 0 X.2.2.2.2 (lw_V q783 q785 qs8 q137 q786) rfl rfl rfl (by decide +kernel) ⟨Nat.le_of_ble_eq_true rfl, Nat.le_of_ble_eq_true rfl⟩) vl4_o (by decide) rfl rfl hl.1 rfl (by first | exact Nat.le_of_ble_eq_true rfl | simp [catK, catI, catR, catL]) dX6_moveStep_98 ⟨Nat.le_refl _, Nat.le_refl _⟩) hS (fun σ_15 H locs rkσ_15 h hWσ_15 hS => ?_)
      have h := h rkσ_15
      refine lv_iconst (v := oI 1) X.1 X.2.1 dX6_moveStep_101 rfl ?_
      exact wret_Z X hr hlk hWσ_15 hS rZ_1 h dX6_moveStep_102
    · have h := h.2 hc
      refine lv_aload_n X.1 X.2.1 dX6_moveStep_34 rfl (lv_at hl 1 rfl) ?_
      refine wg (v := .ref (wad w 2 0)) X hT hW 4 0 256 vl4_o rfl rfl (by decide) rfl (by decide) in_X6 q269 rfl dX6_moveStep_35 ?_
      refine lv_iload_n X.1 X.2.1 dX6_moveStep_38 rfl (lv_at hl 0 rfl) ?_
      refine lv_iconst (v := oI 2) X.1 X.2.1 dX6_moveStep_39 rfl ?_
      refine lv_aload_n X.1 X.2.1 dX6_moveStep_40 rfl (lv_at hl 1 rfl) ?_
      refine wg (v := .int (oI (gI σ 267 o))) X hT hW 4 11 267 vl4_o rfl rfl (by decide) rfl (by decide) in_X6 q282 rfl dX6_moveStep_41 ?_
      refine w_iadd X dX6_moveStep_44 ?_
      refine lv_aload_n X.1 X.2.1 dX6_moveStep_45 rfl (lv_at hl 1 rfl) ?_
      refine wg (v := .ref (wad w 263 o)) X hT hW 4 7 263 vl4_o rfl rfl (by decide) rfl (by decide) in_X6 q278 rfl dX6_moveStep_46 ?_
      refine lv_iconst (v := oI 0) X.1 X.2.1 dX6_moveStep_49 rfl ?_
      refine wr_V (rV (As := [.int (oI y1_13), .int (oI (w32 (2 + (gI σ 267 o)))), .ref (wad w 263 o), .int (oI 0)]) (rest := []) X hT hW hS (met_Flash_read l (w := w) hV y1_13 (w32 (2 + (gI σ 267 o))) 263 o 0 _ σ ry1_13 (w32_r _) vl263_o (by decide) rfl rZ_0.i h) (cwV 4 X.2.2.2.2 (lw_V q889 q890 q891 q134 q892) rfl rfl rfl (by decide +kernel) ⟨Nat.le_of_ble_eq_true rfl, Nat.le_of_ble_eq_true rfl⟩) vl2_0 (by decide) rfl rfl hl.1 rfl (by first | exact Nat.le_of_ble_eq_true rfl | simp [catK, catI, catR, catL]) dX6_moveStep_50 ⟨Nat.le_refl _, Nat.le_refl _⟩) hS (fun σ_17 H locs rkσ_17 h hWσ_17 hS => ?_)
      have h := h rkσ_17
      refine lv_aload_n X.1 X.2.1 dX6_moveStep_53 rfl (lv_at hl 1 rfl) ?_
      refine wg (v := .ref (wad w 2 0)) X hT hWσ_17 4 0 256 vl4_o rfl rfl (by decide) rfl (by decide) in_X6 q269 rfl dX6_moveStep_54 ?_
      refine lv_aload_n X.1 X.2.1 dX6_moveStep_57 rfl (lv_at hl 1 rfl) ?_
      refine wg (v := .int (oI (gI σ_17 266 o))) X hT hWσ_17 4 10 266 vl4_o rfl rfl (by decide) rfl (by decide) in_X6 q281 rfl dX6_moveStep_58 ?_
      refine lv_iconst (v := oI 2) X.1 X.2.1 dX6_moveStep_61 rfl ?_
      refine lv_aload_n X.1 X.2.1 dX6_moveStep_62 rfl (lv_at hl 1 rfl) ?_
      refine wg (v := .int (oI (gI σ_17 267 o))) X hT hWσ_17 4 11 267 vl4_o rfl rfl (by decide) rfl (by decide) in_X6 q282 rfl dX6_moveStep_63 ?_
      refine w_iadd X dX6_moveStep_66 ?_
      refine lv_aload_n X.1 X.2.1 dX6_moveStep_67 rfl (lv_at hl 1 rfl) ?_
      refine wg (v := .ref (wad w 263 o)) X hT hWσ_17 4 7 263 vl4_o rfl rfl (by decide) rfl (by decide) in_X6 q278 rfl dX6_moveStep_68 ?_
      refine lv_iconst (v := oI 0) X.1 X.2.1 dX6_moveStep_71 rfl ?_
      refine wr_Z (rV (As := [.int (oI (gI σ_17 266 o)), .int (oI (w32 (2 + (gI σ_17 267 o)))), .ref (wad w 263 o), .int (oI 0)]) (rest := []) X hT hWσ_17 hS (met_Flash_write l (w := w) hV (gI σ_17 266 o) (w32 (2 + (gI σ_17 267 o))) 263 o 0 _ σ_17 (hWσ_17.r.i 266 o rfl) (w32_r _) vl263_o (by decide) rfl rZ_0.i h) (cwV 4 X.2.2.2.2 (lw_V q693 q694 q695 q134 q696) rfl rfl rfl (by decide +kernel) ⟨Nat.le_of_ble_eq_true rfl, Nat.le_of_ble_eq_true rfl⟩) vl2_0 (by decide) rfl rfl hl.1 rfl (by first | exact Nat.le_of_ble_eq_true rfl | simp [catK, catI, catR, catL]) dX6_moveStep_72 ⟨Nat.le_refl _, Nat.le_refl _⟩) hS (fun r_18 σ_19 H locs rr_18 rkσ_19 h hWσ_19 hS => ?_)
      have h := h rr_18 rkσ_19
      refine w_if_eq (tgt := 91) X rr_18.i dX6_moveStep_75 (by decide) (fun hc => ?_) (fun hc => ?_)
      · have h := h.1 hc
        refine lv_aload_n X.1 X.2.1 dX6_moveStep_91 rfl (lv_at hl 1 rfl) ?_
        refine wr_V (rV (As := []) (rest := []) X hT hWσ_19 hS (met_Blocks_failMove l (w := w) hV o _ σ_19 (by omega) h) (cwV 0 X.2.2.2.2 (lw_V q1762 q1764 qs84 q137 q1765) rfl rfl rfl (by decide +kernel) ⟨Nat.le_of_ble_eq_true rfl, Nat.le_of_ble_eq_true rfl⟩) vl4_o (by decide) rfl rfl hl.1 rfl (by first | exact Nat.le_of_ble_eq_true rfl | simp [catK, catI, catR, catL]) dX6_moveStep_92 ⟨Nat.le_refl _, Nat.le_refl _⟩) hS (fun σ_21 H locs rkσ_21 h hWσ_21 hS => ?_)
        have h := h rkσ_21
        refine lv_iconst (v := oI 1) X.1 X.2.1 dX6_moveStep_95 rfl ?_
        exact wret_Z X hr hlk hWσ_21 hS rZ_1 h dX6_moveStep_96
      · have h := h.2 hc
        refine lv_aload_n X.1 X.2.1 dX6_moveStep_78 rfl (lv_at hl 1 rfl) ?_
        refine lv_dup X.1 X.2.1 dX6_moveStep_79 rfl ?_
        refine wg (v := .int (oI (gI σ_19 267 o))) X hT hWσ_19 4 11 267 vl4_o rfl rfl (by decide) rfl (by decide) in_X6 q282 rfl dX6_moveStep_80 ?_
        refine lv_iconst (v := oI 1) X.1 X.2.1 dX6_moveStep_83 rfl ?_
        refine w_iadd X dX6_moveStep_84 ?_
        refine wput (z := w32 ((gI σ_19 267 o) + 1)) X hT hWσ_19 hS 4 11 267 vl4_o rfl rfl (by decide) rfl (by decide) in_X6 tyX6 tyX6_ok nmX6 q282 rfl rfl (w32_r _) (fv0 w rfl) rfl rfl dX6_moveStep_85 (fun H locs hN hS => ?_)
        obtain ⟨σ_22, eσ_22⟩ : ∃ x, x = sI σ_19 267 o (w32 ((gI σ_19 267 o) + 1)) := ⟨_, rfl⟩
        have hWσ_22 : Wo w σ_22 H := eσ_22 ▸ hN
        have h := h σ_22 eσ_22
        clear hN
        refine lv_goto (tgt := 95) X.1 X.2.1 dX6_moveStep_88 (by decide) ?_
        refine lv_iconst (v := oI 1) X.1 X.2.1 dX6_moveStep_95 rfl ?_
        exact wret_Z X hr hlk hWσ_22 hS rZ_1 h dX6_moveStep_96
  · have h := h.2 hc
    refine lv_aload_n X.1 X.2.1 dX6_moveStep_8 rfl (lv_at hl 0 rfl) ?_
    refine wr_Z (rV (As := []) (rest := []) X hT hW hS (met_Blocks_beginMove l (w := w) hV o _ σ (by omega) h) (cwV 0 X.2.2.2.2 (lw_V q1746 q1748 qs81 q137 q1749) rfl rfl rfl (by decide +kernel) ⟨Nat.le_of_ble_eq_true rfl, Nat.le_of_ble_eq_true rfl⟩) vl4_o (by decide) rfl rfl hl.1 rfl (by first | exact Nat.le_of_ble_eq_true rfl | simp [catK, catI, catR, catL]) dX6_moveStep_9 ⟨Nat.le_refl _, Nat.le_refl _⟩) hS (fun r_23 σ_24 H locs rr_23 rkσ_24 h hWσ_24 hS => ?_)
    have h := h rr_23 rkσ_24
    exact wret_Z X hr hlk hWσ_24 hS rr_23 h dX6_moveStep_12
/-! Blocks.isSound()Z -/
set_option maxHeartbeats 4000000 in
set_option maxRecDepth 100000 in
theorem wk_Blocks_isSound_b165 {p : Program} {l : Launch} {e : Env} {st : State} {m : MethodId} {args : Array Value} {below : List Frame} {meth : Method} {c : Code} {w : Wp} {o : Int} {Q : Int → St → Prop} (X : CallFix p m c cX6_isSound 5 st args lw_all RX6) (hr : meth.sig.returnType = (some .boolean)) (hlk : meth.locks = false) (hT : Tb w st) (hV : Hvl w) (ho : 0 ≤ o ∧ o < 2) (K170 : Int → Int → Int → St → Prop) (hK170 : ∀ (y2 t0 t1 : Int) (σ : St) (H : Heap) (locs : List Loc) (ls : Array Slot), rI y2 → rZ t0 → rZ t1 → lv_has ls 5 [(0, .ref (wad w 4 o)), (2, .int (oI y2))] → Wo w σ H → va_S (wA w) st.heap H locs → K170 y2 t0 t1 σ → W p l e (headSpec (ws_ yX6_isSound cX6_isSound 5 (some .boolean)) rm_Blocks_isSound).room st m args below meth c H locs 0 0 (MQ below (QcZ w Q) args st 0 0 (wA w)) (F0 m 170 ls [.int (oI t0), .int (oI t1)])) : ∀ (y2 t0 : Int) (σ : St) (H : Heap) (locs : List Loc) (ls : Array Slot), rI y2 → rZ t0 → lv_has ls 5 [(0, .ref (wad w 4 o)), (2, .int (oI y2))] → Wo w σ H → va_S (wA w) st.heap H locs → wp_Blocks_isSound_b165 (wc w) (wtv w) o Q K170 y2 t0 σ → W p l e (headSpec (ws_ yX6_isSound cX6_isSound 5 (some .boolean)) rm_Blocks_isSound).room st m args below meth c H locs 0 0 (MQ below (QcZ w Q) args st 0 0 (wA w)) (F0 m 165 ls [.int (oI t0)]) := by

  intro y2 t0 σ H locs ls ry2 rt0 hl hW hS h
  unfold wp_Blocks_isSound_b165 at h
  refine lv_iconst (v := oI 1) X.1 X.2.1 dX6_isSound_165 rfl ?_
  refine lv_goto (tgt := 170) X.1 X.2.1 dX6_isSound_166 (by decide) ?_
  exact hK170 y2 1 t0 σ _ _ _ ry2 rZ_1 rt0 (lv_sub hl [0, 1] rfl) hW hS h
set_option maxHeartbeats 4000000 in
set_option maxRecDepth 100000 in
theorem wk_Blocks_isSound_b136 {p : Program} {l : Launch} {e : Env} {st : State} {m : MethodId} {args : Array Value} {below : List Frame} {meth : Method} {c : Code} {w : Wp} {o : Int} {Q : Int → St → Prop} (X : CallFix p m c cX6_isSound 5 st args lw_all RX6) (hr : meth.sig.returnType = (some .boolean)) (hlk : meth.locks = false) (hT : Tb w st) (hV : Hvl w) (ho : 0 ≤ o ∧ o < 2) (K137 : Int → Int → Int → St → Prop) (hK137 : ∀ (y2 t0 t1 : Int) (σ : St) (H : Heap) (locs : List Loc) (ls : Array Slot), rI y2 → rZ t0 → rZ t1 → lv_has ls 5 [(0, .ref (wad w 4 o)), (2, .int (oI y2))] → Wo w σ H → va_S (wA w) st.heap H locs → K137 y2 t0 t1 σ → W p l e (headSpec (ws_ yX6_isSound cX6_isSound 5 (some .boolean)) rm_Blocks_isSound).room st m args below meth c H locs 0 0 (MQ below (QcZ w Q) args st 0 0 (wA w)) (F0 m 137 ls [.int (oI t0), .int (oI t1)])) : ∀ (y2 t0 : Int) (σ : St) (H : Heap) (locs : List Loc) (ls : Array Slot), rI y2 → rZ t0 → lv_has ls 5 [(0, .ref (wad w 4 o)), (2, .int (oI y2))] → Wo w σ H → va_S (wA w) st.heap H locs → wp_Blocks_isSound_b136 (wc w) (wtv w) o Q K137 y2 t0 σ → W p l e (headSpec (ws_ yX6_isSound cX6_isSound 5 (some .boolean)) rm_Blocks_isSound).room st m args below meth c H locs 0 0 (MQ below (QcZ w Q) args st 0 0 (wA w)) (F0 m 136 ls [.int (oI t0)]) := by

  intro y2 t0 σ H locs ls ry2 rt0 hl hW hS h
  unfold wp_Blocks_isSound_b136 at h
  refine lv_iconst (v := oI 0) X.1 X.2.1 dX6_isSound_136 rfl ?_
  exact hK137 y2 0 t0 σ _ _ _ ry2 rZ_0 rt0 (lv_sub hl [0, 1] rfl) hW hS h
set_option maxHeartbeats 4000000 in
set_option maxRecDepth 100000 in
theorem wk_Blocks_isSound_b137 {p : Program} {l : Launch} {e : Env} {st : State} {m : MethodId} {args : Array Value} {below : List Frame} {meth : Method} {c : Code} {w : Wp} {o : Int} {Q : Int → St → Prop} (X : CallFix p m c cX6_isSound 5 st args lw_all RX6) (hr : meth.sig.returnType = (some .boolean)) (hlk : meth.locks = false) (hT : Tb w st) (hV : Hvl w) (ho : 0 ≤ o ∧ o < 2) (K172 : Int → Int → St → Prop) (hK172 : ∀ (y1 y2 : Int) (σ : St) (H : Heap) (locs : List Loc) (ls : Array Slot), rZ y1 → rI y2 → lv_has ls 5 [(0, .ref (wad w 4 o)), (1, .int (oI y1)), (2, .int (oI y2))] → Wo w σ H → va_S (wA w) st.heap H locs → K172 y1 y2 σ → W p l e (headSpec (ws_ yX6_isSound cX6_isSound 5 (some .boolean)) rm_Blocks_isSound).room st m args below meth c H locs 0 0 (MQ below (QcZ w Q) args st 0 0 (wA w)) (F0 m 172 ls [])) : ∀ (y2 t0 t1 : Int) (σ : St) (H : Heap) (locs : List Loc) (ls : Array Slot), rI y2 → rZ t0 → rZ t1 → lv_has ls 5 [(0, .ref (wad w 4 o)), (2, .int (oI y2))] → Wo w σ H → va_S (wA w) st.heap H locs → wp_Blocks_isSound_b137 (wc w) (wtv w) o Q K172 y2 t0 t1 σ → W p l e (headSpec (ws_ yX6_isSound cX6_isSound 5 (some .boolean)) rm_Blocks_isSound).room st m args below meth c H locs 0 0 (MQ below (QcZ w Q) args st 0 0 (wA w)) (F0 m 137 ls [.int (oI t0), .int (oI t1)]) := by

  intro y2 t0 t1 σ H locs ls ry2 rt0 rt1 hl hW hS h
  unfold wp_Blocks_isSound_b137 at h
  refine w_iand X dX6_isSound_137 ?_
  refine w_top (fun y1_52 ey1_52 => ?_)
  have h := h y1_52 ey1_52
  have ry1_52 : rZ y1_52 := by rw [ey1_52]; exact (iand_Z rt1 rt0)
  refine lv_istore_n (i := 1) (lv' := [(1, .int (oI y1_52)), (0, .ref (wad w 4 o)), (2, .int (oI y2))]) X.1 X.2.1 dX6_isSound_138 rfl hl (by decide) (by first | rfl | simp [catK, catI, catR, catL]) (fun ls hl => ?_)
  refine lv_goto (tgt := 172) X.1 X.2.1 dX6_isSound_139 (by decide) ?_
  exact hK172 y1_52 y2 σ _ _ _ ry1_52 ry2 (lv_sub hl [1, 0, 2] rfl) hW hS h
set_option maxHeartbeats 4000000 in
set_option maxRecDepth 100000 in
theorem wk_Blocks_isSound_b170 {p : Program} {l : Launch} {e : Env} {st : State} {m : MethodId} {args : Array Value} {below : List Frame} {meth : Method} {c : Code} {w : Wp} {o : Int} {Q : Int → St → Prop} (X : CallFix p m c cX6_isSound 5 st args lw_all RX6) (hr : meth.sig.returnType = (some .boolean)) (hlk : meth.locks = false) (hT : Tb w st) (hV : Hvl w) (ho : 0 ≤ o ∧ o < 2) (K172 : Int → Int → St → Prop) (hK172 : ∀ (y1 y2 : Int) (σ : St) (H : Heap) (locs : List Loc) (ls : Array Slot), rZ y1 → rI y2 → lv_has ls 5 [(0, .ref (wad w 4 o)), (1, .int (oI y1)), (2, .int (oI y2))] → Wo w σ H → va_S (wA w) st.heap H locs → K172 y1 y2 σ → W p l e (headSpec (ws_ yX6_isSound cX6_isSound 5 (some .boolean)) rm_Blocks_isSound).room st m args below meth c H locs 0 0 (MQ below (QcZ w Q) args st 0 0 (wA w)) (F0 m 172 ls [])) : ∀ (y2 t0 t1 : Int) (σ : St) (H : Heap) (locs : List Loc) (ls : Array Slot), rI y2 → rZ t0 → rZ t1 → lv_has ls 5 [(0, .ref (wad w 4 o)), (2, .int (oI y2))] → Wo w σ H → va_S (wA w) st.heap H locs → wp_Blocks_isSound_b170 (wc w) (wtv w) o Q K172 y2 t0 t1 σ → W p l e (headSpec (ws_ yX6_isSound cX6_isSound 5 (some .boolean)) rm_Blocks_isSound).room st m args below meth c H locs 0 0 (MQ below (QcZ w Q) args st 0 0 (wA w)) (F0 m 170 ls [.int (oI t0), .int (oI t1)]) := by

  intro y2 t0 t1 σ H locs ls ry2 rt0 rt1 hl hW hS h
  unfold wp_Blocks_isSound_b170 at h
  refine w_iand X dX6_isSound_170 ?_
  refine w_top (fun y1_53 ey1_53 => ?_)
  have h := h y1_53 ey1_53
  have ry1_53 : rZ y1_53 := by rw [ey1_53]; exact (iand_Z rt1 rt0)
  refine lv_istore_n (i := 1) (lv' := [(1, .int (oI y1_53)), (0, .ref (wad w 4 o)), (2, .int (oI y2))]) X.1 X.2.1 dX6_isSound_171 rfl hl (by decide) (by first | rfl | simp [catK, catI, catR, catL]) (fun ls hl => ?_)
  exact hK172 y1_53 y2 σ _ _ _ ry1_53 ry2 (lv_sub hl [1, 0, 2] rfl) hW hS h
set_option maxHeartbeats 4000000 in
set_option maxRecDepth 100000 in
theorem wk_Blocks_isSound_b172 {p : Program} {l : Launch} {e : Env} {st : State} {m : MethodId} {args : Array Value} {below : List Frame} {meth : Method} {c : Code} {w : Wp} {o : Int} {Q : Int → St → Prop} (X : CallFix p m c cX6_isSound 5 st args lw_all RX6) (hr : meth.sig.returnType = (some .boolean)) (hlk : meth.locks = false) (hT : Tb w st) (hV : Hvl w) (ho : 0 ≤ o ∧ o < 2) (K4 : Int → Int → St → Prop) (hK4 : ∀ (y1 y2 : Int) (σ : St) (H : Heap) (locs : List Loc) (ls : Array Slot), rZ y1 → rI y2 → lv_has ls 5 [(0, .ref (wad w 4 o)), (1, .int (oI y1)), (2, .int (oI y2))] → Wo w σ H → va_S (wA w) st.heap H locs → K4 y1 y2 σ → W p l e (headSpec (ws_ yX6_isSound cX6_isSound 5 (some .boolean)) rm_Blocks_isSound).room st m args below meth c H locs 0 0 (MQ below (QcZ w Q) args st 0 0 (wA w)) (F0 m 4 ls [])) : ∀ (y1 y2 : Int) (σ : St) (H : Heap) (locs : List Loc) (ls : Array Slot), rZ y1 → rI y2 → lv_has ls 5 [(0, .ref (wad w 4 o)), (1, .int (oI y1)), (2, .int (oI y2))] → Wo w σ H → va_S (wA w) st.heap H locs → wp_Blocks_isSound_b172 (wc w) (wtv w) o Q K4 y1 y2 σ → W p l e (headSpec (ws_ yX6_isSound cX6_isSound 5 (some .boolean)) rm_Blocks_isSound).room st m args below meth c H locs 0 0 (MQ below (QcZ w Q) args st 0 0 (wA w)) (F0 m 172 ls []) := by

  intro y1 y2 σ H locs ls ry1 ry2 hl hW hS h
  unfold wp_Blocks_isSound_b172 at h
  obtain ⟨y2_54, ey2_54⟩ : ∃ y : Int, y = w32 (y2 + 1) := ⟨_, rfl⟩
  have h := h y2_54 ey2_54
  have ry2_54 : rI y2_54 := by rw [ey2_54]; exact w32_r _
  refine lv_iinc (v := oI y2_54) (lv' := [(2, .int (oI y2_54)), (0, .ref (wad w 4 o)), (1, .int (oI y1))]) X.1 X.2.1 dX6_isSound_172 hl (k := 2) rfl (by rw [ey2_54]; exact oI_add _ _) (by decide) (by first | rfl | simp [catK, catI, catR, catL]) (fun ls hl => ?_)
  refine lv_goto (tgt := 4) X.1 X.2.1 dX6_isSound_175 (by decide) ?_
  exact hK4 y1 y2_54 σ _ _ _ ry1 ry2_54 (lv_sub hl [1, 2, 0] rfl) hW hS h
set_option maxHeartbeats 4000000 in
set_option maxRecDepth 100000 in
theorem wk_Blocks_isSound_b214 {p : Program} {l : Launch} {e : Env} {st : State} {m : MethodId} {args : Array Value} {below : List Frame} {meth : Method} {c : Code} {w : Wp} {o : Int} {Q : Int → St → Prop} (X : CallFix p m c cX6_isSound 5 st args lw_all RX6) (hr : meth.sig.returnType = (some .boolean)) (hlk : meth.locks = false) (hT : Tb w st) (hV : Hvl w) (ho : 0 ≤ o ∧ o < 2) (K219 : Int → Int → Int → St → Prop) (hK219 : ∀ (y2 t0 t1 : Int) (σ : St) (H : Heap) (locs : List Loc) (ls : Array Slot), rI y2 → rZ t0 → rZ t1 → lv_has ls 5 [(0, .ref (wad w 4 o)), (2, .int (oI y2))] → Wo w σ H → va_S (wA w) st.heap H locs → K219 y2 t0 t1 σ → W p l e (headSpec (ws_ yX6_isSound cX6_isSound 5 (some .boolean)) rm_Blocks_isSound).room st m args below meth c H locs 0 0 (MQ below (QcZ w Q) args st 0 0 (wA w)) (F0 m 219 ls [.int (oI t0), .int (oI t1)])) : ∀ (y2 t0 : Int) (σ : St) (H : Heap) (locs : List Loc) (ls : Array Slot), rI y2 → rZ t0 → lv_has ls 5 [(0, .ref (wad w 4 o)), (2, .int (oI y2))] → Wo w σ H → va_S (wA w) st.heap H locs → wp_Blocks_isSound_b214 (wc w) (wtv w) o Q K219 y2 t0 σ → W p l e (headSpec (ws_ yX6_isSound cX6_isSound 5 (some .boolean)) rm_Blocks_isSound).room st m args below meth c H locs 0 0 (MQ below (QcZ w Q) args st 0 0 (wA w)) (F0 m 214 ls [.int (oI t0)]) := by

  intro y2 t0 σ H locs ls ry2 rt0 hl hW hS h
  unfold wp_Blocks_isSound_b214 at h
  refine lv_iconst (v := oI 1) X.1 X.2.1 dX6_isSound_214 rfl ?_
  refine lv_goto (tgt := 219) X.1 X.2.1 dX6_isSound_215 (by decide) ?_
  exact hK219 y2 1 t0 σ _ _ _ ry2 rZ_1 rt0 (lv_sub hl [0, 1] rfl) hW hS h
set_option maxHeartbeats 4000000 in
set_option maxRecDepth 100000 in
theorem wk_Blocks_isSound_b219 {p : Program} {l : Launch} {e : Env} {st : State} {m : MethodId} {args : Array Value} {below : List Frame} {meth : Method} {c : Code} {w : Wp} {o : Int} {Q : Int → St → Prop} (X : CallFix p m c cX6_isSound 5 st args lw_all RX6) (hr : meth.sig.returnType = (some .boolean)) (hlk : meth.locks = false) (hT : Tb w st) (hV : Hvl w) (ho : 0 ≤ o ∧ o < 2) (K180 : Int → Int → St → Prop) (hK180 : ∀ (y1 y2 : Int) (σ : St) (H : Heap) (locs : List Loc) (ls : Array Slot), rZ y1 → rI y2 → lv_has ls 5 [(0, .ref (wad w 4 o)), (1, .int (oI y1)), (2, .int (oI y2))] → Wo w σ H → va_S (wA w) st.heap H locs → K180 y1 y2 σ → W p l e (headSpec (ws_ yX6_isSound cX6_isSound 5 (some .boolean)) rm_Blocks_isSound).room st m args below meth c H locs 0 0 (MQ below (QcZ w Q) args st 0 0 (wA w)) (F0 m 180 ls [])) : ∀ (y2 t0 t1 : Int) (σ : St) (H : Heap) (locs : List Loc) (ls : Array Slot), rI y2 → rZ t0 → rZ t1 → lv_has ls 5 [(0, .ref (wad w 4 o)), (2, .int (oI y2))] → Wo w σ H → va_S (wA w) st.heap H locs → wp_Blocks_isSound_b219 (wc w) (wtv w) o Q K180 y2 t0 t1 σ → W p l e (headSpec (ws_ yX6_isSound cX6_isSound 5 (some .boolean)) rm_Blocks_isSound).room st m args below meth c H locs 0 0 (MQ below (QcZ w Q) args st 0 0 (wA w)) (F0 m 219 ls [.int (oI t0), .int (oI t1)]) := by

  intro y2 t0 t1 σ H locs ls ry2 rt0 rt1 hl hW hS h
  unfold wp_Blocks_isSound_b219 at h
  refine w_iand X dX6_isSound_219 ?_
  refine w_top (fun y1_55 ey1_55 => ?_)
  have h := h y1_55 ey1_55
  have ry1_55 : rZ y1_55 := by rw [ey1_55]; exact (iand_Z rt1 rt0)
  refine lv_istore_n (i := 1) (lv' := [(1, .int (oI y1_55)), (0, .ref (wad w 4 o)), (2, .int (oI y2))]) X.1 X.2.1 dX6_isSound_220 rfl hl (by decide) (by first | rfl | simp [catK, catI, catR, catL]) (fun ls hl => ?_)
  obtain ⟨y2_56, ey2_56⟩ : ∃ y : Int, y = w32 (y2 + 1) := ⟨_, rfl⟩
  have h := h y2_56 ey2_56
  have ry2_56 : rI y2_56 := by rw [ey2_56]; exact w32_r _
  refine lv_iinc (v := oI y2_56) (lv' := [(2, .int (oI y2_56)), (1, .int (oI y1_55)), (0, .ref (wad w 4 o))]) X.1 X.2.1 dX6_isSound_221 hl (k := 2) rfl (by rw [ey2_56]; exact oI_add _ _) (by decide) (by first | rfl | simp [catK, catI, catR, catL]) (fun ls hl => ?_)
  refine lv_goto (tgt := 180) X.1 X.2.1 dX6_isSound_224 (by decide) ?_
  exact hK180 y1_55 y2_56 σ _ _ _ ry1_55 ry2_56 (lv_sub hl [2, 1, 0] rfl) hW hS h
set_option maxHeartbeats 4000000 in
set_option maxRecDepth 100000 in
theorem wk_Blocks_isSound_b94 {p : Program} {l : Launch} {e : Env} {st : State} {m : MethodId} {args : Array Value} {below : List Frame} {meth : Method} {c : Code} {w : Wp} {o : Int} {Q : Int → St → Prop} (X : CallFix p m c cX6_isSound 5 st args lw_all RX6) (hr : meth.sig.returnType = (some .boolean)) (hlk : meth.locks = false) (hT : Tb w st) (hV : Hvl w) (ho : 0 ≤ o ∧ o < 2) (K95 : Int → Int → Int → St → Prop) (hK95 : ∀ (y2 t0 t1 : Int) (σ : St) (H : Heap) (locs : List Loc) (ls : Array Slot), rI y2 → rZ t0 → rZ t1 → lv_has ls 5 [(0, .ref (wad w 4 o)), (2, .int (oI y2))] → Wo w σ H → va_S (wA w) st.heap H locs → K95 y2 t0 t1 σ → W p l e (headSpec (ws_ yX6_isSound cX6_isSound 5 (some .boolean)) rm_Blocks_isSound).room st m args below meth c H locs 0 0 (MQ below (QcZ w Q) args st 0 0 (wA w)) (F0 m 95 ls [.int (oI t0), .int (oI t1)])) : ∀ (y2 t0 : Int) (σ : St) (H : Heap) (locs : List Loc) (ls : Array Slot), rI y2 → rZ t0 → lv_has ls 5 [(0, .ref (wad w 4 o)), (2, .int (oI y2))] → Wo w σ H → va_S (wA w) st.heap H locs → wp_Blocks_isSound_b94 (wc w) (wtv w) o Q K95 y2 t0 σ → W p l e (headSpec (ws_ yX6_isSound cX6_isSound 5 (some .boolean)) rm_Blocks_isSound).room st m args below meth c H locs 0 0 (MQ below (QcZ w Q) args st 0 0 (wA w)) (F0 m 94 ls [.int (oI t0)]) := by

  intro y2 t0 σ H locs ls ry2 rt0 hl hW hS h
  unfold wp_Blocks_isSound_b94 at h
  refine lv_iconst (v := oI 0) X.1 X.2.1 dX6_isSound_94 rfl ?_
  exact hK95 y2 0 t0 σ _ _ _ ry2 rZ_0 rt0 (lv_sub hl [0, 1] rfl) hW hS h
set_option maxHeartbeats 4000000 in
set_option maxRecDepth 100000 in
theorem wk_Blocks_isSound_b95 {p : Program} {l : Launch} {e : Env} {st : State} {m : MethodId} {args : Array Value} {below : List Frame} {meth : Method} {c : Code} {w : Wp} {o : Int} {Q : Int → St → Prop} (X : CallFix p m c cX6_isSound 5 st args lw_all RX6) (hr : meth.sig.returnType = (some .boolean)) (hlk : meth.locks = false) (hT : Tb w st) (hV : Hvl w) (ho : 0 ≤ o ∧ o < 2) (K172 : Int → Int → St → Prop) (hK172 : ∀ (y1 y2 : Int) (σ : St) (H : Heap) (locs : List Loc) (ls : Array Slot), rZ y1 → rI y2 → lv_has ls 5 [(0, .ref (wad w 4 o)), (1, .int (oI y1)), (2, .int (oI y2))] → Wo w σ H → va_S (wA w) st.heap H locs → K172 y1 y2 σ → W p l e (headSpec (ws_ yX6_isSound cX6_isSound 5 (some .boolean)) rm_Blocks_isSound).room st m args below meth c H locs 0 0 (MQ below (QcZ w Q) args st 0 0 (wA w)) (F0 m 172 ls [])) : ∀ (y2 t0 t1 : Int) (σ : St) (H : Heap) (locs : List Loc) (ls : Array Slot), rI y2 → rZ t0 → rZ t1 → lv_has ls 5 [(0, .ref (wad w 4 o)), (2, .int (oI y2))] → Wo w σ H → va_S (wA w) st.heap H locs → wp_Blocks_isSound_b95 (wc w) (wtv w) o Q K172 y2 t0 t1 σ → W p l e (headSpec (ws_ yX6_isSound cX6_isSound 5 (some .boolean)) rm_Blocks_isSound).room st m args below meth c H locs 0 0 (MQ below (QcZ w Q) args st 0 0 (wA w)) (F0 m 95 ls [.int (oI t0), .int (oI t1)]) := by

  intro y2 t0 t1 σ H locs ls ry2 rt0 rt1 hl hW hS h
  unfold wp_Blocks_isSound_b95 at h
  refine w_iand X dX6_isSound_95 ?_
  refine w_top (fun y1_57 ey1_57 => ?_)
  have h := h y1_57 ey1_57
  have ry1_57 : rZ y1_57 := by rw [ey1_57]; exact (iand_Z rt1 rt0)
  refine lv_istore_n (i := 1) (lv' := [(1, .int (oI y1_57)), (0, .ref (wad w 4 o)), (2, .int (oI y2))]) X.1 X.2.1 dX6_isSound_96 rfl hl (by decide) (by first | rfl | simp [catK, catI, catR, catL]) (fun ls hl => ?_)
  refine lv_goto (tgt := 172) X.1 X.2.1 dX6_isSound_97 (by decide) ?_
  exact hK172 y1_57 y2 σ _ _ _ ry1_57 ry2 (lv_sub hl [1, 0, 2] rfl) hW hS h
set_option maxHeartbeats 4000000 in
set_option maxRecDepth 100000 in
theorem wk_Blocks_isSound_b42 {p : Program} {l : Launch} {e : Env} {st : State} {m : MethodId} {args : Array Value} {below : List Frame} {meth : Method} {c : Code} {w : Wp} {o : Int} {Q : Int → St → Prop} (X : CallFix p m c cX6_isSound 5 st args lw_all RX6) (hr : meth.sig.returnType = (some .boolean)) (hlk : meth.locks = false) (hT : Tb w st) (hV : Hvl w) (ho : 0 ≤ o ∧ o < 2) (K43 : Int → Int → Int → Int → St → Prop) (hK43 : ∀ (y1 y2 y3 t0 : Int) (σ : St) (H : Heap) (locs : List Loc) (ls : Array Slot), rZ y1 → rI y2 → rI y3 → rZ t0 → lv_has ls 5 [(0, .ref (wad w 4 o)), (1, .int (oI y1)), (2, .int (oI y2)), (3, .int (oI y3))] → Wo w σ H → va_S (wA w) st.heap H locs → K43 y1 y2 y3 t0 σ → W p l e (headSpec (ws_ yX6_isSound cX6_isSound 5 (some .boolean)) rm_Blocks_isSound).room st m args below meth c H locs 0 0 (MQ below (QcZ w Q) args st 0 0 (wA w)) (F0 m 43 ls [.int (oI t0)])) : ∀ (y1 y2 y3 : Int) (σ : St) (H : Heap) (locs : List Loc) (ls : Array Slot), rZ y1 → rI y2 → rI y3 → lv_has ls 5 [(0, .ref (wad w 4 o)), (1, .int (oI y1)), (2, .int (oI y2)), (3, .int (oI y3))] → Wo w σ H → va_S (wA w) st.heap H locs → wp_Blocks_isSound_b42 (wc w) (wtv w) o Q K43 y1 y2 y3 σ → W p l e (headSpec (ws_ yX6_isSound cX6_isSound 5 (some .boolean)) rm_Blocks_isSound).room st m args below meth c H locs 0 0 (MQ below (QcZ w Q) args st 0 0 (wA w)) (F0 m 42 ls []) := by

  intro y1 y2 y3 σ H locs ls ry1 ry2 ry3 hl hW hS h
  unfold wp_Blocks_isSound_b42 at h
  refine lv_iconst (v := oI 0) X.1 X.2.1 dX6_isSound_42 rfl ?_
  exact hK43 y1 y2 y3 0 σ _ _ _ ry1 ry2 ry3 rZ_0 (lv_sub hl [0, 1, 2, 3] rfl) hW hS h
set_option maxHeartbeats 4000000 in
set_option maxRecDepth 100000 in
theorem wk_Blocks_isSound_b43 {p : Program} {l : Launch} {e : Env} {st : State} {m : MethodId} {args : Array Value} {below : List Frame} {meth : Method} {c : Code} {w : Wp} {o : Int} {Q : Int → St → Prop} (X : CallFix p m c cX6_isSound 5 st args lw_all RX6) (hr : meth.sig.returnType = (some .boolean)) (hlk : meth.locks = false) (hT : Tb w st) (hV : Hvl w) (ho : 0 ≤ o ∧ o < 2) (K4 : Int → Int → St → Prop) (hK4 : ∀ (y1 y2 : Int) (σ : St) (H : Heap) (locs : List Loc) (ls : Array Slot), rZ y1 → rI y2 → lv_has ls 5 [(0, .ref (wad w 4 o)), (1, .int (oI y1)), (2, .int (oI y2))] → Wo w σ H → va_S (wA w) st.heap H locs → K4 y1 y2 σ → W p l e (headSpec (ws_ yX6_isSound cX6_isSound 5 (some .boolean)) rm_Blocks_isSound).room st m args below meth c H locs 0 0 (MQ below (QcZ w Q) args st 0 0 (wA w)) (F0 m 4 ls [])) : ∀ (y1 y2 y3 t0 : Int) (σ : St) (H : Heap) (locs : List Loc) (ls : Array Slot), rZ y1 → rI y2 → rI y3 → rZ t0 → lv_has ls 5 [(0, .ref (wad w 4 o)), (1, .int (oI y1)), (2, .int (oI y2)), (3, .int (oI y3))] → Wo w σ H → va_S (wA w) st.heap H locs → wp_Blocks_isSound_b43 (wc w) (wtv w) o Q K4 y1 y2 y3 t0 σ → W p l e (headSpec (ws_ yX6_isSound cX6_isSound 5 (some .boolean)) rm_Blocks_isSound).room st m args below meth c H locs 0 0 (MQ below (QcZ w Q) args st 0 0 (wA w)) (F0 m 43 ls [.int (oI t0)]) := by
  have vl2_0 : vl w 2 0 := hV.hv 2 rfl ⟨by omega, by show _ < (1 : Int); omega⟩
  have vl258_o : vl w 258 o := hV.hv 258 rfl ⟨by omega, by show _ < (2 : Int); omega⟩
  have vl260_o : vl w 260 o := hV.hv 260 rfl ⟨by omega, by show _ < (2 : Int); omega⟩
  have vl4_o : vl w 4 o := hV.hv 4 rfl ⟨by omega, by show _ < (2 : Int); omega⟩
  intro y1 y2 y3 t0 σ H locs ls ry1 ry2 ry3 rt0 hl hW hS h
  unfold wp_Blocks_isSound_b43 at h
  refine lv_istore (i := 4) (lv' := [(4, .int (oI t0)), (0, .ref (wad w 4 o)), (1, .int (oI y1)), (2, .int (oI y2)), (3, .int (oI y3))]) X.1 X.2.1 dX6_isSound_43 hl (by decide) (by first | rfl | simp [catK, catI, catR, catL]) (fun ls hl => ?_)
  refine lv_iload_n X.1 X.2.1 dX6_isSound_45 rfl (lv_at hl 4 rfl) ?_
  refine w_if_lt (tgt := 100) X ry3 dX6_isSound_46 (by decide) (fun hc => ?_) (fun hc => ?_)
  · have h := h.1 hc
    refine lv_iload_n X.1 X.2.1 dX6_isSound_100 rfl (lv_at hl 4 rfl) ?_
    refine lv_iconst (v := oI (-1)) X.1 X.2.1 dX6_isSound_101 rfl ?_
    refine w_icmp_ne (tgt := 142) X ry3 ((rB_lit (-1) (by decide)).i) dX6_isSound_102 (by decide) (fun hc => ?_) (fun hc => ?_)
    · have h := h.1 hc
      refine lv_iload_n X.1 X.2.1 dX6_isSound_142 rfl (lv_at hl 4 rfl) ?_
      refine lv_bipush (v := oI (-3)) X.1 X.2.1 dX6_isSound_143 (by decide) ?_
      refine w_icmp_ne (tgt := 172) X ry3 ((rB_lit (-3) (by decide)).i) dX6_isSound_145 (by decide) (fun hc => ?_) (fun hc => ?_)
      · have h := h.1 hc
        exact wk_Blocks_isSound_b172 X hr hlk hT hV ho K4 hK4 y1 y2 σ _ _ _ ry1 ry2 (lv_sub hl [1, 2, 3] rfl) hW hS h
      · have h := h.2 hc
        refine lv_iload_n X.1 X.2.1 dX6_isSound_148 rfl (lv_at hl 2 rfl) ?_
        refine lv_iload X.1 X.2.1 dX6_isSound_149 (lv_at hl 0 rfl) ?_
        refine w_if_ne (tgt := 165) X rt0.i dX6_isSound_151 (by decide) (fun hc => ?_) (fun hc => ?_)
        · have h := h.1 hc
          exact wk_Blocks_isSound_b165 X hr hlk hT hV ho (wp_Blocks_isSound_b170 (wc w) (wtv w) o Q (wp_Blocks_isSound_b172 (wc w) (wtv w) o Q K4)) (wk_Blocks_isSound_b170 X hr hlk hT hV ho (wp_Blocks_isSound_b172 (wc w) (wtv w) o Q K4) (wk_Blocks_isSound_b172 X hr hlk hT hV ho K4 hK4)) y2 y1 σ _ _ _ ry2 ry1 (lv_sub hl [1, 3] rfl) hW hS h
        · have h := h.2 hc
          refine lv_aload_n X.1 X.2.1 dX6_isSound_154 rfl (lv_at hl 1 rfl) ?_
          refine wg (v := .ref (wad w 2 0)) X hT hW 4 0 256 vl4_o rfl rfl (by decide) rfl (by decide) in_X6 q269 rfl dX6_isSound_155 ?_
          refine lv_iload_n X.1 X.2.1 dX6_isSound_158 rfl (lv_at hl 3 rfl) ?_
          refine wr_Z (rV (As := [.int (oI y2)]) (rest := [.int (oI y1)]) X hT hW hS (met_Flash_isBroken l (w := w) hV y2 _ σ ry2 h) (cwV 1 X.2.2.2.2 (lw_V q1664 q1665 q1666 q134 q1667) rfl rfl rfl (by decide +kernel) ⟨Nat.le_of_ble_eq_true rfl, Nat.le_of_ble_eq_true rfl⟩) vl2_0 (by decide) rfl rfl hl.1 rfl (by first | exact Nat.le_of_ble_eq_true rfl | simp [catK, catI, catR, catL]) dX6_isSound_159 ⟨Nat.le_refl _, Nat.le_refl _⟩) hS (fun r_58 σ_59 H locs rr_58 rkσ_59 h hWσ_59 hS => ?_)
          have h := h rr_58 rkσ_59
          refine w_if_eq (tgt := 169) X rr_58.i dX6_isSound_162 (by decide) (fun hc => ?_) (fun hc => ?_)
          · have h := h.1 hc
            refine lv_iconst (v := oI 0) X.1 X.2.1 dX6_isSound_169 rfl ?_
            exact wk_Blocks_isSound_b170 X hr hlk hT hV ho (wp_Blocks_isSound_b172 (wc w) (wtv w) o Q K4) (wk_Blocks_isSound_b172 X hr hlk hT hV ho K4 hK4) y2 0 y1 σ_59 _ _ _ ry2 rZ_0 ry1 (lv_sub hl [1, 3] rfl) hWσ_59 hS h
          · have h := h.2 hc
            exact wk_Blocks_isSound_b165 X hr hlk hT hV ho (wp_Blocks_isSound_b170 (wc w) (wtv w) o Q (wp_Blocks_isSound_b172 (wc w) (wtv w) o Q K4)) (wk_Blocks_isSound_b170 X hr hlk hT hV ho (wp_Blocks_isSound_b172 (wc w) (wtv w) o Q K4) (wk_Blocks_isSound_b172 X hr hlk hT hV ho K4 hK4)) y2 y1 σ_59 _ _ _ ry2 ry1 (lv_sub hl [1, 3] rfl) hWσ_59 hS h
    · have h := h.2 hc
      refine lv_iload_n X.1 X.2.1 dX6_isSound_105 rfl (lv_at hl 2 rfl) ?_
      refine lv_aload_n X.1 X.2.1 dX6_isSound_106 rfl (lv_at hl 1 rfl) ?_
      refine wg (v := .ref (wad w 2 0)) X hT hW 4 0 256 vl4_o rfl rfl (by decide) rfl (by decide) in_X6 q269 rfl dX6_isSound_107 ?_
      refine lv_iload_n X.1 X.2.1 dX6_isSound_110 rfl (lv_at hl 3 rfl) ?_
      refine wr_I (rV (As := [.int (oI y2)]) (rest := [.int (oI y1)]) X hT hW hS (met_Flash_written l (w := w) hV y2 _ σ ry2 h) (cwV 1 X.2.2.2.2 (lw_V q1021 q1022 q1023 q134 q1024) rfl rfl rfl (by decide +kernel) ⟨Nat.le_of_ble_eq_true rfl, Nat.le_of_ble_eq_true rfl⟩) vl2_0 (by decide) rfl rfl hl.1 rfl (by first | exact Nat.le_of_ble_eq_true rfl | simp [catK, catI, catR, catL]) dX6_isSound_111 ⟨Nat.le_refl _, Nat.le_refl _⟩) hS (fun r_60 σ_61 H locs rr_60 rkσ_61 h hWσ_61 hS => ?_)
      have h := h rr_60 rkσ_61
      refine lv_iconst (v := oI 1) X.1 X.2.1 dX6_isSound_114 rfl ?_
      refine w_icmp_ne (tgt := 136) X rr_60 rZ_1.i dX6_isSound_115 (by decide) (fun hc => ?_) (fun hc => ?_)
      · have h := h.1 hc
        exact wk_Blocks_isSound_b136 X hr hlk hT hV ho (wp_Blocks_isSound_b137 (wc w) (wtv w) o Q (wp_Blocks_isSound_b172 (wc w) (wtv w) o Q K4)) (wk_Blocks_isSound_b137 X hr hlk hT hV ho (wp_Blocks_isSound_b172 (wc w) (wtv w) o Q K4) (wk_Blocks_isSound_b172 X hr hlk hT hV ho K4 hK4)) y2 y1 σ_61 _ _ _ ry2 ry1 (lv_sub hl [1, 3] rfl) hWσ_61 hS h
      · have h := h.2 hc
        refine lv_aload_n X.1 X.2.1 dX6_isSound_118 rfl (lv_at hl 1 rfl) ?_
        refine lv_iload_n X.1 X.2.1 dX6_isSound_119 rfl (lv_at hl 3 rfl) ?_
        refine wr_I (rV (As := [.int (oI y2)]) (rest := [.int (oI y1)]) X hT hWσ_61 hS (met_Blocks_readErased l (w := w) hV o y2 _ σ_61 (by omega) ry2 h) (cwV 1 X.2.2.2.2 (lw_V q1668 q1670 qs71 q137 q1671) rfl rfl rfl (by decide +kernel) ⟨Nat.le_of_ble_eq_true rfl, Nat.le_of_ble_eq_true rfl⟩) vl4_o (by decide) rfl rfl hl.1 rfl (by first | exact Nat.le_of_ble_eq_true rfl | simp [catK, catI, catR, catL]) dX6_isSound_120 ⟨Nat.le_refl _, Nat.le_refl _⟩) hS (fun r_62 σ_63 H locs rr_62 rkσ_63 h hWσ_63 hS => ?_)
        have h := h rr_62 rkσ_63
        refine lv_aload_n X.1 X.2.1 dX6_isSound_123 rfl (lv_at hl 1 rfl) ?_
        refine wg (v := .ref (wad w 260 o)) X hT hWσ_63 4 4 260 vl4_o rfl rfl (by decide) rfl (by decide) in_X6 q275 rfl dX6_isSound_124 ?_
        refine lv_iload_n X.1 X.2.1 dX6_isSound_127 rfl (lv_at hl 3 rfl) ?_
        obtain ⟨bi, h⟩ := h
        refine w_iald (n := (wc w).1) X hT hWσ_63 260 vl260_o (by decide) rfl rfl bi dX6_isSound_128 ?_
        refine w_icmp_ne (tgt := 136) X rr_62 (hWσ_63.r.ai 260 o y2 rfl) dX6_isSound_129 (by decide) (fun hc => ?_) (fun hc => ?_)
        · have h := h.1 hc
          exact wk_Blocks_isSound_b136 X hr hlk hT hV ho (wp_Blocks_isSound_b137 (wc w) (wtv w) o Q (wp_Blocks_isSound_b172 (wc w) (wtv w) o Q K4)) (wk_Blocks_isSound_b137 X hr hlk hT hV ho (wp_Blocks_isSound_b172 (wc w) (wtv w) o Q K4) (wk_Blocks_isSound_b172 X hr hlk hT hV ho K4 hK4)) y2 y1 σ_63 _ _ _ ry2 ry1 (lv_sub hl [1, 3] rfl) hWσ_63 hS h
        · have h := h.2 hc
          refine lv_iconst (v := oI 1) X.1 X.2.1 dX6_isSound_132 rfl ?_
          refine lv_goto (tgt := 137) X.1 X.2.1 dX6_isSound_133 (by decide) ?_
          exact wk_Blocks_isSound_b137 X hr hlk hT hV ho (wp_Blocks_isSound_b172 (wc w) (wtv w) o Q K4) (wk_Blocks_isSound_b172 X hr hlk hT hV ho K4 hK4) y2 1 y1 σ_63 _ _ _ ry2 rZ_1 ry1 (lv_sub hl [1, 3] rfl) hWσ_63 hS h
  · have h := h.2 hc
    refine lv_iload_n X.1 X.2.1 dX6_isSound_49 rfl (lv_at hl 2 rfl) ?_
    refine lv_aload_n X.1 X.2.1 dX6_isSound_50 rfl (lv_at hl 1 rfl) ?_
    refine wg (v := .ref (wad w 258 o)) X hT hW 4 2 258 vl4_o rfl rfl (by decide) rfl (by decide) in_X6 q273 rfl dX6_isSound_51 ?_
    refine lv_iload_n X.1 X.2.1 dX6_isSound_54 rfl (lv_at hl 4 rfl) ?_
    obtain ⟨bi, h⟩ := h
    refine w_iald (n := ((wc w).1 - 6)) X hT hW 258 vl258_o (by decide) rfl rfl bi dX6_isSound_55 ?_
    refine lv_iload_n X.1 X.2.1 dX6_isSound_56 rfl (lv_at hl 3 rfl) ?_
    refine w_icmp_ne (tgt := 94) X (hW.r.ai 258 o y3 rfl) ry2 dX6_isSound_57 (by decide) (fun hc => ?_) (fun hc => ?_)
    · have h := h.1 hc
      exact wk_Blocks_isSound_b94 X hr hlk hT hV ho (wp_Blocks_isSound_b95 (wc w) (wtv w) o Q (wp_Blocks_isSound_b172 (wc w) (wtv w) o Q K4)) (wk_Blocks_isSound_b95 X hr hlk hT hV ho (wp_Blocks_isSound_b172 (wc w) (wtv w) o Q K4) (wk_Blocks_isSound_b172 X hr hlk hT hV ho K4 hK4)) y2 y1 σ _ _ _ ry2 ry1 (lv_sub hl [1, 3] rfl) hW hS h
    · have h := h.2 hc
      refine lv_aload_n X.1 X.2.1 dX6_isSound_60 rfl (lv_at hl 1 rfl) ?_
      refine lv_iload_n X.1 X.2.1 dX6_isSound_61 rfl (lv_at hl 3 rfl) ?_
      refine wr_Z (rV (As := [.int (oI y2)]) (rest := [.int (oI y1)]) X hT hW hS (met_Blocks_readHead l (w := w) hV o y2 _ σ (by omega) ry2 h) (cwV 1 X.2.2.2.2 (lw_V q1673 q1675 qs72 q137 q1676) rfl rfl rfl (by decide +kernel) ⟨Nat.le_of_ble_eq_true rfl, Nat.le_of_ble_eq_true rfl⟩) vl4_o (by decide) rfl rfl hl.1 rfl (by first | exact Nat.le_of_ble_eq_true rfl | simp [catK, catI, catR, catL]) dX6_isSound_62 ⟨Nat.le_refl _, Nat.le_refl _⟩) hS (fun r_64 σ_65 H locs rr_64 rkσ_65 h hWσ_65 hS => ?_)
      have h := h rr_64 rkσ_65
      refine w_if_eq (tgt := 94) X rr_64.i dX6_isSound_65 (by decide) (fun hc => ?_) (fun hc => ?_)
      · have h := h.1 hc
        exact wk_Blocks_isSound_b94 X hr hlk hT hV ho (wp_Blocks_isSound_b95 (wc w) (wtv w) o Q (wp_Blocks_isSound_b172 (wc w) (wtv w) o Q K4)) (wk_Blocks_isSound_b95 X hr hlk hT hV ho (wp_Blocks_isSound_b172 (wc w) (wtv w) o Q K4) (wk_Blocks_isSound_b172 X hr hlk hT hV ho K4 hK4)) y2 y1 σ_65 _ _ _ ry2 ry1 (lv_sub hl [1, 3] rfl) hWσ_65 hS h
      · have h := h.2 hc
        refine lv_aload_n X.1 X.2.1 dX6_isSound_68 rfl (lv_at hl 1 rfl) ?_
        refine wg (v := .int (oI (gI σ_65 269 o))) X hT hWσ_65 4 13 269 vl4_o rfl rfl (by decide) rfl (by decide) in_X6 q284 rfl dX6_isSound_69 ?_
        refine lv_iload_n X.1 X.2.1 dX6_isSound_72 rfl (lv_at hl 4 rfl) ?_
        refine w_icmp_ne (tgt := 94) X (hWσ_65.r.i 269 o rfl) ry3 dX6_isSound_73 (by decide) (fun hc => ?_) (fun hc => ?_)
        · have h := h.1 hc
          exact wk_Blocks_isSound_b94 X hr hlk hT hV ho (wp_Blocks_isSound_b95 (wc w) (wtv w) o Q (wp_Blocks_isSound_b172 (wc w) (wtv w) o Q K4)) (wk_Blocks_isSound_b95 X hr hlk hT hV ho (wp_Blocks_isSound_b172 (wc w) (wtv w) o Q K4) (wk_Blocks_isSound_b172 X hr hlk hT hV ho K4 hK4)) y2 y1 σ_65 _ _ _ ry2 ry1 (lv_sub hl [1, 3] rfl) hWσ_65 hS h
        · have h := h.2 hc
          refine lv_aload_n X.1 X.2.1 dX6_isSound_76 rfl (lv_at hl 1 rfl) ?_
          refine lv_iload_n X.1 X.2.1 dX6_isSound_77 rfl (lv_at hl 3 rfl) ?_
          refine wr_I (rV (As := [.int (oI y2)]) (rest := [.int (oI y1)]) X hT hWσ_65 hS (met_Blocks_readErased l (w := w) hV o y2 _ σ_65 (by omega) ry2 h) (cwV 1 X.2.2.2.2 (lw_V q1668 q1670 qs71 q137 q1671) rfl rfl rfl (by decide +kernel) ⟨Nat.le_of_ble_eq_true rfl, Nat.le_of_ble_eq_true rfl⟩) vl4_o (by decide) rfl rfl hl.1 rfl (by first | exact Nat.le_of_ble_eq_true rfl | simp [catK, catI, catR, catL]) dX6_isSound_78 ⟨Nat.le_refl _, Nat.le_refl _⟩) hS (fun r_66 σ_67 H locs rr_66 rkσ_67 h hWσ_67 hS => ?_)
          have h := h rr_66 rkσ_67
          refine lv_aload_n X.1 X.2.1 dX6_isSound_81 rfl (lv_at hl 1 rfl) ?_
          refine wg (v := .ref (wad w 260 o)) X hT hWσ_67 4 4 260 vl4_o rfl rfl (by decide) rfl (by decide) in_X6 q275 rfl dX6_isSound_82 ?_
          refine lv_iload_n X.1 X.2.1 dX6_isSound_85 rfl (lv_at hl 3 rfl) ?_
          obtain ⟨bi, h⟩ := h
          refine w_iald (n := (wc w).1) X hT hWσ_67 260 vl260_o (by decide) rfl rfl bi dX6_isSound_86 ?_
          refine w_icmp_ne (tgt := 94) X rr_66 (hWσ_67.r.ai 260 o y2 rfl) dX6_isSound_87 (by decide) (fun hc => ?_) (fun hc => ?_)
          · have h := h.1 hc
            exact wk_Blocks_isSound_b94 X hr hlk hT hV ho (wp_Blocks_isSound_b95 (wc w) (wtv w) o Q (wp_Blocks_isSound_b172 (wc w) (wtv w) o Q K4)) (wk_Blocks_isSound_b95 X hr hlk hT hV ho (wp_Blocks_isSound_b172 (wc w) (wtv w) o Q K4) (wk_Blocks_isSound_b172 X hr hlk hT hV ho K4 hK4)) y2 y1 σ_67 _ _ _ ry2 ry1 (lv_sub hl [1, 3] rfl) hWσ_67 hS h
          · have h := h.2 hc
            refine lv_iconst (v := oI 1) X.1 X.2.1 dX6_isSound_90 rfl ?_
            refine lv_goto (tgt := 95) X.1 X.2.1 dX6_isSound_91 (by decide) ?_
            exact wk_Blocks_isSound_b95 X hr hlk hT hV ho (wp_Blocks_isSound_b172 (wc w) (wtv w) o Q K4) (wk_Blocks_isSound_b172 X hr hlk hT hV ho K4 hK4) y2 1 y1 σ_67 _ _ _ ry2 rZ_1 ry1 (lv_sub hl [1, 3] rfl) hWσ_67 hS h
set_option maxHeartbeats 4000000 in
set_option maxRecDepth 100000 in
theorem wk_Blocks_isSound_L180B {p : Program} {l : Launch} {e : Env} {st : State} {m : MethodId} {args : Array Value} {below : List Frame} {meth : Method} {c : Code} {w : Wp} {o : Int} {Q : Int → St → Prop} (X : CallFix p m c cX6_isSound 5 st args lw_all RX6) (hr : meth.sig.returnType = (some .boolean)) (hlk : meth.locks = false) (hT : Tb w st) (hV : Hvl w) (ho : 0 ≤ o ∧ o < 2) (K180 : Int → Int → St → Prop) (hK180 : ∀ (y1 y2 : Int) (σ : St) (H : Heap) (locs : List Loc) (ls : Array Slot), rZ y1 → rI y2 → lv_has ls 5 [(0, .ref (wad w 4 o)), (1, .int (oI y1)), (2, .int (oI y2))] → Wo w σ H → va_S (wA w) st.heap H locs → K180 y1 y2 σ → W p l e (headSpec (ws_ yX6_isSound cX6_isSound 5 (some .boolean)) rm_Blocks_isSound).room st m args below meth c H locs 0 0 (MQ below (QcZ w Q) args st 0 0 (wA w)) (F0 m 180 ls [])) : ∀ (y1 y2 : Int) (σ : St) (H : Heap) (locs : List Loc) (ls : Array Slot), rZ y1 → rI y2 → lv_has ls 5 [(0, .ref (wad w 4 o)), (1, .int (oI y1)), (2, .int (oI y2))] → Wo w σ H → va_S (wA w) st.heap H locs → wp_Blocks_isSound_L180 (wc w) (wtv w) o Q K180 y1 y2 σ → W p l e (headSpec (ws_ yX6_isSound cX6_isSound 5 (some .boolean)) rm_Blocks_isSound).room st m args below meth c H locs 0 0 (MQ below (QcZ w Q) args st 0 0 (wA w)) (F0 m 180 ls []) := by
  have vl258_o : vl w 258 o := hV.hv 258 rfl ⟨by omega, by show _ < (2 : Int); omega⟩
  have vl259_o : vl w 259 o := hV.hv 259 rfl ⟨by omega, by show _ < (2 : Int); omega⟩
  have vl4_o : vl w 4 o := hV.hv 4 rfl ⟨by omega, by show _ < (2 : Int); omega⟩
  intro y1 y2 σ H locs ls ry1 ry2 hl hW hS h
  unfold wp_Blocks_isSound_L180 at h
  refine lv_iload_n X.1 X.2.1 dX6_isSound_180 rfl (lv_at hl 2 rfl) ?_
  refine lv_aload_n X.1 X.2.1 dX6_isSound_181 rfl (lv_at hl 0 rfl) ?_
  refine wg (v := .int (oI ((wc w).1 - 6))) X hT hW 4 1 257 vl4_o rfl rfl (by decide) rfl (by decide) in_X6 q271 rfl dX6_isSound_182 ?_
  refine w_icmp_ge (tgt := 227) X ry2 (cin_r hT.c 257) dX6_isSound_185 (by decide) (fun hc => ?_) (fun hc => ?_)
  · have h := h.1 hc
    refine lv_iload_n X.1 X.2.1 dX6_isSound_227 rfl (lv_at hl 1 rfl) ?_
    exact wret_Z X hr hlk hW hS ry1 h dX6_isSound_228
  · have h := h.2 hc
    refine lv_iload_n X.1 X.2.1 dX6_isSound_188 rfl (lv_at hl 1 rfl) ?_
    refine lv_aload_n X.1 X.2.1 dX6_isSound_189 rfl (lv_at hl 0 rfl) ?_
    refine wg (v := .ref (wad w 258 o)) X hT hW 4 2 258 vl4_o rfl rfl (by decide) rfl (by decide) in_X6 q273 rfl dX6_isSound_190 ?_
    refine lv_iload_n X.1 X.2.1 dX6_isSound_193 rfl (lv_at hl 2 rfl) ?_
    obtain ⟨bi, h⟩ := h
    refine w_iald (n := ((wc w).1 - 6)) X hT hW 258 vl258_o (by decide) rfl rfl bi dX6_isSound_194 ?_
    refine lv_iconst (v := oI (-1)) X.1 X.2.1 dX6_isSound_195 rfl ?_
    refine w_icmp_eq (tgt := 214) X (hW.r.ai 258 o y2 rfl) ((rB_lit (-1) (by decide)).i) dX6_isSound_196 (by decide) (fun hc => ?_) (fun hc => ?_)
    · have h := h.1 hc
      exact wk_Blocks_isSound_b214 X hr hlk hT hV ho (wp_Blocks_isSound_b219 (wc w) (wtv w) o Q K180) (wk_Blocks_isSound_b219 X hr hlk hT hV ho K180 hK180) y2 y1 σ _ _ _ ry2 ry1 (lv_sub hl [0, 2] rfl) hW hS h
    · have h := h.2 hc
      refine lv_aload_n X.1 X.2.1 dX6_isSound_199 rfl (lv_at hl 0 rfl) ?_
      refine wg (v := .ref (wad w 259 o)) X hT hW 4 3 259 vl4_o rfl rfl (by decide) rfl (by decide) in_X6 q274 rfl dX6_isSound_200 ?_
      refine lv_aload_n X.1 X.2.1 dX6_isSound_203 rfl (lv_at hl 0 rfl) ?_
      refine wg (v := .ref (wad w 258 o)) X hT hW 4 2 258 vl4_o rfl rfl (by decide) rfl (by decide) in_X6 q273 rfl dX6_isSound_204 ?_
      refine lv_iload_n X.1 X.2.1 dX6_isSound_207 rfl (lv_at hl 2 rfl) ?_
      obtain ⟨bi, h⟩ := h
      refine w_iald (n := ((wc w).1 - 6)) X hT hW 258 vl258_o (by decide) rfl rfl bi dX6_isSound_208 ?_
      obtain ⟨bi, h⟩ := h
      refine w_iald (n := (wc w).1) X hT hW 259 vl259_o (by decide) rfl rfl bi dX6_isSound_209 ?_
      refine lv_iload_n X.1 X.2.1 dX6_isSound_210 rfl (lv_at hl 2 rfl) ?_
      refine w_icmp_ne (tgt := 218) X (hW.r.ai 259 o (gA σ 258 o y2) rfl) ry2 dX6_isSound_211 (by decide) (fun hc => ?_) (fun hc => ?_)
      · have h := h.1 hc
        refine lv_iconst (v := oI 0) X.1 X.2.1 dX6_isSound_218 rfl ?_
        exact wk_Blocks_isSound_b219 X hr hlk hT hV ho K180 hK180 y2 0 y1 σ _ _ _ ry2 rZ_0 ry1 (lv_sub hl [0, 2] rfl) hW hS h
      · have h := h.2 hc
        exact wk_Blocks_isSound_b214 X hr hlk hT hV ho (wp_Blocks_isSound_b219 (wc w) (wtv w) o Q K180) (wk_Blocks_isSound_b219 X hr hlk hT hV ho K180 hK180) y2 y1 σ _ _ _ ry2 ry1 (lv_sub hl [0, 2] rfl) hW hS h
theorem wk_Blocks_isSound_L180 {p : Program} {l : Launch} {e : Env} {st : State} {m : MethodId} {args : Array Value} {below : List Frame} {meth : Method} {c : Code} {w : Wp} {o : Int} {Q : Int → St → Prop} (X : CallFix p m c cX6_isSound 5 st args lw_all RX6) (hr : meth.sig.returnType = (some .boolean)) (hlk : meth.locks = false) (hT : Tb w st) (hV : Hvl w) (ho : 0 ≤ o ∧ o < 2) : ∀ (y1 y2 : Int) (σ : St) (H : Heap) (locs : List Loc) (ls : Array Slot), rZ y1 → rI y2 → lv_has ls 5 [(0, .ref (wad w 4 o)), (1, .int (oI y1)), (2, .int (oI y2))] → Wo w σ H → va_S (wA w) st.heap H locs → lQ2 (wp_Blocks_isSound_L180 (wc w) (wtv w) o Q) y1 y2 σ → W p l e (headSpec (ws_ yX6_isSound cX6_isSound 5 (some .boolean)) rm_Blocks_isSound).room st m args below meth c H locs 0 0 (MQ below (QcZ w Q) args st 0 0 (wA w)) (F0 m 180 ls []) := by
  intro y1 y2 σ H locs ls ry1 ry2 hl hW hS h
  obtain ⟨fu, h⟩ := h
  induction fu generalizing y1 y2 σ H locs ls with
  | zero => exact h.elim
  | succ fu ih =>
    exact wk_Blocks_isSound_L180B X hr hlk hT hV ho (lq2 (wp_Blocks_isSound_L180 (wc w) (wtv w) o Q) fu) (fun y1 y2 σ H locs ls ry1 ry2 hl hW hS h => ih y1 y2 σ H locs ls ry1 ry2 hl hW hS h) y1 y2 σ H locs ls ry1 ry2 hl hW hS h
set_option maxHeartbeats 4000000 in
set_option maxRecDepth 100000 in
theorem wk_Blocks_isSound_L4B {p : Program} {l : Launch} {e : Env} {st : State} {m : MethodId} {args : Array Value} {below : List Frame} {meth : Method} {c : Code} {w : Wp} {o : Int} {Q : Int → St → Prop} (X : CallFix p m c cX6_isSound 5 st args lw_all RX6) (hr : meth.sig.returnType = (some .boolean)) (hlk : meth.locks = false) (hT : Tb w st) (hV : Hvl w) (ho : 0 ≤ o ∧ o < 2) (K4 : Int → Int → St → Prop) (hK4 : ∀ (y1 y2 : Int) (σ : St) (H : Heap) (locs : List Loc) (ls : Array Slot), rZ y1 → rI y2 → lv_has ls 5 [(0, .ref (wad w 4 o)), (1, .int (oI y1)), (2, .int (oI y2))] → Wo w σ H → va_S (wA w) st.heap H locs → K4 y1 y2 σ → W p l e (headSpec (ws_ yX6_isSound cX6_isSound 5 (some .boolean)) rm_Blocks_isSound).room st m args below meth c H locs 0 0 (MQ below (QcZ w Q) args st 0 0 (wA w)) (F0 m 4 ls [])) : ∀ (y1 y2 : Int) (σ : St) (H : Heap) (locs : List Loc) (ls : Array Slot), rZ y1 → rI y2 → lv_has ls 5 [(0, .ref (wad w 4 o)), (1, .int (oI y1)), (2, .int (oI y2))] → Wo w σ H → va_S (wA w) st.heap H locs → wp_Blocks_isSound_L4 (wc w) (wtv w) o Q K4 y1 y2 σ → W p l e (headSpec (ws_ yX6_isSound cX6_isSound 5 (some .boolean)) rm_Blocks_isSound).room st m args below meth c H locs 0 0 (MQ below (QcZ w Q) args st 0 0 (wA w)) (F0 m 4 ls []) := by
  have vl2_0 : vl w 2 0 := hV.hv 2 rfl ⟨by omega, by show _ < (1 : Int); omega⟩
  have vl259_o : vl w 259 o := hV.hv 259 rfl ⟨by omega, by show _ < (2 : Int); omega⟩
  have vl4_o : vl w 4 o := hV.hv 4 rfl ⟨by omega, by show _ < (2 : Int); omega⟩
  intro y1 y2 σ H locs ls ry1 ry2 hl hW hS h
  unfold wp_Blocks_isSound_L4 at h
  refine lv_iload_n X.1 X.2.1 dX6_isSound_4 rfl (lv_at hl 2 rfl) ?_
  refine lv_aload_n X.1 X.2.1 dX6_isSound_5 rfl (lv_at hl 0 rfl) ?_
  refine wg (v := .ref (wad w 2 0)) X hT hW 4 0 256 vl4_o rfl rfl (by decide) rfl (by decide) in_X6 q269 rfl dX6_isSound_6 ?_
  refine wg (v := .int (oI (wc w).1)) X hT hW 2 0 128 vl2_0 rfl rfl (by decide) rfl (by decide) in_X4 q221 rfl dX6_isSound_9 ?_
  refine w_icmp_ge (tgt := 178) X ry2 (cin_r hT.c 128) dX6_isSound_12 (by decide) (fun hc => ?_) (fun hc => ?_)
  · have h := h.1 hc
    refine lv_iconst (v := oI 0) X.1 X.2.1 dX6_isSound_178 rfl ?_
    refine lv_istore_n (i := 2) (lv' := [(2, .int (oI 0)), (0, .ref (wad w 4 o)), (1, .int (oI y1))]) X.1 X.2.1 dX6_isSound_179 rfl hl (by decide) (by first | rfl | simp [catK, catI, catR, catL]) (fun ls hl => ?_)
    exact wk_Blocks_isSound_L180 X hr hlk hT hV ho y1 0 σ _ _ _ ry1 rZ_0.i (lv_sub hl [1, 2, 0] rfl) hW hS h
  · have h := h.2 hc
    refine lv_aload_n X.1 X.2.1 dX6_isSound_15 rfl (lv_at hl 0 rfl) ?_
    refine wg (v := .ref (wad w 259 o)) X hT hW 4 3 259 vl4_o rfl rfl (by decide) rfl (by decide) in_X6 q274 rfl dX6_isSound_16 ?_
    refine lv_iload_n X.1 X.2.1 dX6_isSound_19 rfl (lv_at hl 2 rfl) ?_
    obtain ⟨bi, h⟩ := h
    refine w_iald (n := (wc w).1) X hT hW 259 vl259_o (by decide) rfl rfl bi dX6_isSound_20 ?_
    refine w_top (fun y3_68 ey3_68 => ?_)
    have h := h y3_68 ey3_68
    have ry3_68 : rI y3_68 := by rw [ey3_68]; exact (hW.r.ai 259 o y2 rfl)
    refine lv_istore_n (i := 3) (lv' := [(3, .int (oI y3_68)), (0, .ref (wad w 4 o)), (1, .int (oI y1)), (2, .int (oI y2))]) X.1 X.2.1 dX6_isSound_21 rfl hl (by decide) (by first | rfl | simp [catK, catI, catR, catL]) (fun ls hl => ?_)
    refine lv_aload_n X.1 X.2.1 dX6_isSound_22 rfl (lv_at hl 1 rfl) ?_
    refine wg (v := .int (oI (gI σ 265 o))) X hT hW 4 9 265 vl4_o rfl rfl (by decide) rfl (by decide) in_X6 q280 rfl dX6_isSound_23 ?_
    refine lv_iconst (v := oI (-1)) X.1 X.2.1 dX6_isSound_26 rfl ?_
    refine w_icmp_eq (tgt := 42) X (hW.r.i 265 o rfl) ((rB_lit (-1) (by decide)).i) dX6_isSound_27 (by decide) (fun hc => ?_) (fun hc => ?_)
    · have h := h.1 hc
      exact wk_Blocks_isSound_b42 X hr hlk hT hV ho (wp_Blocks_isSound_b43 (wc w) (wtv w) o Q K4) (wk_Blocks_isSound_b43 X hr hlk hT hV ho K4 hK4) y1 y2 y3_68 σ _ _ _ ry1 ry2 ry3_68 (lv_sub hl [1, 2, 3, 0] rfl) hW hS h
    · have h := h.2 hc
      refine lv_iload_n X.1 X.2.1 dX6_isSound_30 rfl (lv_at hl 3 rfl) ?_
      refine lv_aload_n X.1 X.2.1 dX6_isSound_31 rfl (lv_at hl 1 rfl) ?_
      refine wg (v := .int (oI (gI σ 266 o))) X hT hW 4 10 266 vl4_o rfl rfl (by decide) rfl (by decide) in_X6 q281 rfl dX6_isSound_32 ?_
      refine w_icmp_ne (tgt := 42) X ry2 (hW.r.i 266 o rfl) dX6_isSound_35 (by decide) (fun hc => ?_) (fun hc => ?_)
      · have h := h.1 hc
        exact wk_Blocks_isSound_b42 X hr hlk hT hV ho (wp_Blocks_isSound_b43 (wc w) (wtv w) o Q K4) (wk_Blocks_isSound_b43 X hr hlk hT hV ho K4 hK4) y1 y2 y3_68 σ _ _ _ ry1 ry2 ry3_68 (lv_sub hl [1, 2, 3, 0] rfl) hW hS h
      · have h := h.2 hc
        refine lv_iconst (v := oI 1) X.1 X.2.1 dX6_isSound_38 rfl ?_
        refine lv_goto (tgt := 43) X.1 X.2.1 dX6_isSound_39 (by decide) ?_
        exact wk_Blocks_isSound_b43 X hr hlk hT hV ho K4 hK4 y1 y2 y3_68 1 σ _ _ _ ry1 ry2 ry3_68 rZ_1 (lv_sub hl [1, 2, 3, 0] rfl) hW hS h
theorem wk_Blocks_isSound_L4 {p : Program} {l : Launch} {e : Env} {st : State} {m : MethodId} {args : Array Value} {below : List Frame} {meth : Method} {c : Code} {w : Wp} {o : Int} {Q : Int → St → Prop} (X : CallFix p m c cX6_isSound 5 st args lw_all RX6) (hr : meth.sig.returnType = (some .boolean)) (hlk : meth.locks = false) (hT : Tb w st) (hV : Hvl w) (ho : 0 ≤ o ∧ o < 2) : ∀ (y1 y2 : Int) (σ : St) (H : Heap) (locs : List Loc) (ls : Array Slot), rZ y1 → rI y2 → lv_has ls 5 [(0, .ref (wad w 4 o)), (1, .int (oI y1)), (2, .int (oI y2))] → Wo w σ H → va_S (wA w) st.heap H locs → lQ2 (wp_Blocks_isSound_L4 (wc w) (wtv w) o Q) y1 y2 σ → W p l e (headSpec (ws_ yX6_isSound cX6_isSound 5 (some .boolean)) rm_Blocks_isSound).room st m args below meth c H locs 0 0 (MQ below (QcZ w Q) args st 0 0 (wA w)) (F0 m 4 ls []) := by
  intro y1 y2 σ H locs ls ry1 ry2 hl hW hS h
  obtain ⟨fu, h⟩ := h
  induction fu generalizing y1 y2 σ H locs ls with
  | zero => exact h.elim
  | succ fu ih =>
    exact wk_Blocks_isSound_L4B X hr hlk hT hV ho (lq2 (wp_Blocks_isSound_L4 (wc w) (wtv w) o Q) fu) (fun y1 y2 σ H locs ls ry1 ry2 hl hW hS h => ih y1 y2 σ H locs ls ry1 ry2 hl hW hS h) y1 y2 σ H locs ls ry1 ry2 hl hW hS h
set_option maxHeartbeats 4000000 in
set_option maxRecDepth 100000 in
theorem met_Blocks_isSound (l : Launch) {w : Wp} (hV : Hvl w) (o : Int) (Q : Int → St → Prop) (σ : St) (ho : 0 ≤ o ∧ o < 2) (h : wp_Blocks_isSound (wc w) (wtv w) o Q σ) : Met l yX6_isSound (ws_ yX6_isSound cX6_isSound 5 (some .boolean)) rm_Blocks_isSound (PcW w σ [.ref (wad w 4 o)]) (QcZ w Q) 0 0 (wA w) := by
  refine Met.ofW (cc := cX6_isSound) (maxL := 5) (ret := (some .boolean)) (by decide) rfl ?_
  intro p e st m args below meth c s₁ B hml hv
  obtain ⟨hargs, hW, hT⟩ := hv
  have X : CallFix p m c cX6_isSound 5 st _ lw_all RX6 := ⟨B.exec, B.bytes, hml, findClass_of_methodNamed B.named, fun w h => atoms_spec (ws := ws_ yX6_isSound cX6_isSound 5 (some .boolean)) B.pre w (List.mem_cons_of_mem _ h)⟩
  have hr := B.returns
  have hlk := B.notSynchronized
  have hS : va_S (wA w) st.heap st.heap [] := va_S.rf
  have vl4_o : vl w 4 o := hV.hv 4 rfl ⟨by omega, by show _ < (2 : Int); omega⟩
  have hl := lv_entry ([.ref (wad w 4 o)]) (n := 5) (Nat.le_of_ble_eq_true rfl)
  have hfr := lg_entry_eq m ([.ref (wad w 4 o)]) 5
  rw [← hargs] at hfr
  rw [hfr]
  generalize (lg_sl ([.ref (wad w 4 o)]) ++ List.replicate (5 - (lg_sl ([.ref (wad w 4 o)])).length) Slot.unset).toArray = ls at hl ⊢
  have hl : lv_has ls 5 [(0, .ref (wad w 4 o))] := hl
  unfold wp_Blocks_isSound at h
  refine lv_iconst (v := oI 1) X.1 X.2.1 dX6_isSound_0 rfl ?_
  refine lv_istore_n (i := 1) (lv' := [(1, .int (oI 1)), (0, .ref (wad w 4 o))]) X.1 X.2.1 dX6_isSound_1 rfl hl (by decide) (by first | rfl | simp [catK, catI, catR, catL]) (fun ls hl => ?_)
  refine lv_iconst (v := oI 0) X.1 X.2.1 dX6_isSound_2 rfl ?_
  refine lv_istore_n (i := 2) (lv' := [(2, .int (oI 0)), (1, .int (oI 1)), (0, .ref (wad w 4 o))]) X.1 X.2.1 dX6_isSound_3 rfl hl (by decide) (by first | rfl | simp [catK, catI, catR, catL]) (fun ls hl => ?_)
  exact wk_Blocks_isSound_L4 X hr hlk hT hV ho 1 0 σ _ _ _ rZ_1 rZ_0.i (lv_sub hl [2, 1, 0] rfl) hW hS h
/-! Space.clear()V -/
set_option maxHeartbeats 4000000 in
set_option maxRecDepth 100000 in
theorem met_Space_clear (l : Launch) {w : Wp} (hV : Hvl w) (o : Int) (Q : St → Prop) (σ : St) (ho : 0 ≤ o ∧ o < 2) (h : wp_Space_clear (wc w) (wtv w) o Q σ) : Met l yX7_clear (ws_ yX7_clear cX7_clear 1 none) rm_Space_clear (PcW w σ [.ref (wad w 5 o)]) (QcV w Q) 0 0 (wA w) := by
  refine Met.ofW (cc := cX7_clear) (maxL := 1) (ret := none) (by decide) rfl ?_
  intro p e st m args below meth c s₁ B hml hv
  obtain ⟨hargs, hW, hT⟩ := hv
  have X : CallFix p m c cX7_clear 1 st _ lw_all RX7 := ⟨B.exec, B.bytes, hml, findClass_of_methodNamed B.named, fun w h => atoms_spec (ws := ws_ yX7_clear cX7_clear 1 none) B.pre w (List.mem_cons_of_mem _ h)⟩
  have hr := B.returns
  have hlk := B.notSynchronized
  have hS : va_S (wA w) st.heap st.heap [] := va_S.rf
  have vl323_o : vl w 323 o := hV.hv 323 rfl ⟨by omega, by show _ < (2 : Int); omega⟩
  have vl324_o : vl w 324 o := hV.hv 324 rfl ⟨by omega, by show _ < (2 : Int); omega⟩
  have vl325_o : vl w 325 o := hV.hv 325 rfl ⟨by omega, by show _ < (2 : Int); omega⟩
  have vl5_o : vl w 5 o := hV.hv 5 rfl ⟨by omega, by show _ < (2 : Int); omega⟩
  have hl := lv_entry ([.ref (wad w 5 o)]) (n := 1) (Nat.le_of_ble_eq_true rfl)
  have hfr := lg_entry_eq m ([.ref (wad w 5 o)]) 1
  rw [← hargs] at hfr
  rw [hfr]
  generalize (lg_sl ([.ref (wad w 5 o)]) ++ List.replicate (1 - (lg_sl ([.ref (wad w 5 o)])).length) Slot.unset).toArray = ls at hl ⊢
  have hl : lv_has ls 1 [(0, .ref (wad w 5 o))] := hl
  unfold wp_Space_clear at h
  refine lv_aload_n X.1 X.2.1 dX7_clear_0 rfl (lv_at hl 0 rfl) ?_
  refine wg (v := .ref (wad w 323 o)) X hT hW 5 3 323 vl5_o rfl rfl (by decide) rfl (by decide) in_X7 q342 rfl dX7_clear_1 ?_
  refine lv_iconst (v := oI 0) X.1 X.2.1 dX7_clear_4 rfl ?_
  refine wr_V (rS (As := [.ref (wad w 323 o), .int (oI 0)]) (rest := []) X hT hW hS (met_Arrays_fill_2 l (w := w) 323 o 0 _ σ vl323_o (by decide) rfl rZ_0.i h) (va_cwS 2 X.2.2.2.2 (lw_S q716 q653 q135 q654) rfl rfl rfl (by decide +kernel) ⟨Nat.le_of_ble_eq_true rfl, Nat.le_of_ble_eq_true rfl⟩) rfl hl.1 rfl (by first | exact Nat.le_of_ble_eq_true rfl | simp [catK, catI, catR, catL]) dX7_clear_5 ⟨Nat.le_refl _, Nat.le_refl _⟩) hS (fun σ_8 H locs rkσ_8 h hWσ_8 hS => ?_)
  have h := h rkσ_8
  refine lv_aload_n X.1 X.2.1 dX7_clear_8 rfl (lv_at hl 0 rfl) ?_
  refine wg (v := .ref (wad w 324 o)) X hT hWσ_8 5 4 324 vl5_o rfl rfl (by decide) rfl (by decide) in_X7 q345 rfl dX7_clear_9 ?_
  refine lv_iconst (v := oI 0) X.1 X.2.1 dX7_clear_12 rfl ?_
  refine wr_V (rS (As := [.ref (wad w 324 o), .int (oI 0)]) (rest := []) X hT hWσ_8 hS (met_Arrays_fill_2 l (w := w) 324 o 0 _ σ_8 vl324_o (by decide) rfl rZ_0.i h) (va_cwS 2 X.2.2.2.2 (lw_S q716 q653 q135 q654) rfl rfl rfl (by decide +kernel) ⟨Nat.le_of_ble_eq_true rfl, Nat.le_of_ble_eq_true rfl⟩) rfl hl.1 rfl (by first | exact Nat.le_of_ble_eq_true rfl | simp [catK, catI, catR, catL]) dX7_clear_13 ⟨Nat.le_refl _, Nat.le_refl _⟩) hS (fun σ_10 H locs rkσ_10 h hWσ_10 hS => ?_)
  have h := h rkσ_10
  refine lv_aload_n X.1 X.2.1 dX7_clear_16 rfl (lv_at hl 0 rfl) ?_
  refine wg (v := .ref (wad w 325 o)) X hT hWσ_10 5 5 325 vl5_o rfl rfl (by decide) rfl (by decide) in_X7 q348 rfl dX7_clear_17 ?_
  refine lv_iconst (v := oI 0) X.1 X.2.1 dX7_clear_20 rfl ?_
  refine wr_V (rS (As := [.ref (wad w 325 o), .int (oI 0)]) (rest := []) X hT hWσ_10 hS (met_Arrays_fill_6 l (w := w) 325 o 0 _ σ_10 vl325_o (by decide) rfl rZ_0 h) (va_cwS 2 X.2.2.2.2 (lw_S q717 q718 q135 q719) rfl rfl rfl (by decide +kernel) ⟨Nat.le_of_ble_eq_true rfl, Nat.le_of_ble_eq_true rfl⟩) rfl hl.1 rfl (by first | exact Nat.le_of_ble_eq_true rfl | simp [catK, catI, catR, catL]) dX7_clear_21 ⟨Nat.le_refl _, Nat.le_refl _⟩) hS (fun σ_12 H locs rkσ_12 h hWσ_12 hS => ?_)
  have h := h rkσ_12
  exact wret_V X hr hlk hWσ_12 hS h dX7_clear_24
/-! Space.fetch()I -/
set_option maxHeartbeats 4000000 in
set_option maxRecDepth 100000 in
theorem wk_Space_fetch_L5B {p : Program} {l : Launch} {e : Env} {st : State} {m : MethodId} {args : Array Value} {below : List Frame} {meth : Method} {c : Code} {w : Wp} {o : Int} {Q : Int → St → Prop} (X : CallFix p m c cX7_fetch 2 st args lw_all RX7) (hr : meth.sig.returnType = (some .int)) (hlk : meth.locks = false) (hT : Tb w st) (hV : Hvl w) (ho : 0 ≤ o ∧ o < 2) (K5 : Int → St → Prop) (hK5 : ∀ (y1 : Int) (σ : St) (H : Heap) (locs : List Loc) (ls : Array Slot), rI y1 → lv_has ls 2 [(0, .ref (wad w 5 o)), (1, .int (oI y1))] → Wo w σ H → va_S (wA w) st.heap H locs → K5 y1 σ → W p l e (headSpec (ws_ yX7_fetch cX7_fetch 2 (some .int)) rm_Space_fetch).room st m args below meth c H locs 0 0 (MQ below (QcI w Q) args st 0 0 (wA w)) (F0 m 5 ls [])) : ∀ (y1 : Int) (σ : St) (H : Heap) (locs : List Loc) (ls : Array Slot), rI y1 → lv_has ls 2 [(0, .ref (wad w 5 o)), (1, .int (oI y1))] → Wo w σ H → va_S (wA w) st.heap H locs → wp_Space_fetch_L5 (wc w) (wtv w) o Q K5 y1 σ → W p l e (headSpec (ws_ yX7_fetch cX7_fetch 2 (some .int)) rm_Space_fetch).room st m args below meth c H locs 0 0 (MQ below (QcI w Q) args st 0 0 (wA w)) (F0 m 5 ls []) := by
  have vl323_o : vl w 323 o := hV.hv 323 rfl ⟨by omega, by show _ < (2 : Int); omega⟩
  have vl324_o : vl w 324 o := hV.hv 324 rfl ⟨by omega, by show _ < (2 : Int); omega⟩
  have vl325_o : vl w 325 o := hV.hv 325 rfl ⟨by omega, by show _ < (2 : Int); omega⟩
  have vl4_o : vl w 4 o := hV.hv 4 rfl ⟨by omega, by show _ < (2 : Int); omega⟩
  have vl5_o : vl w 5 o := hV.hv 5 rfl ⟨by omega, by show _ < (2 : Int); omega⟩
  intro y1 σ H locs ls ry1 hl hW hS h
  unfold wp_Space_fetch_L5 at h
  refine lv_iload_n X.1 X.2.1 dX7_fetch_5 rfl (lv_at hl 1 rfl) ?_
  refine lv_aload_n X.1 X.2.1 dX7_fetch_6 rfl (lv_at hl 0 rfl) ?_
  refine wg (v := .ref (wad w 323 o)) X hT hW 5 3 323 vl5_o rfl rfl (by decide) rfl (by decide) in_X7 q342 rfl dX7_fetch_7 ?_
  refine w_alen (n := ((wc w).1 - 6)) X hT hW 323 vl323_o (by decide) (by rw [show aty 323 = 0 from rfl]; decide) rfl dX7_fetch_10 ?_
  refine w_icmp_ge (tgt := 60) X ry1 (aln_r hT.c 323 o) dX7_fetch_11 (by decide) (fun hc => ?_) (fun hc => ?_)
  · have h := h.1 hc
    exact h.elim
  · have h := h.2 hc
    refine lv_aload_n X.1 X.2.1 dX7_fetch_14 rfl (lv_at hl 0 rfl) ?_
    refine wg (v := .ref (wad w 323 o)) X hT hW 5 3 323 vl5_o rfl rfl (by decide) rfl (by decide) in_X7 q342 rfl dX7_fetch_15 ?_
    refine lv_iload_n X.1 X.2.1 dX7_fetch_18 rfl (lv_at hl 1 rfl) ?_
    obtain ⟨bi, h⟩ := h
    refine w_iald (n := ((wc w).1 - 6)) X hT hW 323 vl323_o (by decide) rfl rfl bi dX7_fetch_19 ?_
    refine w_if_ne (tgt := 54) X (hW.r.ai 323 o y1 rfl) dX7_fetch_20 (by decide) (fun hc => ?_) (fun hc => ?_)
    · have h := h.1 hc
      obtain ⟨y1_8, ey1_8⟩ : ∃ y : Int, y = w32 (y1 + 1) := ⟨_, rfl⟩
      have h := h y1_8 ey1_8
      have ry1_8 : rI y1_8 := by rw [ey1_8]; exact w32_r _
      refine lv_iinc (v := oI y1_8) (lv' := [(1, .int (oI y1_8)), (0, .ref (wad w 5 o))]) X.1 X.2.1 dX7_fetch_54 hl (k := 1) rfl (by rw [ey1_8]; exact oI_add _ _) (by decide) (by first | rfl | simp [catK, catI, catR, catL]) (fun ls hl => ?_)
      refine lv_goto (tgt := 5) X.1 X.2.1 dX7_fetch_57 (by decide) ?_
      exact hK5 y1_8 σ _ _ _ ry1_8 (lv_sub hl [1, 0] rfl) hW hS h
    · have h := h.2 hc
      refine lv_aload_n X.1 X.2.1 dX7_fetch_23 rfl (lv_at hl 0 rfl) ?_
      refine wg (v := .ref (wad w 4 o)) X hT hW 5 0 320 vl5_o rfl rfl (by decide) rfl (by decide) in_X7 q336 rfl dX7_fetch_24 ?_
      refine lv_iload_n X.1 X.2.1 dX7_fetch_27 rfl (lv_at hl 1 rfl) ?_
      refine wr_V (rV (As := [.int (oI y1)]) (rest := []) X hT hW hS (met_Blocks_drop l (w := w) hV o y1 _ σ (by omega) ry1 h) (cwV 1 X.2.2.2.2 (lw_V q775 q776 q777 q137 q778) rfl rfl rfl (by decide +kernel) ⟨Nat.le_of_ble_eq_true rfl, Nat.le_of_ble_eq_true rfl⟩) vl4_o (by decide) rfl rfl hl.1 rfl (by first | exact Nat.le_of_ble_eq_true rfl | simp [catK, catI, catR, catL]) dX7_fetch_28 ⟨Nat.le_refl _, Nat.le_refl _⟩) hS (fun σ_10 H locs rkσ_10 h hWσ_10 hS => ?_)
      have h := h rkσ_10
      refine lv_aload_n X.1 X.2.1 dX7_fetch_31 rfl (lv_at hl 0 rfl) ?_
      refine wg (v := .ref (wad w 323 o)) X hT hWσ_10 5 3 323 vl5_o rfl rfl (by decide) rfl (by decide) in_X7 q342 rfl dX7_fetch_32 ?_
      refine lv_iload_n X.1 X.2.1 dX7_fetch_35 rfl (lv_at hl 1 rfl) ?_
      refine lv_iconst (v := oI 2) X.1 X.2.1 dX7_fetch_36 rfl ?_
      obtain ⟨bi, h⟩ := h
      refine w_iast (n := ((wc w).1 - 6)) X hT hWσ_10 hS 323 vl323_o (by decide) rfl rfl bi ((rB_lit 2 (by decide)).i) dX7_fetch_37 (fun H locs hN hS => ?_)
      obtain ⟨σ_11, eσ_11⟩ : ∃ x, x = sA σ_10 323 o y1 2 := ⟨_, rfl⟩
      have hWσ_11 : Wo w σ_11 H := eσ_11 ▸ hN
      have h := h σ_11 eσ_11
      clear hN
      refine lv_aload_n X.1 X.2.1 dX7_fetch_38 rfl (lv_at hl 0 rfl) ?_
      refine wg (v := .ref (wad w 324 o)) X hT hWσ_11 5 4 324 vl5_o rfl rfl (by decide) rfl (by decide) in_X7 q345 rfl dX7_fetch_39 ?_
      refine lv_iload_n X.1 X.2.1 dX7_fetch_42 rfl (lv_at hl 1 rfl) ?_
      refine lv_iconst (v := oI 0) X.1 X.2.1 dX7_fetch_43 rfl ?_
      obtain ⟨bi, h⟩ := h
      refine w_iast (n := ((wc w).1 - 6)) X hT hWσ_11 hS 324 vl324_o (by decide) rfl rfl bi rZ_0.i dX7_fetch_44 (fun H locs hN hS => ?_)
      obtain ⟨σ_12, eσ_12⟩ : ∃ x, x = sA σ_11 324 o y1 0 := ⟨_, rfl⟩
      have hWσ_12 : Wo w σ_12 H := eσ_12 ▸ hN
      have h := h σ_12 eσ_12
      clear hN
      refine lv_aload_n X.1 X.2.1 dX7_fetch_45 rfl (lv_at hl 0 rfl) ?_
      refine wg (v := .ref (wad w 325 o)) X hT hWσ_12 5 5 325 vl5_o rfl rfl (by decide) rfl (by decide) in_X7 q348 rfl dX7_fetch_46 ?_
      refine lv_iload_n X.1 X.2.1 dX7_fetch_49 rfl (lv_at hl 1 rfl) ?_
      refine lv_iconst (v := oI 0) X.1 X.2.1 dX7_fetch_50 rfl ?_
      obtain ⟨bi, h⟩ := h
      refine w_zast (n := ((wc w).1 - 6)) X hT hWσ_12 hS 325 vl325_o (by decide) rfl rfl bi rZ_0 dX7_fetch_51 (fun H locs hN hS => ?_)
      obtain ⟨σ_13, eσ_13⟩ : ∃ x, x = sA σ_12 325 o y1 0 := ⟨_, rfl⟩
      have hWσ_13 : Wo w σ_13 H := eσ_13 ▸ hN
      have h := h σ_13 eσ_13
      clear hN
      refine lv_iload_n X.1 X.2.1 dX7_fetch_52 rfl (lv_at hl 1 rfl) ?_
      exact wret_I X hr hlk hWσ_13 hS ry1 h dX7_fetch_53
theorem wk_Space_fetch_L5 {p : Program} {l : Launch} {e : Env} {st : State} {m : MethodId} {args : Array Value} {below : List Frame} {meth : Method} {c : Code} {w : Wp} {o : Int} {Q : Int → St → Prop} (X : CallFix p m c cX7_fetch 2 st args lw_all RX7) (hr : meth.sig.returnType = (some .int)) (hlk : meth.locks = false) (hT : Tb w st) (hV : Hvl w) (ho : 0 ≤ o ∧ o < 2) : ∀ (y1 : Int) (σ : St) (H : Heap) (locs : List Loc) (ls : Array Slot), rI y1 → lv_has ls 2 [(0, .ref (wad w 5 o)), (1, .int (oI y1))] → Wo w σ H → va_S (wA w) st.heap H locs → lQ1 (wp_Space_fetch_L5 (wc w) (wtv w) o Q) y1 σ → W p l e (headSpec (ws_ yX7_fetch cX7_fetch 2 (some .int)) rm_Space_fetch).room st m args below meth c H locs 0 0 (MQ below (QcI w Q) args st 0 0 (wA w)) (F0 m 5 ls []) := by
  intro y1 σ H locs ls ry1 hl hW hS h
  obtain ⟨fu, h⟩ := h
  induction fu generalizing y1 σ H locs ls with
  | zero => exact h.elim
  | succ fu ih =>
    exact wk_Space_fetch_L5B X hr hlk hT hV ho (lq1 (wp_Space_fetch_L5 (wc w) (wtv w) o Q) fu) (fun y1 σ H locs ls ry1 hl hW hS h => ih y1 σ H locs ls ry1 hl hW hS h) y1 σ H locs ls ry1 hl hW hS h
set_option maxHeartbeats 4000000 in
set_option maxRecDepth 100000 in
theorem met_Space_fetch (l : Launch) {w : Wp} (hV : Hvl w) (o : Int) (Q : Int → St → Prop) (σ : St) (ho : 0 ≤ o ∧ o < 2) (h : wp_Space_fetch (wc w) (wtv w) o Q σ) : Met l yX7_fetch (ws_ yX7_fetch cX7_fetch 2 (some .int)) rm_Space_fetch (PcW w σ [.ref (wad w 5 o)]) (QcI w Q) 0 0 (wA w) := by
  refine Met.ofW (cc := cX7_fetch) (maxL := 2) (ret := (some .int)) (by decide) rfl ?_
  intro p e st m args below meth c s₁ B hml hv
  obtain ⟨hargs, hW, hT⟩ := hv
  have X : CallFix p m c cX7_fetch 2 st _ lw_all RX7 := ⟨B.exec, B.bytes, hml, findClass_of_methodNamed B.named, fun w h => atoms_spec (ws := ws_ yX7_fetch cX7_fetch 2 (some .int)) B.pre w (List.mem_cons_of_mem _ h)⟩
  have hr := B.returns
  have hlk := B.notSynchronized
  have hS : va_S (wA w) st.heap st.heap [] := va_S.rf
  have vl5_o : vl w 5 o := hV.hv 5 rfl ⟨by omega, by show _ < (2 : Int); omega⟩
  have hl := lv_entry ([.ref (wad w 5 o)]) (n := 2) (Nat.le_of_ble_eq_true rfl)
  have hfr := lg_entry_eq m ([.ref (wad w 5 o)]) 2
  rw [← hargs] at hfr
  rw [hfr]
  generalize (lg_sl ([.ref (wad w 5 o)]) ++ List.replicate (2 - (lg_sl ([.ref (wad w 5 o)])).length) Slot.unset).toArray = ls at hl ⊢
  have hl : lv_has ls 2 [(0, .ref (wad w 5 o))] := hl
  unfold wp_Space_fetch at h
  refine lv_aload_n X.1 X.2.1 dX7_fetch_0 rfl (lv_at hl 0 rfl) ?_
  refine wg (v := .int (oI (4 + (wc w).2.2))) X hT hW 5 1 321 vl5_o rfl rfl (by decide) rfl (by decide) in_X7 q337 rfl dX7_fetch_1 ?_
  refine w_top (fun y1_14 ey1_14 => ?_)
  have h := h y1_14 ey1_14
  have ry1_14 : rI y1_14 := by rw [ey1_14]; exact (cin_r hT.c 321)
  refine lv_istore_n (i := 1) (lv' := [(1, .int (oI y1_14)), (0, .ref (wad w 5 o))]) X.1 X.2.1 dX7_fetch_4 rfl hl (by decide) (by first | rfl | simp [catK, catI, catR, catL]) (fun ls hl => ?_)
  exact wk_Space_fetch_L5 X hr hlk hT hV ho y1_14 σ _ _ _ ry1_14 (lv_sub hl [1, 0] rfl) hW hS h
/-! Space.sweep()V -/
set_option maxHeartbeats 4000000 in
set_option maxRecDepth 100000 in
theorem wk_Space_sweep_b48 {p : Program} {l : Launch} {e : Env} {st : State} {m : MethodId} {args : Array Value} {below : List Frame} {meth : Method} {c : Code} {w : Wp} {o : Int} {Q : St → Prop} (X : CallFix p m c cX7_sweep 2 st args lw_all RX7) (hr : meth.sig.returnType = none) (hlk : meth.locks = false) (hT : Tb w st) (hV : Hvl w) (ho : 0 ≤ o ∧ o < 2) (K5 : Int → St → Prop) (hK5 : ∀ (y1 : Int) (σ : St) (H : Heap) (locs : List Loc) (ls : Array Slot), rI y1 → lv_has ls 2 [(0, .ref (wad w 5 o)), (1, .int (oI y1))] → Wo w σ H → va_S (wA w) st.heap H locs → K5 y1 σ → W p l e (headSpec (ws_ yX7_sweep cX7_sweep 2 none) rm_Space_sweep).room st m args below meth c H locs 0 0 (MQ below (QcV w Q) args st 0 0 (wA w)) (F0 m 5 ls [])) : ∀ (y1 : Int) (σ : St) (H : Heap) (locs : List Loc) (ls : Array Slot), rI y1 → lv_has ls 2 [(0, .ref (wad w 5 o)), (1, .int (oI y1))] → Wo w σ H → va_S (wA w) st.heap H locs → wp_Space_sweep_b48 (wc w) (wtv w) o Q K5 y1 σ → W p l e (headSpec (ws_ yX7_sweep cX7_sweep 2 none) rm_Space_sweep).room st m args below meth c H locs 0 0 (MQ below (QcV w Q) args st 0 0 (wA w)) (F0 m 48 ls []) := by

  intro y1 σ H locs ls ry1 hl hW hS h
  unfold wp_Space_sweep_b48 at h
  obtain ⟨y1_6, ey1_6⟩ : ∃ y : Int, y = w32 (y1 + 1) := ⟨_, rfl⟩
  have h := h y1_6 ey1_6
  have ry1_6 : rI y1_6 := by rw [ey1_6]; exact w32_r _
  refine lv_iinc (v := oI y1_6) (lv' := [(1, .int (oI y1_6)), (0, .ref (wad w 5 o))]) X.1 X.2.1 dX7_sweep_48 hl (k := 1) rfl (by rw [ey1_6]; exact oI_add _ _) (by decide) (by first | rfl | simp [catK, catI, catR, catL]) (fun ls hl => ?_)
  refine lv_goto (tgt := 5) X.1 X.2.1 dX7_sweep_51 (by decide) ?_
  exact hK5 y1_6 σ _ _ _ ry1_6 (lv_sub hl [1, 0] rfl) hW hS h
set_option maxHeartbeats 4000000 in
set_option maxRecDepth 100000 in
theorem wk_Space_sweep_L5B {p : Program} {l : Launch} {e : Env} {st : State} {m : MethodId} {args : Array Value} {below : List Frame} {meth : Method} {c : Code} {w : Wp} {o : Int} {Q : St → Prop} (X : CallFix p m c cX7_sweep 2 st args lw_all RX7) (hr : meth.sig.returnType = none) (hlk : meth.locks = false) (hT : Tb w st) (hV : Hvl w) (ho : 0 ≤ o ∧ o < 2) (K5 : Int → St → Prop) (hK5 : ∀ (y1 : Int) (σ : St) (H : Heap) (locs : List Loc) (ls : Array Slot), rI y1 → lv_has ls 2 [(0, .ref (wad w 5 o)), (1, .int (oI y1))] → Wo w σ H → va_S (wA w) st.heap H locs → K5 y1 σ → W p l e (headSpec (ws_ yX7_sweep cX7_sweep 2 none) rm_Space_sweep).room st m args below meth c H locs 0 0 (MQ below (QcV w Q) args st 0 0 (wA w)) (F0 m 5 ls [])) : ∀ (y1 : Int) (σ : St) (H : Heap) (locs : List Loc) (ls : Array Slot), rI y1 → lv_has ls 2 [(0, .ref (wad w 5 o)), (1, .int (oI y1))] → Wo w σ H → va_S (wA w) st.heap H locs → wp_Space_sweep_L5 (wc w) (wtv w) o Q K5 y1 σ → W p l e (headSpec (ws_ yX7_sweep cX7_sweep 2 none) rm_Space_sweep).room st m args below meth c H locs 0 0 (MQ below (QcV w Q) args st 0 0 (wA w)) (F0 m 5 ls []) := by
  have vl323_o : vl w 323 o := hV.hv 323 rfl ⟨by omega, by show _ < (2 : Int); omega⟩
  have vl324_o : vl w 324 o := hV.hv 324 rfl ⟨by omega, by show _ < (2 : Int); omega⟩
  have vl4_o : vl w 4 o := hV.hv 4 rfl ⟨by omega, by show _ < (2 : Int); omega⟩
  have vl5_o : vl w 5 o := hV.hv 5 rfl ⟨by omega, by show _ < (2 : Int); omega⟩
  intro y1 σ H locs ls ry1 hl hW hS h
  unfold wp_Space_sweep_L5 at h
  refine lv_iload_n X.1 X.2.1 dX7_sweep_5 rfl (lv_at hl 1 rfl) ?_
  refine lv_aload_n X.1 X.2.1 dX7_sweep_6 rfl (lv_at hl 0 rfl) ?_
  refine wg (v := .ref (wad w 323 o)) X hT hW 5 3 323 vl5_o rfl rfl (by decide) rfl (by decide) in_X7 q342 rfl dX7_sweep_7 ?_
  refine w_alen (n := ((wc w).1 - 6)) X hT hW 323 vl323_o (by decide) (by rw [show aty 323 = 0 from rfl]; decide) rfl dX7_sweep_10 ?_
  refine w_icmp_ge (tgt := 54) X ry1 (aln_r hT.c 323 o) dX7_sweep_11 (by decide) (fun hc => ?_) (fun hc => ?_)
  · have h := h.1 hc
    exact wret_V X hr hlk hW hS h dX7_sweep_54
  · have h := h.2 hc
    refine lv_aload_n X.1 X.2.1 dX7_sweep_14 rfl (lv_at hl 0 rfl) ?_
    refine wg (v := .ref (wad w 323 o)) X hT hW 5 3 323 vl5_o rfl rfl (by decide) rfl (by decide) in_X7 q342 rfl dX7_sweep_15 ?_
    refine lv_iload_n X.1 X.2.1 dX7_sweep_18 rfl (lv_at hl 1 rfl) ?_
    obtain ⟨bi, h⟩ := h
    refine w_iald (n := ((wc w).1 - 6)) X hT hW 323 vl323_o (by decide) rfl rfl bi dX7_sweep_19 ?_
    refine lv_iconst (v := oI 1) X.1 X.2.1 dX7_sweep_20 rfl ?_
    refine w_icmp_ne (tgt := 48) X (hW.r.ai 323 o y1 rfl) rZ_1.i dX7_sweep_21 (by decide) (fun hc => ?_) (fun hc => ?_)
    · have h := h.1 hc
      exact wk_Space_sweep_b48 X hr hlk hT hV ho K5 hK5 y1 σ _ _ _ ry1 (lv_sub hl [0, 1] rfl) hW hS h
    · have h := h.2 hc
      refine lv_aload_n X.1 X.2.1 dX7_sweep_24 rfl (lv_at hl 0 rfl) ?_
      refine wg (v := .ref (wad w 324 o)) X hT hW 5 4 324 vl5_o rfl rfl (by decide) rfl (by decide) in_X7 q345 rfl dX7_sweep_25 ?_
      refine lv_iload_n X.1 X.2.1 dX7_sweep_28 rfl (lv_at hl 1 rfl) ?_
      obtain ⟨bi, h⟩ := h
      refine w_iald (n := ((wc w).1 - 6)) X hT hW 324 vl324_o (by decide) rfl rfl bi dX7_sweep_29 ?_
      refine w_if_ne (tgt := 48) X (hW.r.ai 324 o y1 rfl) dX7_sweep_30 (by decide) (fun hc => ?_) (fun hc => ?_)
      · have h := h.1 hc
        exact wk_Space_sweep_b48 X hr hlk hT hV ho K5 hK5 y1 σ _ _ _ ry1 (lv_sub hl [0, 1] rfl) hW hS h
      · have h := h.2 hc
        refine lv_aload_n X.1 X.2.1 dX7_sweep_33 rfl (lv_at hl 0 rfl) ?_
        refine wg (v := .ref (wad w 4 o)) X hT hW 5 0 320 vl5_o rfl rfl (by decide) rfl (by decide) in_X7 q336 rfl dX7_sweep_34 ?_
        refine lv_iload_n X.1 X.2.1 dX7_sweep_37 rfl (lv_at hl 1 rfl) ?_
        refine wr_V (rV (As := [.int (oI y1)]) (rest := []) X hT hW hS (met_Blocks_drop l (w := w) hV o y1 _ σ (by omega) ry1 h) (cwV 1 X.2.2.2.2 (lw_V q775 q776 q777 q137 q778) rfl rfl rfl (by decide +kernel) ⟨Nat.le_of_ble_eq_true rfl, Nat.le_of_ble_eq_true rfl⟩) vl4_o (by decide) rfl rfl hl.1 rfl (by first | exact Nat.le_of_ble_eq_true rfl | simp [catK, catI, catR, catL]) dX7_sweep_38 ⟨Nat.le_refl _, Nat.le_refl _⟩) hS (fun σ_8 H locs rkσ_8 h hWσ_8 hS => ?_)
        have h := h rkσ_8
        refine lv_aload_n X.1 X.2.1 dX7_sweep_41 rfl (lv_at hl 0 rfl) ?_
        refine wg (v := .ref (wad w 323 o)) X hT hWσ_8 5 3 323 vl5_o rfl rfl (by decide) rfl (by decide) in_X7 q342 rfl dX7_sweep_42 ?_
        refine lv_iload_n X.1 X.2.1 dX7_sweep_45 rfl (lv_at hl 1 rfl) ?_
        refine lv_iconst (v := oI 0) X.1 X.2.1 dX7_sweep_46 rfl ?_
        obtain ⟨bi, h⟩ := h
        refine w_iast (n := ((wc w).1 - 6)) X hT hWσ_8 hS 323 vl323_o (by decide) rfl rfl bi rZ_0.i dX7_sweep_47 (fun H locs hN hS => ?_)
        obtain ⟨σ_9, eσ_9⟩ : ∃ x, x = sA σ_8 323 o y1 0 := ⟨_, rfl⟩
        have hWσ_9 : Wo w σ_9 H := eσ_9 ▸ hN
        have h := h σ_9 eσ_9
        clear hN
        exact wk_Space_sweep_b48 X hr hlk hT hV ho K5 hK5 y1 σ_9 _ _ _ ry1 (lv_sub hl [0, 1] rfl) hWσ_9 hS h
theorem wk_Space_sweep_L5 {p : Program} {l : Launch} {e : Env} {st : State} {m : MethodId} {args : Array Value} {below : List Frame} {meth : Method} {c : Code} {w : Wp} {o : Int} {Q : St → Prop} (X : CallFix p m c cX7_sweep 2 st args lw_all RX7) (hr : meth.sig.returnType = none) (hlk : meth.locks = false) (hT : Tb w st) (hV : Hvl w) (ho : 0 ≤ o ∧ o < 2) : ∀ (y1 : Int) (σ : St) (H : Heap) (locs : List Loc) (ls : Array Slot), rI y1 → lv_has ls 2 [(0, .ref (wad w 5 o)), (1, .int (oI y1))] → Wo w σ H → va_S (wA w) st.heap H locs → lQ1 (wp_Space_sweep_L5 (wc w) (wtv w) o Q) y1 σ → W p l e (headSpec (ws_ yX7_sweep cX7_sweep 2 none) rm_Space_sweep).room st m args below meth c H locs 0 0 (MQ below (QcV w Q) args st 0 0 (wA w)) (F0 m 5 ls []) := by
  intro y1 σ H locs ls ry1 hl hW hS h
  obtain ⟨fu, h⟩ := h
  induction fu generalizing y1 σ H locs ls with
  | zero => exact h.elim
  | succ fu ih =>
    exact wk_Space_sweep_L5B X hr hlk hT hV ho (lq1 (wp_Space_sweep_L5 (wc w) (wtv w) o Q) fu) (fun y1 σ H locs ls ry1 hl hW hS h => ih y1 σ H locs ls ry1 hl hW hS h) y1 σ H locs ls ry1 hl hW hS h
set_option maxHeartbeats 4000000 in
set_option maxRecDepth 100000 in
theorem met_Space_sweep (l : Launch) {w : Wp} (hV : Hvl w) (o : Int) (Q : St → Prop) (σ : St) (ho : 0 ≤ o ∧ o < 2) (h : wp_Space_sweep (wc w) (wtv w) o Q σ) : Met l yX7_sweep (ws_ yX7_sweep cX7_sweep 2 none) rm_Space_sweep (PcW w σ [.ref (wad w 5 o)]) (QcV w Q) 0 0 (wA w) := by
  refine Met.ofW (cc := cX7_sweep) (maxL := 2) (ret := none) (by decide) rfl ?_
  intro p e st m args below meth c s₁ B hml hv
  obtain ⟨hargs, hW, hT⟩ := hv
  have X : CallFix p m c cX7_sweep 2 st _ lw_all RX7 := ⟨B.exec, B.bytes, hml, findClass_of_methodNamed B.named, fun w h => atoms_spec (ws := ws_ yX7_sweep cX7_sweep 2 none) B.pre w (List.mem_cons_of_mem _ h)⟩
  have hr := B.returns
  have hlk := B.notSynchronized
  have hS : va_S (wA w) st.heap st.heap [] := va_S.rf
  have vl5_o : vl w 5 o := hV.hv 5 rfl ⟨by omega, by show _ < (2 : Int); omega⟩
  have hl := lv_entry ([.ref (wad w 5 o)]) (n := 2) (Nat.le_of_ble_eq_true rfl)
  have hfr := lg_entry_eq m ([.ref (wad w 5 o)]) 2
  rw [← hargs] at hfr
  rw [hfr]
  generalize (lg_sl ([.ref (wad w 5 o)]) ++ List.replicate (2 - (lg_sl ([.ref (wad w 5 o)])).length) Slot.unset).toArray = ls at hl ⊢
  have hl : lv_has ls 2 [(0, .ref (wad w 5 o))] := hl
  unfold wp_Space_sweep at h
  refine lv_aload_n X.1 X.2.1 dX7_sweep_0 rfl (lv_at hl 0 rfl) ?_
  refine wg (v := .int (oI (4 + (wc w).2.2))) X hT hW 5 1 321 vl5_o rfl rfl (by decide) rfl (by decide) in_X7 q337 rfl dX7_sweep_1 ?_
  refine w_top (fun y1_10 ey1_10 => ?_)
  have h := h y1_10 ey1_10
  have ry1_10 : rI y1_10 := by rw [ey1_10]; exact (cin_r hT.c 321)
  refine lv_istore_n (i := 1) (lv' := [(1, .int (oI y1_10)), (0, .ref (wad w 5 o))]) X.1 X.2.1 dX7_sweep_4 rfl hl (by decide) (by first | rfl | simp [catK, catI, catR, catL]) (fun ls hl => ?_)
  exact wk_Space_sweep_L5 X hr hlk hT hV ho y1_10 σ _ _ _ ry1_10 (lv_sub hl [1, 0] rfl) hW hS h
/-! Space.empty()I -/
set_option maxHeartbeats 4000000 in
set_option maxRecDepth 100000 in
theorem wk_Space_empty_L7B {p : Program} {l : Launch} {e : Env} {st : State} {m : MethodId} {args : Array Value} {below : List Frame} {meth : Method} {c : Code} {w : Wp} {o : Int} {Q : Int → St → Prop} (X : CallFix p m c cX7_empty 3 st args lw_all RX7) (hr : meth.sig.returnType = (some .int)) (hlk : meth.locks = false) (hT : Tb w st) (hV : Hvl w) (ho : 0 ≤ o ∧ o < 2) (K7 : Int → Int → St → Prop) (hK7 : ∀ (y1 y2 : Int) (σ : St) (H : Heap) (locs : List Loc) (ls : Array Slot), rI y1 → rI y2 → lv_has ls 3 [(0, .ref (wad w 5 o)), (1, .int (oI y1)), (2, .int (oI y2))] → Wo w σ H → va_S (wA w) st.heap H locs → K7 y1 y2 σ → W p l e (headSpec (ws_ yX7_empty cX7_empty 3 (some .int)) rm_Space_empty).room st m args below meth c H locs 0 0 (MQ below (QcI w Q) args st 0 0 (wA w)) (F0 m 7 ls [])) : ∀ (y1 y2 : Int) (σ : St) (H : Heap) (locs : List Loc) (ls : Array Slot), rI y1 → rI y2 → lv_has ls 3 [(0, .ref (wad w 5 o)), (1, .int (oI y1)), (2, .int (oI y2))] → Wo w σ H → va_S (wA w) st.heap H locs → wp_Space_empty_L7 (wc w) (wtv w) o Q K7 y1 y2 σ → W p l e (headSpec (ws_ yX7_empty cX7_empty 3 (some .int)) rm_Space_empty).room st m args below meth c H locs 0 0 (MQ below (QcI w Q) args st 0 0 (wA w)) (F0 m 7 ls []) := by
  have vl323_o : vl w 323 o := hV.hv 323 rfl ⟨by omega, by show _ < (2 : Int); omega⟩
  have vl5_o : vl w 5 o := hV.hv 5 rfl ⟨by omega, by show _ < (2 : Int); omega⟩
  intro y1 y2 σ H locs ls ry1 ry2 hl hW hS h
  unfold wp_Space_empty_L7 at h
  refine lv_iload_n X.1 X.2.1 dX7_empty_7 rfl (lv_at hl 2 rfl) ?_
  refine lv_aload_n X.1 X.2.1 dX7_empty_8 rfl (lv_at hl 0 rfl) ?_
  refine wg (v := .ref (wad w 323 o)) X hT hW 5 3 323 vl5_o rfl rfl (by decide) rfl (by decide) in_X7 q342 rfl dX7_empty_9 ?_
  refine w_alen (n := ((wc w).1 - 6)) X hT hW 323 vl323_o (by decide) (by rw [show aty 323 = 0 from rfl]; decide) rfl dX7_empty_12 ?_
  refine w_icmp_ge (tgt := 39) X ry2 (aln_r hT.c 323 o) dX7_empty_13 (by decide) (fun hc => ?_) (fun hc => ?_)
  · have h := h.1 hc
    refine lv_iload_n X.1 X.2.1 dX7_empty_39 rfl (lv_at hl 1 rfl) ?_
    exact wret_I X hr hlk hW hS ry1 h dX7_empty_40
  · have h := h.2 hc
    refine lv_iload_n X.1 X.2.1 dX7_empty_16 rfl (lv_at hl 1 rfl) ?_
    refine lv_aload_n X.1 X.2.1 dX7_empty_17 rfl (lv_at hl 0 rfl) ?_
    refine wg (v := .ref (wad w 323 o)) X hT hW 5 3 323 vl5_o rfl rfl (by decide) rfl (by decide) in_X7 q342 rfl dX7_empty_18 ?_
    refine lv_iload_n X.1 X.2.1 dX7_empty_21 rfl (lv_at hl 2 rfl) ?_
    obtain ⟨bi, h⟩ := h
    refine w_iald (n := ((wc w).1 - 6)) X hT hW 323 vl323_o (by decide) rfl rfl bi dX7_empty_22 ?_
    refine w_cut (pc2 := 31) (st2 := [.int (oI (if (gA σ 323 o y2) = 0 then (1 : Int) else (0 : Int))), .int (oI y1)]) (fun hj => ?_) ?_
    · refine w_if_ne (tgt := 30) X (hW.r.ai 323 o y2 rfl) dX7_empty_23 (by decide) (fun hc => ?_) (fun hc => ?_)
      · refine lv_iconst (v := oI 0) X.1 X.2.1 dX7_empty_30 rfl ?_
        rw [if_neg hc] at hj; exact hj
      · refine lv_iconst (v := oI 1) X.1 X.2.1 dX7_empty_26 rfl ?_
        refine lv_goto (tgt := 31) X.1 X.2.1 dX7_empty_27 (by decide) ?_
        rw [if_pos hc] at hj; exact hj
    refine w_iadd X dX7_empty_31 ?_
    refine w_top (fun y1_7 ey1_7 => ?_)
    have h := h y1_7 ey1_7
    have ry1_7 : rI y1_7 := by rw [ey1_7]; exact (w32_r _)
    refine lv_istore_n (i := 1) (lv' := [(1, .int (oI y1_7)), (0, .ref (wad w 5 o)), (2, .int (oI y2))]) X.1 X.2.1 dX7_empty_32 rfl hl (by decide) (by first | rfl | simp [catK, catI, catR, catL]) (fun ls hl => ?_)
    obtain ⟨y2_8, ey2_8⟩ : ∃ y : Int, y = w32 (y2 + 1) := ⟨_, rfl⟩
    have h := h y2_8 ey2_8
    have ry2_8 : rI y2_8 := by rw [ey2_8]; exact w32_r _
    refine lv_iinc (v := oI y2_8) (lv' := [(2, .int (oI y2_8)), (1, .int (oI y1_7)), (0, .ref (wad w 5 o))]) X.1 X.2.1 dX7_empty_33 hl (k := 2) rfl (by rw [ey2_8]; exact oI_add _ _) (by decide) (by first | rfl | simp [catK, catI, catR, catL]) (fun ls hl => ?_)
    refine lv_goto (tgt := 7) X.1 X.2.1 dX7_empty_36 (by decide) ?_
    exact hK7 y1_7 y2_8 σ _ _ _ ry1_7 ry2_8 (lv_sub hl [2, 1, 0] rfl) hW hS h
theorem wk_Space_empty_L7 {p : Program} {l : Launch} {e : Env} {st : State} {m : MethodId} {args : Array Value} {below : List Frame} {meth : Method} {c : Code} {w : Wp} {o : Int} {Q : Int → St → Prop} (X : CallFix p m c cX7_empty 3 st args lw_all RX7) (hr : meth.sig.returnType = (some .int)) (hlk : meth.locks = false) (hT : Tb w st) (hV : Hvl w) (ho : 0 ≤ o ∧ o < 2) : ∀ (y1 y2 : Int) (σ : St) (H : Heap) (locs : List Loc) (ls : Array Slot), rI y1 → rI y2 → lv_has ls 3 [(0, .ref (wad w 5 o)), (1, .int (oI y1)), (2, .int (oI y2))] → Wo w σ H → va_S (wA w) st.heap H locs → lQ2 (wp_Space_empty_L7 (wc w) (wtv w) o Q) y1 y2 σ → W p l e (headSpec (ws_ yX7_empty cX7_empty 3 (some .int)) rm_Space_empty).room st m args below meth c H locs 0 0 (MQ below (QcI w Q) args st 0 0 (wA w)) (F0 m 7 ls []) := by
  intro y1 y2 σ H locs ls ry1 ry2 hl hW hS h
  obtain ⟨fu, h⟩ := h
  induction fu generalizing y1 y2 σ H locs ls with
  | zero => exact h.elim
  | succ fu ih =>
    exact wk_Space_empty_L7B X hr hlk hT hV ho (lq2 (wp_Space_empty_L7 (wc w) (wtv w) o Q) fu) (fun y1 y2 σ H locs ls ry1 ry2 hl hW hS h => ih y1 y2 σ H locs ls ry1 ry2 hl hW hS h) y1 y2 σ H locs ls ry1 ry2 hl hW hS h
set_option maxHeartbeats 4000000 in
set_option maxRecDepth 100000 in
theorem met_Space_empty (l : Launch) {w : Wp} (hV : Hvl w) (o : Int) (Q : Int → St → Prop) (σ : St) (ho : 0 ≤ o ∧ o < 2) (h : wp_Space_empty (wc w) (wtv w) o Q σ) : Met l yX7_empty (ws_ yX7_empty cX7_empty 3 (some .int)) rm_Space_empty (PcW w σ [.ref (wad w 5 o)]) (QcI w Q) 0 0 (wA w) := by
  refine Met.ofW (cc := cX7_empty) (maxL := 3) (ret := (some .int)) (by decide) rfl ?_
  intro p e st m args below meth c s₁ B hml hv
  obtain ⟨hargs, hW, hT⟩ := hv
  have X : CallFix p m c cX7_empty 3 st _ lw_all RX7 := ⟨B.exec, B.bytes, hml, findClass_of_methodNamed B.named, fun w h => atoms_spec (ws := ws_ yX7_empty cX7_empty 3 (some .int)) B.pre w (List.mem_cons_of_mem _ h)⟩
  have hr := B.returns
  have hlk := B.notSynchronized
  have hS : va_S (wA w) st.heap st.heap [] := va_S.rf
  have vl5_o : vl w 5 o := hV.hv 5 rfl ⟨by omega, by show _ < (2 : Int); omega⟩
  have hl := lv_entry ([.ref (wad w 5 o)]) (n := 3) (Nat.le_of_ble_eq_true rfl)
  have hfr := lg_entry_eq m ([.ref (wad w 5 o)]) 3
  rw [← hargs] at hfr
  rw [hfr]
  generalize (lg_sl ([.ref (wad w 5 o)]) ++ List.replicate (3 - (lg_sl ([.ref (wad w 5 o)])).length) Slot.unset).toArray = ls at hl ⊢
  have hl : lv_has ls 3 [(0, .ref (wad w 5 o))] := hl
  unfold wp_Space_empty at h
  refine lv_iconst (v := oI 0) X.1 X.2.1 dX7_empty_0 rfl ?_
  refine lv_istore_n (i := 1) (lv' := [(1, .int (oI 0)), (0, .ref (wad w 5 o))]) X.1 X.2.1 dX7_empty_1 rfl hl (by decide) (by first | rfl | simp [catK, catI, catR, catL]) (fun ls hl => ?_)
  refine lv_aload_n X.1 X.2.1 dX7_empty_2 rfl (lv_at hl 1 rfl) ?_
  refine wg (v := .int (oI (4 + (wc w).2.2))) X hT hW 5 1 321 vl5_o rfl rfl (by decide) rfl (by decide) in_X7 q337 rfl dX7_empty_3 ?_
  refine w_top (fun y2_9 ey2_9 => ?_)
  have h := h y2_9 ey2_9
  have ry2_9 : rI y2_9 := by rw [ey2_9]; exact (cin_r hT.c 321)
  refine lv_istore_n (i := 2) (lv' := [(2, .int (oI y2_9)), (1, .int (oI 0)), (0, .ref (wad w 5 o))]) X.1 X.2.1 dX7_empty_6 rfl hl (by decide) (by first | rfl | simp [catK, catI, catR, catL]) (fun ls hl => ?_)
  exact wk_Space_empty_L7 X hr hlk hT hV ho 0 y2_9 σ _ _ _ rZ_0.i ry2_9 (lv_sub hl [2, 1, 0] rfl) hW hS h
/-! Space.roomy()I -/
set_option maxHeartbeats 4000000 in
set_option maxRecDepth 100000 in
theorem wk_Space_roomy_b40 {p : Program} {l : Launch} {e : Env} {st : State} {m : MethodId} {args : Array Value} {below : List Frame} {meth : Method} {c : Code} {w : Wp} {o : Int} {Q : Int → St → Prop} (X : CallFix p m c cX7_roomy 3 st args lw_all RX7) (hr : meth.sig.returnType = (some .int)) (hlk : meth.locks = false) (hT : Tb w st) (hV : Hvl w) (ho : 0 ≤ o ∧ o < 2) (K7 : Int → Int → St → Prop) (hK7 : ∀ (y1 y2 : Int) (σ : St) (H : Heap) (locs : List Loc) (ls : Array Slot), rI y1 → rI y2 → lv_has ls 3 [(0, .ref (wad w 5 o)), (1, .int (oI y1)), (2, .int (oI y2))] → Wo w σ H → va_S (wA w) st.heap H locs → K7 y1 y2 σ → W p l e (headSpec (ws_ yX7_roomy cX7_roomy 3 (some .int)) rm_Space_roomy).room st m args below meth c H locs 0 0 (MQ below (QcI w Q) args st 0 0 (wA w)) (F0 m 7 ls [])) : ∀ (y2 t0 t1 : Int) (σ : St) (H : Heap) (locs : List Loc) (ls : Array Slot), rI y2 → rZ t0 → rI t1 → lv_has ls 3 [(0, .ref (wad w 5 o)), (2, .int (oI y2))] → Wo w σ H → va_S (wA w) st.heap H locs → wp_Space_roomy_b40 (wc w) (wtv w) o Q K7 y2 t0 t1 σ → W p l e (headSpec (ws_ yX7_roomy cX7_roomy 3 (some .int)) rm_Space_roomy).room st m args below meth c H locs 0 0 (MQ below (QcI w Q) args st 0 0 (wA w)) (F0 m 40 ls [.int (oI t0), .int (oI t1)]) := by

  intro y2 t0 t1 σ H locs ls ry2 rt0 rt1 hl hW hS h
  unfold wp_Space_roomy_b40 at h
  refine w_iadd X dX7_roomy_40 ?_
  refine w_top (fun y1_10 ey1_10 => ?_)
  have h := h y1_10 ey1_10
  have ry1_10 : rI y1_10 := by rw [ey1_10]; exact (w32_r _)
  refine lv_istore_n (i := 1) (lv' := [(1, .int (oI y1_10)), (0, .ref (wad w 5 o)), (2, .int (oI y2))]) X.1 X.2.1 dX7_roomy_41 rfl hl (by decide) (by first | rfl | simp [catK, catI, catR, catL]) (fun ls hl => ?_)
  obtain ⟨y2_11, ey2_11⟩ : ∃ y : Int, y = w32 (y2 + 1) := ⟨_, rfl⟩
  have h := h y2_11 ey2_11
  have ry2_11 : rI y2_11 := by rw [ey2_11]; exact w32_r _
  refine lv_iinc (v := oI y2_11) (lv' := [(2, .int (oI y2_11)), (1, .int (oI y1_10)), (0, .ref (wad w 5 o))]) X.1 X.2.1 dX7_roomy_42 hl (k := 2) rfl (by rw [ey2_11]; exact oI_add _ _) (by decide) (by first | rfl | simp [catK, catI, catR, catL]) (fun ls hl => ?_)
  refine lv_goto (tgt := 7) X.1 X.2.1 dX7_roomy_45 (by decide) ?_
  exact hK7 y1_10 y2_11 σ _ _ _ ry1_10 ry2_11 (lv_sub hl [2, 1, 0] rfl) hW hS h
set_option maxHeartbeats 4000000 in
set_option maxRecDepth 100000 in
theorem wk_Space_roomy_b35 {p : Program} {l : Launch} {e : Env} {st : State} {m : MethodId} {args : Array Value} {below : List Frame} {meth : Method} {c : Code} {w : Wp} {o : Int} {Q : Int → St → Prop} (X : CallFix p m c cX7_roomy 3 st args lw_all RX7) (hr : meth.sig.returnType = (some .int)) (hlk : meth.locks = false) (hT : Tb w st) (hV : Hvl w) (ho : 0 ≤ o ∧ o < 2) (K40 : Int → Int → Int → St → Prop) (hK40 : ∀ (y2 t0 t1 : Int) (σ : St) (H : Heap) (locs : List Loc) (ls : Array Slot), rI y2 → rZ t0 → rI t1 → lv_has ls 3 [(0, .ref (wad w 5 o)), (2, .int (oI y2))] → Wo w σ H → va_S (wA w) st.heap H locs → K40 y2 t0 t1 σ → W p l e (headSpec (ws_ yX7_roomy cX7_roomy 3 (some .int)) rm_Space_roomy).room st m args below meth c H locs 0 0 (MQ below (QcI w Q) args st 0 0 (wA w)) (F0 m 40 ls [.int (oI t0), .int (oI t1)])) : ∀ (y2 t0 : Int) (σ : St) (H : Heap) (locs : List Loc) (ls : Array Slot), rI y2 → rI t0 → lv_has ls 3 [(0, .ref (wad w 5 o)), (2, .int (oI y2))] → Wo w σ H → va_S (wA w) st.heap H locs → wp_Space_roomy_b35 (wc w) (wtv w) o Q K40 y2 t0 σ → W p l e (headSpec (ws_ yX7_roomy cX7_roomy 3 (some .int)) rm_Space_roomy).room st m args below meth c H locs 0 0 (MQ below (QcI w Q) args st 0 0 (wA w)) (F0 m 35 ls [.int (oI t0)]) := by

  intro y2 t0 σ H locs ls ry2 rt0 hl hW hS h
  unfold wp_Space_roomy_b35 at h
  refine lv_iconst (v := oI 1) X.1 X.2.1 dX7_roomy_35 rfl ?_
  refine lv_goto (tgt := 40) X.1 X.2.1 dX7_roomy_36 (by decide) ?_
  exact hK40 y2 1 t0 σ _ _ _ ry2 rZ_1 rt0 (lv_sub hl [0, 1] rfl) hW hS h
set_option maxHeartbeats 4000000 in
set_option maxRecDepth 100000 in
theorem wk_Space_roomy_L7B {p : Program} {l : Launch} {e : Env} {st : State} {m : MethodId} {args : Array Value} {below : List Frame} {meth : Method} {c : Code} {w : Wp} {o : Int} {Q : Int → St → Prop} (X : CallFix p m c cX7_roomy 3 st args lw_all RX7) (hr : meth.sig.returnType = (some .int)) (hlk : meth.locks = false) (hT : Tb w st) (hV : Hvl w) (ho : 0 ≤ o ∧ o < 2) (K7 : Int → Int → St → Prop) (hK7 : ∀ (y1 y2 : Int) (σ : St) (H : Heap) (locs : List Loc) (ls : Array Slot), rI y1 → rI y2 → lv_has ls 3 [(0, .ref (wad w 5 o)), (1, .int (oI y1)), (2, .int (oI y2))] → Wo w σ H → va_S (wA w) st.heap H locs → K7 y1 y2 σ → W p l e (headSpec (ws_ yX7_roomy cX7_roomy 3 (some .int)) rm_Space_roomy).room st m args below meth c H locs 0 0 (MQ below (QcI w Q) args st 0 0 (wA w)) (F0 m 7 ls [])) : ∀ (y1 y2 : Int) (σ : St) (H : Heap) (locs : List Loc) (ls : Array Slot), rI y1 → rI y2 → lv_has ls 3 [(0, .ref (wad w 5 o)), (1, .int (oI y1)), (2, .int (oI y2))] → Wo w σ H → va_S (wA w) st.heap H locs → wp_Space_roomy_L7 (wc w) (wtv w) o Q K7 y1 y2 σ → W p l e (headSpec (ws_ yX7_roomy cX7_roomy 3 (some .int)) rm_Space_roomy).room st m args below meth c H locs 0 0 (MQ below (QcI w Q) args st 0 0 (wA w)) (F0 m 7 ls []) := by
  have vl323_o : vl w 323 o := hV.hv 323 rfl ⟨by omega, by show _ < (2 : Int); omega⟩
  have vl325_o : vl w 325 o := hV.hv 325 rfl ⟨by omega, by show _ < (2 : Int); omega⟩
  have vl5_o : vl w 5 o := hV.hv 5 rfl ⟨by omega, by show _ < (2 : Int); omega⟩
  intro y1 y2 σ H locs ls ry1 ry2 hl hW hS h
  unfold wp_Space_roomy_L7 at h
  refine lv_iload_n X.1 X.2.1 dX7_roomy_7 rfl (lv_at hl 2 rfl) ?_
  refine lv_aload_n X.1 X.2.1 dX7_roomy_8 rfl (lv_at hl 0 rfl) ?_
  refine wg (v := .ref (wad w 323 o)) X hT hW 5 3 323 vl5_o rfl rfl (by decide) rfl (by decide) in_X7 q342 rfl dX7_roomy_9 ?_
  refine w_alen (n := ((wc w).1 - 6)) X hT hW 323 vl323_o (by decide) (by rw [show aty 323 = 0 from rfl]; decide) rfl dX7_roomy_12 ?_
  refine w_icmp_ge (tgt := 48) X ry2 (aln_r hT.c 323 o) dX7_roomy_13 (by decide) (fun hc => ?_) (fun hc => ?_)
  · have h := h.1 hc
    refine lv_iload_n X.1 X.2.1 dX7_roomy_48 rfl (lv_at hl 1 rfl) ?_
    exact wret_I X hr hlk hW hS ry1 h dX7_roomy_49
  · have h := h.2 hc
    refine lv_iload_n X.1 X.2.1 dX7_roomy_16 rfl (lv_at hl 1 rfl) ?_
    refine lv_aload_n X.1 X.2.1 dX7_roomy_17 rfl (lv_at hl 0 rfl) ?_
    refine wg (v := .ref (wad w 323 o)) X hT hW 5 3 323 vl5_o rfl rfl (by decide) rfl (by decide) in_X7 q342 rfl dX7_roomy_18 ?_
    refine lv_iload_n X.1 X.2.1 dX7_roomy_21 rfl (lv_at hl 2 rfl) ?_
    obtain ⟨bi, h⟩ := h
    refine w_iald (n := ((wc w).1 - 6)) X hT hW 323 vl323_o (by decide) rfl rfl bi dX7_roomy_22 ?_
    refine w_if_eq (tgt := 35) X (hW.r.ai 323 o y2 rfl) dX7_roomy_23 (by decide) (fun hc => ?_) (fun hc => ?_)
    · have h := h.1 hc
      exact wk_Space_roomy_b35 X hr hlk hT hV ho (wp_Space_roomy_b40 (wc w) (wtv w) o Q K7) (wk_Space_roomy_b40 X hr hlk hT hV ho K7 hK7) y2 y1 σ _ _ _ ry2 ry1 (lv_sub hl [0, 2] rfl) hW hS h
    · have h := h.2 hc
      refine lv_aload_n X.1 X.2.1 dX7_roomy_26 rfl (lv_at hl 0 rfl) ?_
      refine wg (v := .ref (wad w 325 o)) X hT hW 5 5 325 vl5_o rfl rfl (by decide) rfl (by decide) in_X7 q348 rfl dX7_roomy_27 ?_
      refine lv_iload_n X.1 X.2.1 dX7_roomy_30 rfl (lv_at hl 2 rfl) ?_
      obtain ⟨bi, h⟩ := h
      refine w_zald (n := ((wc w).1 - 6)) X hT hW 325 vl325_o (by decide) rfl rfl bi dX7_roomy_31 ?_
      refine w_if_eq (tgt := 39) X ((hW.r.az 325 o y2 rfl).i) dX7_roomy_32 (by decide) (fun hc => ?_) (fun hc => ?_)
      · have h := h.1 hc
        refine lv_iconst (v := oI 0) X.1 X.2.1 dX7_roomy_39 rfl ?_
        exact wk_Space_roomy_b40 X hr hlk hT hV ho K7 hK7 y2 0 y1 σ _ _ _ ry2 rZ_0 ry1 (lv_sub hl [0, 2] rfl) hW hS h
      · have h := h.2 hc
        exact wk_Space_roomy_b35 X hr hlk hT hV ho (wp_Space_roomy_b40 (wc w) (wtv w) o Q K7) (wk_Space_roomy_b40 X hr hlk hT hV ho K7 hK7) y2 y1 σ _ _ _ ry2 ry1 (lv_sub hl [0, 2] rfl) hW hS h
theorem wk_Space_roomy_L7 {p : Program} {l : Launch} {e : Env} {st : State} {m : MethodId} {args : Array Value} {below : List Frame} {meth : Method} {c : Code} {w : Wp} {o : Int} {Q : Int → St → Prop} (X : CallFix p m c cX7_roomy 3 st args lw_all RX7) (hr : meth.sig.returnType = (some .int)) (hlk : meth.locks = false) (hT : Tb w st) (hV : Hvl w) (ho : 0 ≤ o ∧ o < 2) : ∀ (y1 y2 : Int) (σ : St) (H : Heap) (locs : List Loc) (ls : Array Slot), rI y1 → rI y2 → lv_has ls 3 [(0, .ref (wad w 5 o)), (1, .int (oI y1)), (2, .int (oI y2))] → Wo w σ H → va_S (wA w) st.heap H locs → lQ2 (wp_Space_roomy_L7 (wc w) (wtv w) o Q) y1 y2 σ → W p l e (headSpec (ws_ yX7_roomy cX7_roomy 3 (some .int)) rm_Space_roomy).room st m args below meth c H locs 0 0 (MQ below (QcI w Q) args st 0 0 (wA w)) (F0 m 7 ls []) := by
  intro y1 y2 σ H locs ls ry1 ry2 hl hW hS h
  obtain ⟨fu, h⟩ := h
  induction fu generalizing y1 y2 σ H locs ls with
  | zero => exact h.elim
  | succ fu ih =>
    exact wk_Space_roomy_L7B X hr hlk hT hV ho (lq2 (wp_Space_roomy_L7 (wc w) (wtv w) o Q) fu) (fun y1 y2 σ H locs ls ry1 ry2 hl hW hS h => ih y1 y2 σ H locs ls ry1 ry2 hl hW hS h) y1 y2 σ H locs ls ry1 ry2 hl hW hS h
set_option maxHeartbeats 4000000 in
set_option maxRecDepth 100000 in
theorem met_Space_roomy (l : Launch) {w : Wp} (hV : Hvl w) (o : Int) (Q : Int → St → Prop) (σ : St) (ho : 0 ≤ o ∧ o < 2) (h : wp_Space_roomy (wc w) (wtv w) o Q σ) : Met l yX7_roomy (ws_ yX7_roomy cX7_roomy 3 (some .int)) rm_Space_roomy (PcW w σ [.ref (wad w 5 o)]) (QcI w Q) 0 0 (wA w) := by
  refine Met.ofW (cc := cX7_roomy) (maxL := 3) (ret := (some .int)) (by decide) rfl ?_
  intro p e st m args below meth c s₁ B hml hv
  obtain ⟨hargs, hW, hT⟩ := hv
  have X : CallFix p m c cX7_roomy 3 st _ lw_all RX7 := ⟨B.exec, B.bytes, hml, findClass_of_methodNamed B.named, fun w h => atoms_spec (ws := ws_ yX7_roomy cX7_roomy 3 (some .int)) B.pre w (List.mem_cons_of_mem _ h)⟩
  have hr := B.returns
  have hlk := B.notSynchronized
  have hS : va_S (wA w) st.heap st.heap [] := va_S.rf
  have vl5_o : vl w 5 o := hV.hv 5 rfl ⟨by omega, by show _ < (2 : Int); omega⟩
  have hl := lv_entry ([.ref (wad w 5 o)]) (n := 3) (Nat.le_of_ble_eq_true rfl)
  have hfr := lg_entry_eq m ([.ref (wad w 5 o)]) 3
  rw [← hargs] at hfr
  rw [hfr]
  generalize (lg_sl ([.ref (wad w 5 o)]) ++ List.replicate (3 - (lg_sl ([.ref (wad w 5 o)])).length) Slot.unset).toArray = ls at hl ⊢
  have hl : lv_has ls 3 [(0, .ref (wad w 5 o))] := hl
  unfold wp_Space_roomy at h
  refine lv_iconst (v := oI 0) X.1 X.2.1 dX7_roomy_0 rfl ?_
  refine lv_istore_n (i := 1) (lv' := [(1, .int (oI 0)), (0, .ref (wad w 5 o))]) X.1 X.2.1 dX7_roomy_1 rfl hl (by decide) (by first | rfl | simp [catK, catI, catR, catL]) (fun ls hl => ?_)
  refine lv_aload_n X.1 X.2.1 dX7_roomy_2 rfl (lv_at hl 1 rfl) ?_
  refine wg (v := .int (oI (4 + (wc w).2.2))) X hT hW 5 1 321 vl5_o rfl rfl (by decide) rfl (by decide) in_X7 q337 rfl dX7_roomy_3 ?_
  refine w_top (fun y2_12 ey2_12 => ?_)
  have h := h y2_12 ey2_12
  have ry2_12 : rI y2_12 := by rw [ey2_12]; exact (cin_r hT.c 321)
  refine lv_istore_n (i := 2) (lv' := [(2, .int (oI y2_12)), (1, .int (oI 0)), (0, .ref (wad w 5 o))]) X.1 X.2.1 dX7_roomy_6 rfl hl (by decide) (by first | rfl | simp [catK, catI, catR, catL]) (fun ls hl => ?_)
  exact wk_Space_roomy_L7 X hr hlk hT hV ho 0 y2_12 σ _ _ _ rZ_0.i ry2_12 (lv_sub hl [2, 1, 0] rfl) hW hS h
