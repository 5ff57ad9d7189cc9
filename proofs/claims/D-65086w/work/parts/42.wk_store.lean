/-! Store.costOf(I)I -/
set_option maxHeartbeats 4000000 in
set_option maxRecDepth 100000 in
theorem met_Store_costOf (l : Launch) {w : Wp} (hV : Hvl w) (o : Int) (x1 : Int) (Q : Int → St → Prop) (σ : St) (ho : 0 ≤ o ∧ o < 2) (rx1 : rI x1) (h : wp_Store_costOf (wc w) (wtv w) o x1 Q σ) : Met l yX5_costOf (ws_ yX5_costOf cX5_costOf 2 (some .int)) rm_Store_costOf (PcW w σ [.ref (wad w 3 o), .int (oI x1)]) (QcI w Q) 0 0 (wA w) := by
  refine Met.ofW (cc := cX5_costOf) (maxL := 2) (ret := (some .int)) (by decide) rfl ?_
  intro p e st m args below meth c s₁ B hml hv
  obtain ⟨hargs, hW, hT⟩ := hv
  have X : CallFix p m c cX5_costOf 2 st _ lw_all RX5 := ⟨B.exec, B.bytes, hml, findClass_of_methodNamed B.named, fun w h => atoms_spec (ws := ws_ yX5_costOf cX5_costOf 2 (some .int)) B.pre w (List.mem_cons_of_mem _ h)⟩
  have hr := B.returns
  have hlk := B.notSynchronized
  have hS : va_S (wA w) st.heap st.heap [] := va_S.rf
  have vl3_o : vl w 3 o := hV.hv 3 rfl ⟨by omega, by show _ < (2 : Int); omega⟩
  have vl5_o : vl w 5 o := hV.hv 5 rfl ⟨by omega, by show _ < (2 : Int); omega⟩
  have hl := lv_entry ([.ref (wad w 3 o), .int (oI x1)]) (n := 2) (Nat.le_of_ble_eq_true rfl)
  have hfr := lg_entry_eq m ([.ref (wad w 3 o), .int (oI x1)]) 2
  rw [← hargs] at hfr
  rw [hfr]
  generalize (lg_sl ([.ref (wad w 3 o), .int (oI x1)]) ++ List.replicate (2 - (lg_sl ([.ref (wad w 3 o), .int (oI x1)])).length) Slot.unset).toArray = ls at hl ⊢
  have hl : lv_has ls 2 [(0, .ref (wad w 3 o)), (1, .int (oI x1))] := hl
  unfold wp_Store_costOf at h
  refine lv_iconst (v := oI 1) X.1 X.2.1 dX5_costOf_0 rfl ?_
  refine lv_iload_n X.1 X.2.1 dX5_costOf_1 rfl (lv_at hl 1 rfl) ?_
  refine lv_aload_n X.1 X.2.1 dX5_costOf_2 rfl (lv_at hl 0 rfl) ?_
  refine wg (v := .int (oI (tbl (wc w)))) X hT hW 3 35 227 vl3_o rfl rfl (by decide) rfl (by decide) in_X5 q567 rfl dX5_costOf_3 ?_
  refine w_iadd X dX5_costOf_6 ?_
  refine lv_aload_n X.1 X.2.1 dX5_costOf_7 rfl (lv_at hl 0 rfl) ?_
  refine wg (v := .ref (wad w 5 o)) X hT hW 3 1 193 vl3_o rfl rfl (by decide) rfl (by decide) in_X5 q525 rfl dX5_costOf_8 ?_
  refine wg (v := .int (oI (((wc w).2.1 - 2) * 128))) X hT hW 5 2 322 vl5_o rfl rfl (by decide) rfl (by decide) in_X7 q340 rfl dX5_costOf_11 ?_
  refine lv_sipush (v := oI 248) X.1 X.2.1 dX5_costOf_14 (by decide) ?_
  refine w_isub X dX5_costOf_17 ?_
  obtain ⟨hz0, h⟩ := h
  refine w_idiv X (w32_r _) (w32_r _) hz0 dX5_costOf_18 ?_
  refine w_iadd X dX5_costOf_19 ?_
  exact wret_I X hr hlk hW hS (w32_r _) h dX5_costOf_20
/-! Store.serial()J -/
set_option maxHeartbeats 4000000 in
set_option maxRecDepth 100000 in
theorem met_Store_serial (l : Launch) {w : Wp} (hV : Hvl w) (o : Int) (Q : Int → St → Prop) (σ : St) (ho : 0 ≤ o ∧ o < 2) (h : wp_Store_serial (wc w) (wtv w) o Q σ) : Met l yX5_serial (ws_ yX5_serial cX5_serial 1 (some .long)) rm_Store_serial (PcW w σ [.ref (wad w 3 o)]) (QcJ w Q) 0 0 (wA w) := by
  refine Met.ofW (cc := cX5_serial) (maxL := 1) (ret := (some .long)) (by decide) rfl ?_
  intro p e st m args below meth c s₁ B hml hv
  obtain ⟨hargs, hW, hT⟩ := hv
  have X : CallFix p m c cX5_serial 1 st _ lw_all RX5 := ⟨B.exec, B.bytes, hml, findClass_of_methodNamed B.named, fun w h => atoms_spec (ws := ws_ yX5_serial cX5_serial 1 (some .long)) B.pre w (List.mem_cons_of_mem _ h)⟩
  have hr := B.returns
  have hlk := B.notSynchronized
  have hS : va_S (wA w) st.heap st.heap [] := va_S.rf
  have vl3_o : vl w 3 o := hV.hv 3 rfl ⟨by omega, by show _ < (2 : Int); omega⟩
  have hl := lv_entry ([.ref (wad w 3 o)]) (n := 1) (Nat.le_of_ble_eq_true rfl)
  have hfr := lg_entry_eq m ([.ref (wad w 3 o)]) 1
  rw [← hargs] at hfr
  rw [hfr]
  generalize (lg_sl ([.ref (wad w 3 o)]) ++ List.replicate (1 - (lg_sl ([.ref (wad w 3 o)])).length) Slot.unset).toArray = ls at hl ⊢
  have hl : lv_has ls 1 [(0, .ref (wad w 3 o))] := hl
  unfold wp_Store_serial at h
  refine lv_aload_n X.1 X.2.1 dX5_serial_0 rfl (lv_at hl 0 rfl) ?_
  refine lv_dup X.1 X.2.1 dX5_serial_1 rfl ?_
  refine wg (v := .long (oL (gI σ 202 o))) X hT hW 3 10 202 vl3_o rfl rfl (by decide) rfl (by decide) in_X5 q536 rfl dX5_serial_2 ?_
  refine lv_lconst (v := oL 1) X.1 X.2.1 dX5_serial_5 (by decide) ?_
  refine w_ladd X dX5_serial_6 ?_
  refine lv_dup2_x1_2 X.1 X.2.1 dX5_serial_7 rfl rfl ?_
  refine wput (z := w64 ((gI σ 202 o) + 1)) X hT hW hS 3 10 202 vl3_o rfl rfl (by decide) rfl (by decide) in_X5 tyX5 tyX5_ok nmX5 q536 rfl rfl (w64_r _) (fv1 w rfl) rfl rfl dX5_serial_8 (fun H locs hN hS => ?_)
  obtain ⟨σ_2, eσ_2⟩ : ∃ x, x = sI σ 202 o (w64 ((gI σ 202 o) + 1)) := ⟨_, rfl⟩
  have hWσ_2 : Wo w σ_2 H := eσ_2 ▸ hN
  have h := h σ_2 eσ_2
  clear hN
  exact wret_J X hr hlk hWσ_2 hS (w64_r _) h dX5_serial_11
/-! Store.room(LNandHouse$Writer;I)V -/
set_option maxHeartbeats 4000000 in
set_option maxRecDepth 100000 in
theorem wk_Store_room_b48 {p : Program} {l : Launch} {e : Env} {st : State} {m : MethodId} {args : Array Value} {below : List Frame} {meth : Method} {c : Code} {w : Wp} {o : Int} {x1 : Int} {x2 : Int} {Q : St → Prop} (X : CallFix p m c cX5_room 3 st args lw_all RX5) (hr : meth.sig.returnType = none) (hlk : meth.locks = false) (hT : Tb w st) (hV : Hvl w) (ho : 0 ≤ o ∧ o < 2) (hx1 : 0 ≤ x1 ∧ x1 < 6) (rx2 : rI x2) : ∀ (t0 t1 : Int) (σ : St) (H : Heap) (locs : List Loc) (ls : Array Slot), rZ t0 → rI t1 → lv_has ls 3 [] → Wo w σ H → va_S (wA w) st.heap H locs → wp_Store_room_b48 (wc w) (wtv w) o x1 x2 Q t0 t1 σ → W p l e (headSpec (ws_ yX5_room cX5_room 3 none) rm_Store_room).room st m args below meth c H locs 0 0 (MQ below (QcV w Q) args st 0 0 (wA w)) (F0 m 48 ls [.int (oI t0), .int (oI t1), .ref (wad w 325 o)]) := by
  have vl325_o : vl w 325 o := hV.hv 325 rfl ⟨by omega, by show _ < (2 : Int); omega⟩
  intro t0 t1 σ H locs ls rt0 rt1 hl hW hS h
  unfold wp_Store_room_b48 at h
  obtain ⟨bi, h⟩ := h
  refine w_zast (n := ((wc w).1 - 6)) X hT hW hS 325 vl325_o (by decide) rfl rfl bi rt0 dX5_room_48 (fun H locs hN hS => ?_)
  obtain ⟨σ_10, eσ_10⟩ : ∃ x, x = sA σ 325 o t1 t0 := ⟨_, rfl⟩
  have hWσ_10 : Wo w σ_10 H := eσ_10 ▸ hN
  have h := h σ_10 eσ_10
  clear hN
  exact wret_V X hr hlk hWσ_10 hS h dX5_room_49
set_option maxHeartbeats 4000000 in
set_option maxRecDepth 100000 in
theorem met_Store_room (l : Launch) {w : Wp} (hV : Hvl w) (o : Int) (x1 : Int) (x2 : Int) (Q : St → Prop) (σ : St) (ho : 0 ≤ o ∧ o < 2) (hx1 : 0 ≤ x1 ∧ x1 < 6) (rx2 : rI x2) (h : wp_Store_room (wc w) (wtv w) o x1 x2 Q σ) : Met l yX5_room (ws_ yX5_room cX5_room 3 none) rm_Store_room (PcW w σ [.ref (wad w 3 o), .ref (wad w 7 x1), .int (oI x2)]) (QcV w Q) 0 0 (wA w) := by
  refine Met.ofW (cc := cX5_room) (maxL := 3) (ret := none) (by decide) rfl ?_
  intro p e st m args below meth c s₁ B hml hv
  obtain ⟨hargs, hW, hT⟩ := hv
  have X : CallFix p m c cX5_room 3 st _ lw_all RX5 := ⟨B.exec, B.bytes, hml, findClass_of_methodNamed B.named, fun w h => atoms_spec (ws := ws_ yX5_room cX5_room 3 none) B.pre w (List.mem_cons_of_mem _ h)⟩
  have hr := B.returns
  have hlk := B.notSynchronized
  have hS : va_S (wA w) st.heap st.heap [] := va_S.rf
  have vl3_o : vl w 3 o := hV.hv 3 rfl ⟨by omega, by show _ < (2 : Int); omega⟩
  have vl325_o : vl w 325 o := hV.hv 325 rfl ⟨by omega, by show _ < (2 : Int); omega⟩
  have vl5_o : vl w 5 o := hV.hv 5 rfl ⟨by omega, by show _ < (2 : Int); omega⟩
  have vl7_o_4 : vl w 7 (o + 4) := hV.hv 7 rfl ⟨by omega, by show _ < (6 : Int); omega⟩
  have vl7_x1 : vl w 7 x1 := hV.hv 7 rfl ⟨by omega, by show _ < (6 : Int); omega⟩
  have hl := lv_entry ([.ref (wad w 3 o), .ref (wad w 7 x1), .int (oI x2)]) (n := 3) (Nat.le_of_ble_eq_true rfl)
  have hfr := lg_entry_eq m ([.ref (wad w 3 o), .ref (wad w 7 x1), .int (oI x2)]) 3
  rw [← hargs] at hfr
  rw [hfr]
  generalize (lg_sl ([.ref (wad w 3 o), .ref (wad w 7 x1), .int (oI x2)]) ++ List.replicate (3 - (lg_sl ([.ref (wad w 3 o), .ref (wad w 7 x1), .int (oI x2)])).length) Slot.unset).toArray = ls at hl ⊢
  have hl : lv_has ls 3 [(0, .ref (wad w 3 o)), (1, .ref (wad w 7 x1)), (2, .int (oI x2))] := hl
  unfold wp_Store_room at h
  refine lv_aload_n X.1 X.2.1 dX5_room_0 rfl (lv_at hl 1 rfl) ?_
  refine lv_iload_n X.1 X.2.1 dX5_room_1 rfl (lv_at hl 2 rfl) ?_
  refine wr_Z (rV (As := [.int (oI x2)]) (rest := []) X hT hW hS (met_Writer_takes l (w := w) hV x1 x2 _ σ (by omega) rx2 h) (cwV 1 X.2.2.2.2 (lw_V q987 q988 q989 q141 q990) rfl rfl rfl (by decide +kernel) ⟨Nat.le_of_ble_eq_true rfl, Nat.le_of_ble_eq_true rfl⟩) vl7_x1 (by decide) rfl rfl hl.1 rfl (by first | exact Nat.le_of_ble_eq_true rfl | simp [catK, catI, catR, catL]) dX5_room_2 ⟨Nat.le_refl _, Nat.le_refl _⟩) hS (fun r_11 σ_12 H locs rr_11 rkσ_12 h hWσ_12 hS => ?_)
  have h := h rr_11 rkσ_12
  refine w_if_eq (tgt := 9) X rr_11.i dX5_room_5 (by decide) (fun hc => ?_) (fun hc => ?_)
  · have h := h.1 hc
    refine lv_aload_n X.1 X.2.1 dX5_room_9 rfl (lv_at hl 1 rfl) ?_
    refine wr_V (rV (As := []) (rest := []) X hT hWσ_12 hS (met_Writer_close l (w := w) hV x1 _ σ_12 (by omega) h) (cwV 0 X.2.2.2.2 (lw_V q991 q992 q993 q141 q994) rfl rfl rfl (by decide +kernel) ⟨Nat.le_of_ble_eq_true rfl, Nat.le_of_ble_eq_true rfl⟩) vl7_x1 (by decide) rfl rfl hl.1 rfl (by first | exact Nat.le_of_ble_eq_true rfl | simp [catK, catI, catR, catL]) dX5_room_10 ⟨Nat.le_refl _, Nat.le_refl _⟩) hS (fun σ_14 H locs rkσ_14 h hWσ_14 hS => ?_)
    have h := h rkσ_14
    refine lv_aload_n X.1 X.2.1 dX5_room_13 rfl (lv_at hl 1 rfl) ?_
    refine lv_aload_n X.1 X.2.1 dX5_room_14 rfl (lv_at hl 0 rfl) ?_
    refine wg (v := .ref (wad w 5 o)) X hT hWσ_14 3 1 193 vl3_o rfl rfl (by decide) rfl (by decide) in_X5 q525 rfl dX5_room_15 ?_
    refine wr_I (rV (As := []) (rest := [.ref (wad w 7 x1)]) X hT hWσ_14 hS (met_Space_fetch l (w := w) hV o _ σ_14 (by omega) h) (cwV 0 X.2.2.2.2 (lw_V q771 q772 q773 q138 q774) rfl rfl rfl (by decide +kernel) ⟨Nat.le_of_ble_eq_true rfl, Nat.le_of_ble_eq_true rfl⟩) vl5_o (by decide) rfl rfl hl.1 rfl (by first | exact Nat.le_of_ble_eq_true rfl | simp [catK, catI, catR, catL]) dX5_room_18 ⟨Nat.le_refl _, Nat.le_refl _⟩) hS (fun r_15 σ_16 H locs rr_15 rkσ_16 h hWσ_16 hS => ?_)
    have h := h rr_15 rkσ_16
    refine wr_V (rV (As := [.int (oI r_15)]) (rest := []) X hT hWσ_16 hS (met_Writer_open l (w := w) hV x1 r_15 _ σ_16 (by omega) rr_15 h) (cwV 1 X.2.2.2.2 (lw_V q852 q853 q854 q141 q855) rfl rfl rfl (by decide +kernel) ⟨Nat.le_of_ble_eq_true rfl, Nat.le_of_ble_eq_true rfl⟩) vl7_x1 (by decide) rfl rfl hl.1 rfl (by first | exact Nat.le_of_ble_eq_true rfl | simp [catK, catI, catR, catL]) dX5_room_21 ⟨Nat.le_refl _, Nat.le_refl _⟩) hS (fun σ_18 H locs rkσ_18 h hWσ_18 hS => ?_)
    have h := h rkσ_18
    refine lv_aload_n X.1 X.2.1 dX5_room_24 rfl (lv_at hl 0 rfl) ?_
    refine wg (v := .ref (wad w 5 o)) X hT hWσ_18 3 1 193 vl3_o rfl rfl (by decide) rfl (by decide) in_X5 q525 rfl dX5_room_25 ?_
    refine wg (v := .ref (wad w 325 o)) X hT hWσ_18 5 5 325 vl5_o rfl rfl (by decide) rfl (by decide) in_X7 q349 rfl dX5_room_28 ?_
    refine lv_aload_n X.1 X.2.1 dX5_room_31 rfl (lv_at hl 1 rfl) ?_
    refine wg (v := .int (oI (gI σ_18 451 x1))) X hT hWσ_18 7 3 451 vl7_x1 rfl rfl (by decide) rfl (by decide) in_X10 q509 rfl dX5_room_32 ?_
    refine lv_aload_n X.1 X.2.1 dX5_room_35 rfl (lv_at hl 1 rfl) ?_
    refine lv_aload_n X.1 X.2.1 dX5_room_36 rfl (lv_at hl 0 rfl) ?_
    refine wg (v := .ref (wad w 7 (o + 4))) X hT hWσ_18 3 5 197 vl3_o rfl rfl (by decide) rfl (by decide) in_X5 q530 rfl dX5_room_37 ?_
    refine w_oacmp_ne (tgt := 47) X hWσ_18 vl7_x1 vl7_o_4 dX5_room_40 (by decide) (fun hc => ?_) (fun hc => ?_)
    · have h := h.1 hc
      refine lv_iconst (v := oI 0) X.1 X.2.1 dX5_room_47 rfl ?_
      exact wk_Store_room_b48 X hr hlk hT hV ho hx1 rx2 0 (gI σ_18 451 x1) σ_18 _ _ _ rZ_0 (hWσ_18.r.i 451 x1 rfl) (lv_sub hl [] rfl) hWσ_18 hS h
    · have h := h.2 hc
      refine lv_iconst (v := oI 1) X.1 X.2.1 dX5_room_43 rfl ?_
      refine lv_goto (tgt := 48) X.1 X.2.1 dX5_room_44 (by decide) ?_
      exact wk_Store_room_b48 X hr hlk hT hV ho hx1 rx2 1 (gI σ_18 451 x1) σ_18 _ _ _ rZ_1 (hWσ_18.r.i 451 x1 rfl) (lv_sub hl [] rfl) hWσ_18 hS h
  · have h := h.2 hc
    exact wret_V X hr hlk hWσ_12 hS h dX5_room_8
/-! Store.writeKnot(LNandHouse$Knot;)V -/
set_option maxHeartbeats 4000000 in
set_option maxRecDepth 100000 in
theorem wk_Store_writeKnot_b172 {p : Program} {l : Launch} {e : Env} {st : State} {m : MethodId} {args : Array Value} {below : List Frame} {meth : Method} {c : Code} {w : Wp} {o : Int} {x1 : Int} {Q : St → Prop} (X : CallFix p m c cX5_writeKnot 4 st args lw_all RX5) (hr : meth.sig.returnType = none) (hlk : meth.locks = false) (hT : Tb w st) (hV : Hvl w) (ho : 0 ≤ o ∧ o < 2) (rx1 : rK x1) (K38 : Int → St → Prop) (hK38 : ∀ (y2 : Int) (σ : St) (H : Heap) (locs : List Loc) (ls : Array Slot), rI y2 → lv_has ls 4 [(0, .ref (wad w 3 o)), (1, va_rf (knO w x1)), (2, .int (oI y2))] → Wo w σ H → va_S (wA w) st.heap H locs → K38 y2 σ → W p l e (headSpec (ws_ yX5_writeKnot cX5_writeKnot 4 none) rm_Store_writeKnot).room st m args below meth c H locs 0 0 (MQ below (QcV w Q) args st 0 0 (wA w)) (F0 m 38 ls [])) : ∀ (y2 t0 t1 : Int) (σ : St) (H : Heap) (locs : List Loc) (ls : Array Slot), rI y2 → rI t0 → rI t1 → lv_has ls 4 [(0, .ref (wad w 3 o)), (1, va_rf (knO w x1)), (2, .int (oI y2))] → Wo w σ H → va_S (wA w) st.heap H locs → wp_Store_writeKnot_b172 (wc w) (wtv w) o x1 Q K38 y2 t0 t1 σ → W p l e (headSpec (ws_ yX5_writeKnot cX5_writeKnot 4 none) rm_Store_writeKnot).room st m args below meth c H locs 0 0 (MQ below (QcV w Q) args st 0 0 (wA w)) (F0 m 172 ls [.int (oI t0), .int (oI t1), .ref (wad w 8 (o + 2))]) := by
  have vl8_o_2 : vl w 8 (o + 2) := hV.hv 8 rfl ⟨by omega, by show _ < (8 : Int); omega⟩
  intro y2 t0 t1 σ H locs ls ry2 rt0 rt1 hl hW hS h
  unfold wp_Store_writeKnot_b172 at h
  refine wr_R (rV (As := [.int (oI t1), .int (oI t0)]) (rest := []) X hT hW hS (met_Row_put l (w := w) hV (o + 2) t1 t0 _ σ (by omega) rt1 rt0 h) (cwV 2 X.2.2.2.2 (lw_V q747 q748 q749 q132 q750) rfl rfl rfl (by decide +kernel) ⟨Nat.le_of_ble_eq_true rfl, Nat.le_of_ble_eq_true rfl⟩) vl8_o_2 (by decide) rfl rfl hl.1 rfl (by first | exact Nat.le_of_ble_eq_true rfl | simp [catK, catI, catR, catL]) dX5_writeKnot_172 ⟨Nat.le_refl _, Nat.le_refl _⟩) hS (fun σ_128 H locs rkσ_128 h hWσ_128 hS => ?_)
  have h := h rkσ_128
  refine lv_pop X.1 X.2.1 dX5_writeKnot_175 rfl ?_
  obtain ⟨y2_129, ey2_129⟩ : ∃ y : Int, y = w32 (y2 + 1) := ⟨_, rfl⟩
  have h := h y2_129 ey2_129
  have ry2_129 : rI y2_129 := by rw [ey2_129]; exact w32_r _
  refine lv_iinc (v := oI y2_129) (lv' := [(2, .int (oI y2_129)), (0, .ref (wad w 3 o)), (1, va_rf (knO w x1))]) X.1 X.2.1 dX5_writeKnot_176 hl (k := 2) rfl (by rw [ey2_129]; exact oI_add _ _) (by decide) (by first | rfl | simp [catK, catI, catR, catL]) (fun ls hl => ?_)
  refine lv_goto (tgt := 38) X.1 X.2.1 dX5_writeKnot_179 (by decide) ?_
  exact hK38 y2_129 σ_128 _ _ _ ry2_129 (lv_sub hl [1, 2, 0] rfl) hWσ_128 hS h
set_option maxHeartbeats 4000000 in
set_option maxRecDepth 100000 in
theorem wk_Store_writeKnot_b145 {p : Program} {l : Launch} {e : Env} {st : State} {m : MethodId} {args : Array Value} {below : List Frame} {meth : Method} {c : Code} {w : Wp} {o : Int} {x1 : Int} {Q : St → Prop} (X : CallFix p m c cX5_writeKnot 4 st args lw_all RX5) (hr : meth.sig.returnType = none) (hlk : meth.locks = false) (hT : Tb w st) (hV : Hvl w) (ho : 0 ≤ o ∧ o < 2) (rx1 : rK x1) (K38 : Int → St → Prop) (hK38 : ∀ (y2 : Int) (σ : St) (H : Heap) (locs : List Loc) (ls : Array Slot), rI y2 → lv_has ls 4 [(0, .ref (wad w 3 o)), (1, va_rf (knO w x1)), (2, .int (oI y2))] → Wo w σ H → va_S (wA w) st.heap H locs → K38 y2 σ → W p l e (headSpec (ws_ yX5_writeKnot cX5_writeKnot 4 none) rm_Store_writeKnot).room st m args below meth c H locs 0 0 (MQ below (QcV w Q) args st 0 0 (wA w)) (F0 m 38 ls [])) : ∀ (y2 y3 t0 t1 : Int) (σ : St) (H : Heap) (locs : List Loc) (ls : Array Slot), rI y2 → rK y3 → rI t0 → rI t1 → lv_has ls 4 [(0, .ref (wad w 3 o)), (1, va_rf (knO w x1)), (2, .int (oI y2)), (3, va_rf (knO w y3))] → Wo w σ H → va_S (wA w) st.heap H locs → wp_Store_writeKnot_b145 (wc w) (wtv w) o x1 Q K38 y2 y3 t0 t1 σ → W p l e (headSpec (ws_ yX5_writeKnot cX5_writeKnot 4 none) rm_Store_writeKnot).room st m args below meth c H locs 0 0 (MQ below (QcV w Q) args st 0 0 (wA w)) (F0 m 145 ls [.int (oI t0), .int (oI t1), .ref (wad w 8 (o + 2))]) := by
  have vl8_o_2 : vl w 8 (o + 2) := hV.hv 8 rfl ⟨by omega, by show _ < (8 : Int); omega⟩
  intro y2 y3 t0 t1 σ H locs ls ry2 ry3 rt0 rt1 hl hW hS h
  unfold wp_Store_writeKnot_b145 at h
  refine wr_R (rV (As := [.int (oI t1), .int (oI t0)]) (rest := []) X hT hW hS (met_Row_put l (w := w) hV (o + 2) t1 t0 _ σ (by omega) rt1 rt0 h) (cwV 2 X.2.2.2.2 (lw_V q747 q748 q749 q132 q750) rfl rfl rfl (by decide +kernel) ⟨Nat.le_of_ble_eq_true rfl, Nat.le_of_ble_eq_true rfl⟩) vl8_o_2 (by decide) rfl rfl hl.1 rfl (by first | exact Nat.le_of_ble_eq_true rfl | simp [catK, catI, catR, catL]) dX5_writeKnot_145 ⟨Nat.le_refl _, Nat.le_refl _⟩) hS (fun σ_131 H locs rkσ_131 h hWσ_131 hS => ?_)
  have h := h rkσ_131
  refine lv_bipush (v := oI 32) X.1 X.2.1 dX5_writeKnot_148 (by decide) ?_
  refine lv_bipush (v := oI 28) X.1 X.2.1 dX5_writeKnot_150 (by decide) ?_
  refine lv_iload_n X.1 X.2.1 dX5_writeKnot_152 rfl (lv_at hl 2 rfl) ?_
  refine w_imul X dX5_writeKnot_153 ?_
  refine w_iadd X dX5_writeKnot_154 ?_
  refine w_kload_n (w := w) X dX5_writeKnot_155 rfl (lv_at hl 3 rfl) ?_
  refine w_ifnonnull (w := w) (tgt := 168) X dX5_writeKnot_156 (by decide) (fun hc => ?_) (fun hc => ?_)
  · have h := h.1 hc
    refine w_kload_n (w := w) X dX5_writeKnot_168 rfl (lv_at hl 3 rfl) ?_
    obtain ⟨hz_132, h⟩ := h
    rw [knR hz_132]
    refine wg (v := .int (oI (gI σ_131 587 y3))) X hT hWσ_131 9 11 587 (hV.hv 9 rfl ⟨hz_132, ry3.2⟩) rfl rfl (by decide) rfl (by decide) in_X9 q416 rfl dX5_writeKnot_169 ?_
    exact wk_Store_writeKnot_b172 X hr hlk hT hV ho rx1 K38 hK38 y2 (gI σ_131 587 y3) (w32 (32 + (w32 (28 * y2)))) σ_131 _ _ _ ry2 (hWσ_131.r.i 587 y3 rfl) (w32_r _) (lv_sub hl [0, 1, 2] rfl) hWσ_131 hS h
  · have h := h.2 hc
    refine w_kload_n (w := w) X dX5_writeKnot_159 rfl (lv_at hl 1 rfl) ?_
    obtain ⟨hz_133, h⟩ := h
    rw [knR hz_133]
    refine wg (v := .ref (wad w 582 x1)) X hT hWσ_131 9 6 582 (hV.hv 9 rfl ⟨hz_133, rx1.2⟩) rfl rfl (by decide) rfl (by decide) in_X9 q403 rfl dX5_writeKnot_160 ?_
    refine lv_iload_n X.1 X.2.1 dX5_writeKnot_163 rfl (lv_at hl 2 rfl) ?_
    obtain ⟨bi, h⟩ := h
    refine w_iald (n := 9) X hT hWσ_131 582 (hV.hv 582 rfl ⟨hz_133, rx1.2⟩) (by decide) rfl rfl bi dX5_writeKnot_164 ?_
    refine lv_goto (tgt := 172) X.1 X.2.1 dX5_writeKnot_165 (by decide) ?_
    exact wk_Store_writeKnot_b172 X hr hlk hT hV ho rx1 K38 hK38 y2 (gA σ_131 582 x1 y2) (w32 (32 + (w32 (28 * y2)))) σ_131 _ _ _ ry2 (hWσ_131.r.ai 582 x1 y2 rfl) (w32_r _) (lv_sub hl [0, 1, 2] rfl) hWσ_131 hS h
set_option maxHeartbeats 4000000 in
set_option maxRecDepth 100000 in
theorem wk_Store_writeKnot_b118 {p : Program} {l : Launch} {e : Env} {st : State} {m : MethodId} {args : Array Value} {below : List Frame} {meth : Method} {c : Code} {w : Wp} {o : Int} {x1 : Int} {Q : St → Prop} (X : CallFix p m c cX5_writeKnot 4 st args lw_all RX5) (hr : meth.sig.returnType = none) (hlk : meth.locks = false) (hT : Tb w st) (hV : Hvl w) (ho : 0 ≤ o ∧ o < 2) (rx1 : rK x1) (K38 : Int → St → Prop) (hK38 : ∀ (y2 : Int) (σ : St) (H : Heap) (locs : List Loc) (ls : Array Slot), rI y2 → lv_has ls 4 [(0, .ref (wad w 3 o)), (1, va_rf (knO w x1)), (2, .int (oI y2))] → Wo w σ H → va_S (wA w) st.heap H locs → K38 y2 σ → W p l e (headSpec (ws_ yX5_writeKnot cX5_writeKnot 4 none) rm_Store_writeKnot).room st m args below meth c H locs 0 0 (MQ below (QcV w Q) args st 0 0 (wA w)) (F0 m 38 ls [])) : ∀ (y2 y3 t0 t1 : Int) (σ : St) (H : Heap) (locs : List Loc) (ls : Array Slot), rI y2 → rK y3 → rI t0 → rI t1 → lv_has ls 4 [(0, .ref (wad w 3 o)), (1, va_rf (knO w x1)), (2, .int (oI y2)), (3, va_rf (knO w y3))] → Wo w σ H → va_S (wA w) st.heap H locs → wp_Store_writeKnot_b118 (wc w) (wtv w) o x1 Q K38 y2 y3 t0 t1 σ → W p l e (headSpec (ws_ yX5_writeKnot cX5_writeKnot 4 none) rm_Store_writeKnot).room st m args below meth c H locs 0 0 (MQ below (QcV w Q) args st 0 0 (wA w)) (F0 m 118 ls [.int (oI t0), .int (oI t1), .ref (wad w 8 (o + 2))]) := by
  have vl8_o_2 : vl w 8 (o + 2) := hV.hv 8 rfl ⟨by omega, by show _ < (8 : Int); omega⟩
  intro y2 y3 t0 t1 σ H locs ls ry2 ry3 rt0 rt1 hl hW hS h
  unfold wp_Store_writeKnot_b118 at h
  refine wr_R (rV (As := [.int (oI t1), .int (oI t0)]) (rest := []) X hT hW hS (met_Row_put l (w := w) hV (o + 2) t1 t0 _ σ (by omega) rt1 rt0 h) (cwV 2 X.2.2.2.2 (lw_V q747 q748 q749 q132 q750) rfl rfl rfl (by decide +kernel) ⟨Nat.le_of_ble_eq_true rfl, Nat.le_of_ble_eq_true rfl⟩) vl8_o_2 (by decide) rfl rfl hl.1 rfl (by first | exact Nat.le_of_ble_eq_true rfl | simp [catK, catI, catR, catL]) dX5_writeKnot_118 ⟨Nat.le_refl _, Nat.le_refl _⟩) hS (fun σ_135 H locs rkσ_135 h hWσ_135 hS => ?_)
  have h := h rkσ_135
  refine lv_bipush (v := oI 28) X.1 X.2.1 dX5_writeKnot_121 (by decide) ?_
  refine lv_bipush (v := oI 28) X.1 X.2.1 dX5_writeKnot_123 (by decide) ?_
  refine lv_iload_n X.1 X.2.1 dX5_writeKnot_125 rfl (lv_at hl 2 rfl) ?_
  refine w_imul X dX5_writeKnot_126 ?_
  refine w_iadd X dX5_writeKnot_127 ?_
  refine w_kload_n (w := w) X dX5_writeKnot_128 rfl (lv_at hl 3 rfl) ?_
  refine w_ifnonnull (w := w) (tgt := 141) X dX5_writeKnot_129 (by decide) (fun hc => ?_) (fun hc => ?_)
  · have h := h.1 hc
    refine w_kload_n (w := w) X dX5_writeKnot_141 rfl (lv_at hl 3 rfl) ?_
    obtain ⟨hz_136, h⟩ := h
    rw [knR hz_136]
    refine wg (v := .int (oI (gI σ_135 586 y3))) X hT hWσ_135 9 10 586 (hV.hv 9 rfl ⟨hz_136, ry3.2⟩) rfl rfl (by decide) rfl (by decide) in_X9 q413 rfl dX5_writeKnot_142 ?_
    exact wk_Store_writeKnot_b145 X hr hlk hT hV ho rx1 K38 hK38 y2 y3 (gI σ_135 586 y3) (w32 (28 + (w32 (28 * y2)))) σ_135 _ _ _ ry2 ry3 (hWσ_135.r.i 586 y3 rfl) (w32_r _) (lv_sub hl [0, 1, 2, 3] rfl) hWσ_135 hS h
  · have h := h.2 hc
    refine w_kload_n (w := w) X dX5_writeKnot_132 rfl (lv_at hl 1 rfl) ?_
    obtain ⟨hz_137, h⟩ := h
    rw [knR hz_137]
    refine wg (v := .ref (wad w 581 x1)) X hT hWσ_135 9 5 581 (hV.hv 9 rfl ⟨hz_137, rx1.2⟩) rfl rfl (by decide) rfl (by decide) in_X9 q400 rfl dX5_writeKnot_133 ?_
    refine lv_iload_n X.1 X.2.1 dX5_writeKnot_136 rfl (lv_at hl 2 rfl) ?_
    obtain ⟨bi, h⟩ := h
    refine w_iald (n := 9) X hT hWσ_135 581 (hV.hv 581 rfl ⟨hz_137, rx1.2⟩) (by decide) rfl rfl bi dX5_writeKnot_137 ?_
    refine lv_goto (tgt := 145) X.1 X.2.1 dX5_writeKnot_138 (by decide) ?_
    exact wk_Store_writeKnot_b145 X hr hlk hT hV ho rx1 K38 hK38 y2 y3 (gA σ_135 581 x1 y2) (w32 (28 + (w32 (28 * y2)))) σ_135 _ _ _ ry2 ry3 (hWσ_135.r.ai 581 x1 y2 rfl) (w32_r _) (lv_sub hl [0, 1, 2, 3] rfl) hWσ_135 hS h
set_option maxHeartbeats 4000000 in
set_option maxRecDepth 100000 in
theorem wk_Store_writeKnot_L38B {p : Program} {l : Launch} {e : Env} {st : State} {m : MethodId} {args : Array Value} {below : List Frame} {meth : Method} {c : Code} {w : Wp} {o : Int} {x1 : Int} {Q : St → Prop} (X : CallFix p m c cX5_writeKnot 4 st args lw_all RX5) (hr : meth.sig.returnType = none) (hlk : meth.locks = false) (hT : Tb w st) (hV : Hvl w) (ho : 0 ≤ o ∧ o < 2) (rx1 : rK x1) (K38 : Int → St → Prop) (hK38 : ∀ (y2 : Int) (σ : St) (H : Heap) (locs : List Loc) (ls : Array Slot), rI y2 → lv_has ls 4 [(0, .ref (wad w 3 o)), (1, va_rf (knO w x1)), (2, .int (oI y2))] → Wo w σ H → va_S (wA w) st.heap H locs → K38 y2 σ → W p l e (headSpec (ws_ yX5_writeKnot cX5_writeKnot 4 none) rm_Store_writeKnot).room st m args below meth c H locs 0 0 (MQ below (QcV w Q) args st 0 0 (wA w)) (F0 m 38 ls [])) : ∀ (y2 : Int) (σ : St) (H : Heap) (locs : List Loc) (ls : Array Slot), rI y2 → lv_has ls 4 [(0, .ref (wad w 3 o)), (1, va_rf (knO w x1)), (2, .int (oI y2))] → Wo w σ H → va_S (wA w) st.heap H locs → wp_Store_writeKnot_L38 (wc w) (wtv w) o x1 Q K38 y2 σ → W p l e (headSpec (ws_ yX5_writeKnot cX5_writeKnot 4 none) rm_Store_writeKnot).room st m args below meth c H locs 0 0 (MQ below (QcV w Q) args st 0 0 (wA w)) (F0 m 38 ls []) := by
  have vl3_o : vl w 3 o := hV.hv 3 rfl ⟨by omega, by show _ < (2 : Int); omega⟩
  have vl324_o : vl w 324 o := hV.hv 324 rfl ⟨by omega, by show _ < (2 : Int); omega⟩
  have vl5_o : vl w 5 o := hV.hv 5 rfl ⟨by omega, by show _ < (2 : Int); omega⟩
  have vl512_o_2 : vl w 512 (o + 2) := hV.hv 512 rfl ⟨by omega, by show _ < (8 : Int); omega⟩
  have vl7_o_4 : vl w 7 (o + 4) := hV.hv 7 rfl ⟨by omega, by show _ < (6 : Int); omega⟩
  have vl8_o_2 : vl w 8 (o + 2) := hV.hv 8 rfl ⟨by omega, by show _ < (8 : Int); omega⟩
  intro y2 σ H locs ls ry2 hl hW hS h
  unfold wp_Store_writeKnot_L38 at h
  refine lv_iload_n X.1 X.2.1 dX5_writeKnot_38 rfl (lv_at hl 2 rfl) ?_
  refine w_kload_n (w := w) X dX5_writeKnot_39 rfl (lv_at hl 1 rfl) ?_
  obtain ⟨hz_138, h⟩ := h
  rw [knR hz_138]
  refine wg (v := .int (oI (gI σ 577 x1))) X hT hW 9 1 577 (hV.hv 9 rfl ⟨hz_138, rx1.2⟩) rfl rfl (by decide) rfl (by decide) in_X9 q388 rfl dX5_writeKnot_40 ?_
  refine w_icmp_ge (tgt := 182) X ry2 (hW.r.i 577 x1 rfl) dX5_writeKnot_43 (by decide) (fun hc => ?_) (fun hc => ?_)
  · have h := h.1 hc
    refine lv_aload_n X.1 X.2.1 dX5_writeKnot_182 rfl (lv_at hl 0 rfl) ?_
    refine wg (v := .ref (wad w 8 (o + 2))) X hT hW 3 7 199 vl3_o rfl rfl (by decide) rfl (by decide) in_X5 q533 rfl dX5_writeKnot_183 ?_
    refine lv_aload_n X.1 X.2.1 dX5_writeKnot_186 rfl (lv_at hl 0 rfl) ?_
    refine wr_J (rV (As := []) (rest := [.ref (wad w 8 (o + 2))]) X hT hW hS (met_Store_serial l (w := w) hV o _ σ (by omega) h) (cwV 0 X.2.2.2.2 (lw_V q751 q752 q753 q136 q754) rfl rfl rfl (by decide +kernel) ⟨Nat.le_of_ble_eq_true rfl, Nat.le_of_ble_eq_true rfl⟩) vl3_o (by decide) rfl rfl hl.1 rfl (by first | exact Nat.le_of_ble_eq_true rfl | simp [catK, catI, catR, catL]) dX5_writeKnot_187 ⟨Nat.le_refl _, Nat.le_refl _⟩) hS (fun r_139 σ_140 H locs rr_139 rkσ_140 h hWσ_140 hS => ?_)
    have h := h rr_139 rkσ_140
    refine lv_iconst (v := oI 1) X.1 X.2.1 dX5_writeKnot_190 rfl ?_
    refine wr_V (rV (As := [.long (oL r_139), .int (oI 1)]) (rest := []) X hT hWσ_140 hS (met_Row_close l (w := w) hV (o + 2) r_139 1 _ σ_140 (by omega) rr_139 rZ_1 h) (cwV 2 X.2.2.2.2 (lw_V q755 q756 q757 q132 q758) rfl rfl rfl (by decide +kernel) ⟨Nat.le_of_ble_eq_true rfl, Nat.le_of_ble_eq_true rfl⟩) vl8_o_2 (by decide) rfl rfl hl.1 rfl (by first | exact Nat.le_of_ble_eq_true rfl | simp [catK, catI, catR, catL]) dX5_writeKnot_191 ⟨Nat.le_refl _, Nat.le_refl _⟩) hS (fun σ_142 H locs rkσ_142 h hWσ_142 hS => ?_)
    have h := h rkσ_142
    refine lv_aload_n X.1 X.2.1 dX5_writeKnot_194 rfl (lv_at hl 0 rfl) ?_
    refine lv_aload_n X.1 X.2.1 dX5_writeKnot_195 rfl (lv_at hl 0 rfl) ?_
    refine wg (v := .ref (wad w 7 (o + 4))) X hT hWσ_142 3 5 197 vl3_o rfl rfl (by decide) rfl (by decide) in_X5 q530 rfl dX5_writeKnot_196 ?_
    refine lv_aload_n X.1 X.2.1 dX5_writeKnot_199 rfl (lv_at hl 0 rfl) ?_
    refine wg (v := .ref (wad w 8 (o + 2))) X hT hWσ_142 3 7 199 vl3_o rfl rfl (by decide) rfl (by decide) in_X5 q533 rfl dX5_writeKnot_200 ?_
    refine wg (v := .int (oI (gI σ_142 514 (o + 2)))) X hT hWσ_142 8 2 514 vl8_o_2 rfl rfl (by decide) rfl (by decide) in_X2 q172 rfl dX5_writeKnot_203 ?_
    refine wr_V (rV (As := [.ref (wad w 7 (o + 4)), .int (oI (gI σ_142 514 (o + 2)))]) (rest := []) X hT hWσ_142 hS (met_Store_room l (w := w) hV o (o + 4) (gI σ_142 514 (o + 2)) _ σ_142 (by omega) (by omega) (hWσ_142.r.i 514 (o + 2) rfl) h) (cwV 2 X.2.2.2.2 (lw_V q983 q985 qs22 q136 q986) rfl rfl rfl (by decide +kernel) ⟨Nat.le_of_ble_eq_true rfl, Nat.le_of_ble_eq_true rfl⟩) vl3_o (by decide) rfl rfl hl.1 rfl (by first | exact Nat.le_of_ble_eq_true rfl | simp [catK, catI, catR, catL]) dX5_writeKnot_206 ⟨Nat.le_refl _, Nat.le_refl _⟩) hS (fun σ_144 H locs rkσ_144 h hWσ_144 hS => ?_)
    have h := h rkσ_144
    refine w_kload_n (w := w) X dX5_writeKnot_209 rfl (lv_at hl 1 rfl) ?_
    refine lv_aload_n X.1 X.2.1 dX5_writeKnot_210 rfl (lv_at hl 0 rfl) ?_
    refine wg (v := .ref (wad w 7 (o + 4))) X hT hWσ_144 3 5 197 vl3_o rfl rfl (by decide) rfl (by decide) in_X5 q530 rfl dX5_writeKnot_211 ?_
    refine lv_aload_n X.1 X.2.1 dX5_writeKnot_214 rfl (lv_at hl 0 rfl) ?_
    refine wg (v := .ref (wad w 8 (o + 2))) X hT hWσ_144 3 7 199 vl3_o rfl rfl (by decide) rfl (by decide) in_X5 q533 rfl dX5_writeKnot_215 ?_
    refine wg (v := .ref (wad w 512 (o + 2))) X hT hWσ_144 8 0 512 vl8_o_2 rfl rfl (by decide) rfl (by decide) in_X2 q166 rfl dX5_writeKnot_218 ?_
    refine lv_iconst (v := oI 0) X.1 X.2.1 dX5_writeKnot_221 rfl ?_
    refine lv_aload_n X.1 X.2.1 dX5_writeKnot_222 rfl (lv_at hl 0 rfl) ?_
    refine wg (v := .ref (wad w 8 (o + 2))) X hT hWσ_144 3 7 199 vl3_o rfl rfl (by decide) rfl (by decide) in_X5 q533 rfl dX5_writeKnot_223 ?_
    refine wg (v := .int (oI (gI σ_144 514 (o + 2)))) X hT hWσ_144 8 2 514 vl8_o_2 rfl rfl (by decide) rfl (by decide) in_X2 q172 rfl dX5_writeKnot_226 ?_
    refine wr_I (rV (As := [.ref (wad w 512 (o + 2)), .int (oI 0), .int (oI (gI σ_144 514 (o + 2)))]) (rest := [va_rf (knO w x1)]) X hT hWσ_144 hS (met_Writer_put l (w := w) hV (o + 4) 512 (o + 2) 0 (gI σ_144 514 (o + 2)) _ σ_144 (by omega) vl512_o_2 (by decide) rfl rZ_0.i (hWσ_144.r.i 514 (o + 2) rfl) h) (cwV 3 X.2.2.2.2 (lw_V q856 q857 q858 q141 q859) rfl rfl rfl (by decide +kernel) ⟨Nat.le_of_ble_eq_true rfl, Nat.le_of_ble_eq_true rfl⟩) vl7_o_4 (by decide) rfl rfl hl.1 rfl (by first | exact Nat.le_of_ble_eq_true rfl | simp [catK, catI, catR, catL]) dX5_writeKnot_229 ⟨Nat.le_refl _, Nat.le_refl _⟩) hS (fun r_145 σ_146 H locs rr_145 rkσ_146 h hWσ_146 hS => ?_)
    have h := h rr_145 rkσ_146
    rw [knR hz_138]
    refine wput (z := r_145) X hT hWσ_146 hS 9 10 586 (hV.hv 9 rfl ⟨hz_138, rx1.2⟩) rfl rfl (by decide) rfl (by decide) in_X9 tyX9 tyX9_ok nmX9 q413 rfl rfl rr_145 (fv0 w rfl) rfl rfl dX5_writeKnot_232 (fun H locs hN hS => ?_)
    obtain ⟨σ_147, eσ_147⟩ : ∃ x, x = sI σ_146 586 x1 r_145 := ⟨_, rfl⟩
    have hWσ_147 : Wo w σ_147 H := eσ_147 ▸ hN
    have h := h σ_147 eσ_147
    clear hN
    refine w_kload_n (w := w) X dX5_writeKnot_235 rfl (lv_at hl 1 rfl) ?_
    refine lv_aload_n X.1 X.2.1 dX5_writeKnot_236 rfl (lv_at hl 0 rfl) ?_
    refine wg (v := .ref (wad w 7 (o + 4))) X hT hWσ_147 3 5 197 vl3_o rfl rfl (by decide) rfl (by decide) in_X5 q530 rfl dX5_writeKnot_237 ?_
    refine wg (v := .int (oI (gI σ_147 451 (o + 4)))) X hT hWσ_147 7 3 451 vl7_o_4 rfl rfl (by decide) rfl (by decide) in_X10 q509 rfl dX5_writeKnot_240 ?_
    rw [knR hz_138]
    refine wput (z := gI σ_147 451 (o + 4)) X hT hWσ_147 hS 9 9 585 (hV.hv 9 rfl ⟨hz_138, rx1.2⟩) rfl rfl (by decide) rfl (by decide) in_X9 tyX9 tyX9_ok nmX9 q412 rfl rfl (hWσ_147.r.i 451 (o + 4) rfl) (fv0 w rfl) rfl rfl dX5_writeKnot_243 (fun H locs hN hS => ?_)
    obtain ⟨σ_148, eσ_148⟩ : ∃ x, x = sI σ_147 585 x1 (gI σ_147 451 (o + 4)) := ⟨_, rfl⟩
    have hWσ_148 : Wo w σ_148 H := eσ_148 ▸ hN
    have h := h σ_148 eσ_148
    clear hN
    refine w_kload_n (w := w) X dX5_writeKnot_246 rfl (lv_at hl 1 rfl) ?_
    refine lv_aload_n X.1 X.2.1 dX5_writeKnot_247 rfl (lv_at hl 0 rfl) ?_
    refine wg (v := .ref (wad w 8 (o + 2))) X hT hWσ_148 3 7 199 vl3_o rfl rfl (by decide) rfl (by decide) in_X5 q533 rfl dX5_writeKnot_248 ?_
    refine wg (v := .int (oI (gI σ_148 514 (o + 2)))) X hT hWσ_148 8 2 514 vl8_o_2 rfl rfl (by decide) rfl (by decide) in_X2 q172 rfl dX5_writeKnot_251 ?_
    rw [knR hz_138]
    refine wput (z := gI σ_148 514 (o + 2)) X hT hWσ_148 hS 9 11 587 (hV.hv 9 rfl ⟨hz_138, rx1.2⟩) rfl rfl (by decide) rfl (by decide) in_X9 tyX9 tyX9_ok nmX9 q416 rfl rfl (hWσ_148.r.i 514 (o + 2) rfl) (fv0 w rfl) rfl rfl dX5_writeKnot_254 (fun H locs hN hS => ?_)
    obtain ⟨σ_149, eσ_149⟩ : ∃ x, x = sI σ_148 587 x1 (gI σ_148 514 (o + 2)) := ⟨_, rfl⟩
    have hWσ_149 : Wo w σ_149 H := eσ_149 ▸ hN
    have h := h σ_149 eσ_149
    clear hN
    refine w_kload_n (w := w) X dX5_writeKnot_257 rfl (lv_at hl 1 rfl) ?_
    refine lv_iconst (v := oI 0) X.1 X.2.1 dX5_writeKnot_258 rfl ?_
    rw [knR hz_138]
    refine wput (z := 0) X hT hWσ_149 hS 9 8 584 (hV.hv 9 rfl ⟨hz_138, rx1.2⟩) rfl rfl (by decide) rfl (by decide) in_X9 tyX9 tyX9_ok nmX9 q409 rfl rfl rZ_0 (fv3 w rfl) (nrZ rZ_0) (ftZ rZ_0) dX5_writeKnot_259 (fun H locs hN hS => ?_)
    obtain ⟨σ_150, eσ_150⟩ : ∃ x, x = sI σ_149 584 x1 0 := ⟨_, rfl⟩
    have hWσ_150 : Wo w σ_150 H := eσ_150 ▸ hN
    have h := h σ_150 eσ_150
    clear hN
    refine lv_aload_n X.1 X.2.1 dX5_writeKnot_262 rfl (lv_at hl 0 rfl) ?_
    refine wg (v := .ref (wad w 5 o)) X hT hWσ_150 3 1 193 vl3_o rfl rfl (by decide) rfl (by decide) in_X5 q525 rfl dX5_writeKnot_263 ?_
    refine wg (v := .ref (wad w 324 o)) X hT hWσ_150 5 4 324 vl5_o rfl rfl (by decide) rfl (by decide) in_X7 q347 rfl dX5_writeKnot_266 ?_
    refine w_kload_n (w := w) X dX5_writeKnot_269 rfl (lv_at hl 1 rfl) ?_
    rw [knR hz_138]
    refine wg (v := .int (oI (gI σ_150 585 x1))) X hT hWσ_150 9 9 585 (hV.hv 9 rfl ⟨hz_138, rx1.2⟩) rfl rfl (by decide) rfl (by decide) in_X9 q412 rfl dX5_writeKnot_270 ?_
    refine lv_dup2_11 X.1 X.2.1 dX5_writeKnot_273 rfl rfl ?_
    obtain ⟨bi, h⟩ := h
    refine w_iald (n := ((wc w).1 - 6)) X hT hWσ_150 324 vl324_o (by decide) rfl rfl bi dX5_writeKnot_274 ?_
    refine w_kload_n (w := w) X dX5_writeKnot_275 rfl (lv_at hl 1 rfl) ?_
    rw [knR hz_138]
    refine wg (v := .int (oI (gI σ_150 587 x1))) X hT hWσ_150 9 11 587 (hV.hv 9 rfl ⟨hz_138, rx1.2⟩) rfl rfl (by decide) rfl (by decide) in_X9 q416 rfl dX5_writeKnot_276 ?_
    refine w_iadd X dX5_writeKnot_279 ?_
    obtain ⟨bi, h⟩ := h
    refine w_iast (n := ((wc w).1 - 6)) X hT hWσ_150 hS 324 vl324_o (by decide) rfl rfl bi (w32_r _) dX5_writeKnot_280 (fun H locs hN hS => ?_)
    obtain ⟨σ_151, eσ_151⟩ : ∃ x, x = sA σ_150 324 o (gI σ_150 585 x1) (w32 ((gA σ_150 324 o (gI σ_150 585 x1)) + (gI σ_150 587 x1))) := ⟨_, rfl⟩
    have hWσ_151 : Wo w σ_151 H := eσ_151 ▸ hN
    have h := h σ_151 eσ_151
    clear hN
    exact wret_V X hr hlk hWσ_151 hS h dX5_writeKnot_281
  · have h := h.2 hc
    refine w_kload_n (w := w) X dX5_writeKnot_46 rfl (lv_at hl 1 rfl) ?_
    rw [knR hz_138]
    refine wg (v := .ref (wad w 583 x1)) X hT hW 9 7 583 (hV.hv 9 rfl ⟨hz_138, rx1.2⟩) rfl rfl (by decide) rfl (by decide) in_X9 q406 rfl dX5_writeKnot_47 ?_
    refine lv_iload_n X.1 X.2.1 dX5_writeKnot_50 rfl (lv_at hl 2 rfl) ?_
    obtain ⟨bi, h⟩ := h
    refine w_aald (n := 9) X hT hW 583 (hV.hv 583 rfl ⟨hz_138, rx1.2⟩) (by decide) rfl rfl bi dX5_writeKnot_51 ?_
    refine w_topk (w := w) (fun y3_152 ey3_152 => ?_)
    have h := h y3_152 ey3_152
    have ry3_152 : rK y3_152 := by rw [ey3_152]; exact (hW.r.ak 583 x1 y2 rfl)
    refine w_kstore_n (i := 3) (lv' := [(3, va_rf (knO w y3_152)), (0, .ref (wad w 3 o)), (1, va_rf (knO w x1)), (2, .int (oI y2))]) (w := w) X dX5_writeKnot_52 rfl hl (by decide) (by first | rfl | simp [catK, catI, catR, catL]) (fun ls hl => ?_)
    refine lv_aload_n X.1 X.2.1 dX5_writeKnot_53 rfl (lv_at hl 1 rfl) ?_
    refine wg (v := .ref (wad w 8 (o + 2))) X hT hW 3 7 199 vl3_o rfl rfl (by decide) rfl (by decide) in_X5 q533 rfl dX5_writeKnot_54 ?_
    refine lv_bipush (v := oI 8) X.1 X.2.1 dX5_writeKnot_57 (by decide) ?_
    refine lv_bipush (v := oI 28) X.1 X.2.1 dX5_writeKnot_59 (by decide) ?_
    refine lv_iload_n X.1 X.2.1 dX5_writeKnot_61 rfl (lv_at hl 3 rfl) ?_
    refine w_imul X dX5_writeKnot_62 ?_
    refine w_iadd X dX5_writeKnot_63 ?_
    refine w_kload_n (w := w) X dX5_writeKnot_64 rfl (lv_at hl 2 rfl) ?_
    rw [knR hz_138]
    refine wg (v := .ref (wad w 578 x1)) X hT hW 9 2 578 (hV.hv 9 rfl ⟨hz_138, rx1.2⟩) rfl rfl (by decide) rfl (by decide) in_X9 q391 rfl dX5_writeKnot_65 ?_
    refine lv_iload_n X.1 X.2.1 dX5_writeKnot_68 rfl (lv_at hl 3 rfl) ?_
    obtain ⟨bi, h⟩ := h
    refine w_lald (n := 9) X hT hW 578 (hV.hv 578 rfl ⟨hz_138, rx1.2⟩) (by decide) rfl rfl bi dX5_writeKnot_69 ?_
    refine wr_R (rV (As := [.int (oI (w32 (8 + (w32 (28 * y2))))), .long (oL (gA σ 578 x1 y2))]) (rest := []) X hT hW hS (met_Row_putLongAt l (w := w) hV (o + 2) (w32 (8 + (w32 (28 * y2)))) (gA σ 578 x1 y2) _ σ (by omega) (w32_r _) (hW.r.aj 578 x1 y2 rfl) h) (cwV 2 X.2.2.2.2 (lw_V q979 q980 q981 q132 q982) rfl rfl rfl (by decide +kernel) ⟨Nat.le_of_ble_eq_true rfl, Nat.le_of_ble_eq_true rfl⟩) vl8_o_2 (by decide) rfl rfl hl.1 rfl (by first | exact Nat.le_of_ble_eq_true rfl | simp [catK, catI, catR, catL]) dX5_writeKnot_70 ⟨Nat.le_refl _, Nat.le_refl _⟩) hS (fun σ_154 H locs rkσ_154 h hWσ_154 hS => ?_)
    have h := h rkσ_154
    refine lv_bipush (v := oI 16) X.1 X.2.1 dX5_writeKnot_73 (by decide) ?_
    refine lv_bipush (v := oI 28) X.1 X.2.1 dX5_writeKnot_75 (by decide) ?_
    refine lv_iload_n X.1 X.2.1 dX5_writeKnot_77 rfl (lv_at hl 3 rfl) ?_
    refine w_imul X dX5_writeKnot_78 ?_
    refine w_iadd X dX5_writeKnot_79 ?_
    refine w_kload_n (w := w) X dX5_writeKnot_80 rfl (lv_at hl 2 rfl) ?_
    rw [knR hz_138]
    refine wg (v := .ref (wad w 579 x1)) X hT hWσ_154 9 3 579 (hV.hv 9 rfl ⟨hz_138, rx1.2⟩) rfl rfl (by decide) rfl (by decide) in_X9 q394 rfl dX5_writeKnot_81 ?_
    refine lv_iload_n X.1 X.2.1 dX5_writeKnot_84 rfl (lv_at hl 3 rfl) ?_
    obtain ⟨bi, h⟩ := h
    refine w_lald (n := 9) X hT hWσ_154 579 (hV.hv 579 rfl ⟨hz_138, rx1.2⟩) (by decide) rfl rfl bi dX5_writeKnot_85 ?_
    refine wr_R (rV (As := [.int (oI (w32 (16 + (w32 (28 * y2))))), .long (oL (gA σ_154 579 x1 y2))]) (rest := []) X hT hWσ_154 hS (met_Row_putLongAt l (w := w) hV (o + 2) (w32 (16 + (w32 (28 * y2)))) (gA σ_154 579 x1 y2) _ σ_154 (by omega) (w32_r _) (hWσ_154.r.aj 579 x1 y2 rfl) h) (cwV 2 X.2.2.2.2 (lw_V q979 q980 q981 q132 q982) rfl rfl rfl (by decide +kernel) ⟨Nat.le_of_ble_eq_true rfl, Nat.le_of_ble_eq_true rfl⟩) vl8_o_2 (by decide) rfl rfl hl.1 rfl (by first | exact Nat.le_of_ble_eq_true rfl | simp [catK, catI, catR, catL]) dX5_writeKnot_86 ⟨Nat.le_refl _, Nat.le_refl _⟩) hS (fun σ_156 H locs rkσ_156 h hWσ_156 hS => ?_)
    have h := h rkσ_156
    refine lv_pop X.1 X.2.1 dX5_writeKnot_89 rfl ?_
    refine lv_aload_n X.1 X.2.1 dX5_writeKnot_90 rfl (lv_at hl 1 rfl) ?_
    refine wg (v := .ref (wad w 8 (o + 2))) X hT hWσ_156 3 7 199 vl3_o rfl rfl (by decide) rfl (by decide) in_X5 q533 rfl dX5_writeKnot_91 ?_
    refine lv_bipush (v := oI 24) X.1 X.2.1 dX5_writeKnot_94 (by decide) ?_
    refine lv_bipush (v := oI 28) X.1 X.2.1 dX5_writeKnot_96 (by decide) ?_
    refine lv_iload_n X.1 X.2.1 dX5_writeKnot_98 rfl (lv_at hl 3 rfl) ?_
    refine w_imul X dX5_writeKnot_99 ?_
    refine w_iadd X dX5_writeKnot_100 ?_
    refine w_kload_n (w := w) X dX5_writeKnot_101 rfl (lv_at hl 0 rfl) ?_
    refine w_ifnonnull (w := w) (tgt := 114) X dX5_writeKnot_102 (by decide) (fun hc => ?_) (fun hc => ?_)
    · have h := h.1 hc
      refine w_kload_n (w := w) X dX5_writeKnot_114 rfl (lv_at hl 0 rfl) ?_
      obtain ⟨hz_157, h⟩ := h
      rw [knR hz_157]
      refine wg (v := .int (oI (gI σ_156 585 y3_152))) X hT hWσ_156 9 9 585 (hV.hv 9 rfl ⟨hz_157, ry3_152.2⟩) rfl rfl (by decide) rfl (by decide) in_X9 q412 rfl dX5_writeKnot_115 ?_
      exact wk_Store_writeKnot_b118 X hr hlk hT hV ho rx1 K38 hK38 y2 y3_152 (gI σ_156 585 y3_152) (w32 (24 + (w32 (28 * y2)))) σ_156 _ _ _ ry2 ry3_152 (hWσ_156.r.i 585 y3_152 rfl) (w32_r _) (lv_sub hl [1, 2, 3, 0] rfl) hWσ_156 hS h
    · have h := h.2 hc
      refine w_kload_n (w := w) X dX5_writeKnot_105 rfl (lv_at hl 2 rfl) ?_
      rw [knR hz_138]
      refine wg (v := .ref (wad w 580 x1)) X hT hWσ_156 9 4 580 (hV.hv 9 rfl ⟨hz_138, rx1.2⟩) rfl rfl (by decide) rfl (by decide) in_X9 q397 rfl dX5_writeKnot_106 ?_
      refine lv_iload_n X.1 X.2.1 dX5_writeKnot_109 rfl (lv_at hl 3 rfl) ?_
      obtain ⟨bi, h⟩ := h
      refine w_iald (n := 9) X hT hWσ_156 580 (hV.hv 580 rfl ⟨hz_138, rx1.2⟩) (by decide) rfl rfl bi dX5_writeKnot_110 ?_
      refine lv_goto (tgt := 118) X.1 X.2.1 dX5_writeKnot_111 (by decide) ?_
      exact wk_Store_writeKnot_b118 X hr hlk hT hV ho rx1 K38 hK38 y2 y3_152 (gA σ_156 580 x1 y2) (w32 (24 + (w32 (28 * y2)))) σ_156 _ _ _ ry2 ry3_152 (hWσ_156.r.ai 580 x1 y2 rfl) (w32_r _) (lv_sub hl [1, 2, 3, 0] rfl) hWσ_156 hS h
theorem wk_Store_writeKnot_L38 {p : Program} {l : Launch} {e : Env} {st : State} {m : MethodId} {args : Array Value} {below : List Frame} {meth : Method} {c : Code} {w : Wp} {o : Int} {x1 : Int} {Q : St → Prop} (X : CallFix p m c cX5_writeKnot 4 st args lw_all RX5) (hr : meth.sig.returnType = none) (hlk : meth.locks = false) (hT : Tb w st) (hV : Hvl w) (ho : 0 ≤ o ∧ o < 2) (rx1 : rK x1) : ∀ (y2 : Int) (σ : St) (H : Heap) (locs : List Loc) (ls : Array Slot), rI y2 → lv_has ls 4 [(0, .ref (wad w 3 o)), (1, va_rf (knO w x1)), (2, .int (oI y2))] → Wo w σ H → va_S (wA w) st.heap H locs → lQ1 (wp_Store_writeKnot_L38 (wc w) (wtv w) o x1 Q) y2 σ → W p l e (headSpec (ws_ yX5_writeKnot cX5_writeKnot 4 none) rm_Store_writeKnot).room st m args below meth c H locs 0 0 (MQ below (QcV w Q) args st 0 0 (wA w)) (F0 m 38 ls []) := by
  intro y2 σ H locs ls ry2 hl hW hS h
  obtain ⟨fu, h⟩ := h
  induction fu generalizing y2 σ H locs ls with
  | zero => exact h.elim
  | succ fu ih =>
    exact wk_Store_writeKnot_L38B X hr hlk hT hV ho rx1 (lq1 (wp_Store_writeKnot_L38 (wc w) (wtv w) o x1 Q) fu) (fun y2 σ H locs ls ry2 hl hW hS h => ih y2 σ H locs ls ry2 hl hW hS h) y2 σ H locs ls ry2 hl hW hS h
set_option maxHeartbeats 4000000 in
set_option maxRecDepth 100000 in
theorem met_Store_writeKnot (l : Launch) {w : Wp} (hV : Hvl w) (o : Int) (x1 : Int) (Q : St → Prop) (σ : St) (ho : 0 ≤ o ∧ o < 2) (rx1 : rK x1) (h : wp_Store_writeKnot (wc w) (wtv w) o x1 Q σ) : Met l yX5_writeKnot (ws_ yX5_writeKnot cX5_writeKnot 4 none) rm_Store_writeKnot (PcW w σ [.ref (wad w 3 o), va_rf (knO w x1)]) (QcV w Q) 0 0 (wA w) := by
  refine Met.ofW (cc := cX5_writeKnot) (maxL := 4) (ret := none) (by decide) rfl ?_
  intro p e st m args below meth c s₁ B hml hv
  obtain ⟨hargs, hW, hT⟩ := hv
  have X : CallFix p m c cX5_writeKnot 4 st _ lw_all RX5 := ⟨B.exec, B.bytes, hml, findClass_of_methodNamed B.named, fun w h => atoms_spec (ws := ws_ yX5_writeKnot cX5_writeKnot 4 none) B.pre w (List.mem_cons_of_mem _ h)⟩
  have hr := B.returns
  have hlk := B.notSynchronized
  have hS : va_S (wA w) st.heap st.heap [] := va_S.rf
  have vl3_o : vl w 3 o := hV.hv 3 rfl ⟨by omega, by show _ < (2 : Int); omega⟩
  have vl8_o_2 : vl w 8 (o + 2) := hV.hv 8 rfl ⟨by omega, by show _ < (8 : Int); omega⟩
  have hl := lv_entry ([.ref (wad w 3 o), va_rf (knO w x1)]) (n := 4) (by simp [lg_sl, catK, catI, catR, catL])
  have hfr := lg_entry_eq m ([.ref (wad w 3 o), va_rf (knO w x1)]) 4
  rw [← hargs] at hfr
  rw [hfr]
  generalize (lg_sl ([.ref (wad w 3 o), va_rf (knO w x1)]) ++ List.replicate (4 - (lg_sl ([.ref (wad w 3 o), va_rf (knO w x1)])).length) Slot.unset).toArray = ls at hl ⊢
  simp [lv_args, catK, catI, catR, catL] at hl
  have hl : lv_has ls 4 [(0, .ref (wad w 3 o)), (1, va_rf (knO w x1))] := hl
  unfold wp_Store_writeKnot at h
  refine lv_aload_n X.1 X.2.1 dX5_writeKnot_0 rfl (lv_at hl 0 rfl) ?_
  refine wg (v := .ref (wad w 8 (o + 2))) X hT hW 3 7 199 vl3_o rfl rfl (by decide) rfl (by decide) in_X5 q533 rfl dX5_writeKnot_1 ?_
  refine wr_V (rV (As := []) (rest := []) X hT hW hS (met_Row_clear l (w := w) hV (o + 2) _ σ (by omega) h) (cwV 0 X.2.2.2.2 (lw_V q736 q737 q738 q132 q739) rfl rfl rfl (by decide +kernel) ⟨Nat.le_of_ble_eq_true rfl, Nat.le_of_ble_eq_true rfl⟩) vl8_o_2 (by decide) rfl rfl hl.1 rfl (by first | exact Nat.le_of_ble_eq_true rfl | simp [catK, catI, catR, catL]) dX5_writeKnot_4 ⟨Nat.le_refl _, Nat.le_refl _⟩) hS (fun σ_159 H locs rkσ_159 h hWσ_159 hS => ?_)
  have h := h rkσ_159
  refine lv_aload_n X.1 X.2.1 dX5_writeKnot_7 rfl (lv_at hl 0 rfl) ?_
  refine wg (v := .ref (wad w 8 (o + 2))) X hT hWσ_159 3 7 199 vl3_o rfl rfl (by decide) rfl (by decide) in_X5 q533 rfl dX5_writeKnot_8 ?_
  refine lv_iconst (v := oI 5) X.1 X.2.1 dX5_writeKnot_11 rfl ?_
  refine w_kload_n (w := w) X dX5_writeKnot_12 rfl (lv_at hl 1 rfl) ?_
  refine wr_I (rS (As := [va_rf (knO w x1)]) (rest := [.int (oI 5), .ref (wad w 8 (o + 2))]) X hT hWσ_159 hS (met_Index_sizeOf l (w := w) hV x1 _ σ_159 rx1 h) (va_cwS 1 X.2.2.2.2 (lw_S q975 q976 q139 q977) rfl rfl rfl (by decide +kernel) ⟨Nat.le_of_ble_eq_true rfl, Nat.le_of_ble_eq_true rfl⟩) rfl hl.1 rfl (by first | exact Nat.le_of_ble_eq_true rfl | simp [catK, catI, catR, catL]) dX5_writeKnot_13 ⟨Nat.le_refl _, Nat.le_refl _⟩) hS (fun r_160 σ_161 H locs rr_160 rkσ_161 h hWσ_161 hS => ?_)
  have h := h rr_160 rkσ_161
  refine wr_R (rV (As := [.int (oI 5), .int (oI r_160)]) (rest := []) X hT hWσ_161 hS (met_Row_begin l (w := w) hV (o + 2) 5 r_160 _ σ_161 (by omega) ((rB_lit 5 (by decide)).i) rr_160 h) (cwV 2 X.2.2.2.2 (lw_V q740 q741 q742 q132 q743) rfl rfl rfl (by decide +kernel) ⟨Nat.le_of_ble_eq_true rfl, Nat.le_of_ble_eq_true rfl⟩) vl8_o_2 (by decide) rfl rfl hl.1 rfl (by first | exact Nat.le_of_ble_eq_true rfl | simp [catK, catI, catR, catL]) dX5_writeKnot_16 ⟨Nat.le_refl _, Nat.le_refl _⟩) hS (fun σ_163 H locs rkσ_163 h hWσ_163 hS => ?_)
  have h := h rkσ_163
  refine lv_iconst (v := oI 0) X.1 X.2.1 dX5_writeKnot_19 rfl ?_
  refine w_kload_n (w := w) X dX5_writeKnot_20 rfl (lv_at hl 1 rfl) ?_
  obtain ⟨hz_164, h⟩ := h
  rw [knR hz_164]
  refine wg (v := .int (oI (gI σ_163 576 x1))) X hT hWσ_163 9 0 576 (hV.hv 9 rfl ⟨hz_164, rx1.2⟩) rfl rfl (by decide) rfl (by decide) in_X9 q385 rfl dX5_writeKnot_21 ?_
  refine wr_R (rV (As := [.int (oI 0), .int (oI (gI σ_163 576 x1))]) (rest := []) X hT hWσ_163 hS (met_Row_put l (w := w) hV (o + 2) 0 (gI σ_163 576 x1) _ σ_163 (by omega) rZ_0.i (hWσ_163.r.i 576 x1 rfl) h) (cwV 2 X.2.2.2.2 (lw_V q747 q748 q749 q132 q750) rfl rfl rfl (by decide +kernel) ⟨Nat.le_of_ble_eq_true rfl, Nat.le_of_ble_eq_true rfl⟩) vl8_o_2 (by decide) rfl rfl hl.1 rfl (by first | exact Nat.le_of_ble_eq_true rfl | simp [catK, catI, catR, catL]) dX5_writeKnot_24 ⟨Nat.le_refl _, Nat.le_refl _⟩) hS (fun σ_166 H locs rkσ_166 h hWσ_166 hS => ?_)
  have h := h rkσ_166
  refine lv_iconst (v := oI 4) X.1 X.2.1 dX5_writeKnot_27 rfl ?_
  refine w_kload_n (w := w) X dX5_writeKnot_28 rfl (lv_at hl 1 rfl) ?_
  rw [knR hz_164]
  refine wg (v := .int (oI (gI σ_166 577 x1))) X hT hWσ_166 9 1 577 (hV.hv 9 rfl ⟨hz_164, rx1.2⟩) rfl rfl (by decide) rfl (by decide) in_X9 q388 rfl dX5_writeKnot_29 ?_
  refine wr_R (rV (As := [.int (oI 4), .int (oI (gI σ_166 577 x1))]) (rest := []) X hT hWσ_166 hS (met_Row_put l (w := w) hV (o + 2) 4 (gI σ_166 577 x1) _ σ_166 (by omega) ((rB_lit 4 (by decide)).i) (hWσ_166.r.i 577 x1 rfl) h) (cwV 2 X.2.2.2.2 (lw_V q747 q748 q749 q132 q750) rfl rfl rfl (by decide +kernel) ⟨Nat.le_of_ble_eq_true rfl, Nat.le_of_ble_eq_true rfl⟩) vl8_o_2 (by decide) rfl rfl hl.1 rfl (by first | exact Nat.le_of_ble_eq_true rfl | simp [catK, catI, catR, catL]) dX5_writeKnot_32 ⟨Nat.le_refl _, Nat.le_refl _⟩) hS (fun σ_168 H locs rkσ_168 h hWσ_168 hS => ?_)
  have h := h rkσ_168
  refine lv_pop X.1 X.2.1 dX5_writeKnot_35 rfl ?_
  refine lv_iconst (v := oI 0) X.1 X.2.1 dX5_writeKnot_36 rfl ?_
  refine lv_istore_n (i := 2) (lv' := [(2, .int (oI 0)), (0, .ref (wad w 3 o)), (1, va_rf (knO w x1))]) X.1 X.2.1 dX5_writeKnot_37 rfl hl (by decide) (by first | rfl | simp [catK, catI, catR, catL]) (fun ls hl => ?_)
  exact wk_Store_writeKnot_L38 X hr hlk hT hV ho rx1 0 σ_168 _ _ _ rZ_0.i (lv_sub hl [1, 2, 0] rfl) hWσ_168 hS h
/-! Store.writeTable()V -/
set_option maxHeartbeats 4000000 in
set_option maxRecDepth 100000 in
theorem wk_Store_writeTable_L106B {p : Program} {l : Launch} {e : Env} {st : State} {m : MethodId} {args : Array Value} {below : List Frame} {meth : Method} {c : Code} {w : Wp} {o : Int} {Q : St → Prop} (X : CallFix p m c cX5_writeTable 2 st args lw_all RX5) (hr : meth.sig.returnType = none) (hlk : meth.locks = false) (hT : Tb w st) (hV : Hvl w) (ho : 0 ≤ o ∧ o < 2) (K106 : Int → St → Prop) (hK106 : ∀ (y1 : Int) (σ : St) (H : Heap) (locs : List Loc) (ls : Array Slot), rI y1 → lv_has ls 2 [(0, .ref (wad w 3 o)), (1, .int (oI y1))] → Wo w σ H → va_S (wA w) st.heap H locs → K106 y1 σ → W p l e (headSpec (ws_ yX5_writeTable cX5_writeTable 2 none) rm_Store_writeTable).room st m args below meth c H locs 0 0 (MQ below (QcV w Q) args st 0 0 (wA w)) (F0 m 106 ls [])) : ∀ (y1 : Int) (σ : St) (H : Heap) (locs : List Loc) (ls : Array Slot), rI y1 → lv_has ls 2 [(0, .ref (wad w 3 o)), (1, .int (oI y1))] → Wo w σ H → va_S (wA w) st.heap H locs → wp_Store_writeTable_L106 (wc w) (wtv w) o Q K106 y1 σ → W p l e (headSpec (ws_ yX5_writeTable cX5_writeTable 2 none) rm_Store_writeTable).room st m args below meth c H locs 0 0 (MQ below (QcV w Q) args st 0 0 (wA w)) (F0 m 106 ls []) := by
  have vl3_o : vl w 3 o := hV.hv 3 rfl ⟨by omega, by show _ < (2 : Int); omega⟩
  have vl324_o : vl w 324 o := hV.hv 324 rfl ⟨by omega, by show _ < (2 : Int); omega⟩
  have vl4_o : vl w 4 o := hV.hv 4 rfl ⟨by omega, by show _ < (2 : Int); omega⟩
  have vl5_o : vl w 5 o := hV.hv 5 rfl ⟨by omega, by show _ < (2 : Int); omega⟩
  have vl512_o_2 : vl w 512 (o + 2) := hV.hv 512 rfl ⟨by omega, by show _ < (8 : Int); omega⟩
  have vl7_o_4 : vl w 7 (o + 4) := hV.hv 7 rfl ⟨by omega, by show _ < (6 : Int); omega⟩
  have vl8_o_2 : vl w 8 (o + 2) := hV.hv 8 rfl ⟨by omega, by show _ < (8 : Int); omega⟩
  intro y1 σ H locs ls ry1 hl hW hS h
  unfold wp_Store_writeTable_L106 at h
  refine lv_iload_n X.1 X.2.1 dX5_writeTable_106 rfl (lv_at hl 1 rfl) ?_
  refine lv_aload_n X.1 X.2.1 dX5_writeTable_107 rfl (lv_at hl 0 rfl) ?_
  refine wg (v := .ref (wad w 4 o)) X hT hW 3 0 192 vl3_o rfl rfl (by decide) rfl (by decide) in_X5 q523 rfl dX5_writeTable_108 ?_
  refine wg (v := .int (oI ((wc w).1 - 6))) X hT hW 4 1 257 vl4_o rfl rfl (by decide) rfl (by decide) in_X6 q272 rfl dX5_writeTable_111 ?_
  refine w_icmp_ge (tgt := 151) X ry1 (cin_r hT.c 257) dX5_writeTable_114 (by decide) (fun hc => ?_) (fun hc => ?_)
  · have h := h.1 hc
    refine lv_aload_n X.1 X.2.1 dX5_writeTable_151 rfl (lv_at hl 0 rfl) ?_
    refine wg (v := .ref (wad w 8 (o + 2))) X hT hW 3 7 199 vl3_o rfl rfl (by decide) rfl (by decide) in_X5 q533 rfl dX5_writeTable_152 ?_
    refine lv_aload_n X.1 X.2.1 dX5_writeTable_155 rfl (lv_at hl 0 rfl) ?_
    refine wr_J (rV (As := []) (rest := [.ref (wad w 8 (o + 2))]) X hT hW hS (met_Store_serial l (w := w) hV o _ σ (by omega) h) (cwV 0 X.2.2.2.2 (lw_V q751 q752 q753 q136 q754) rfl rfl rfl (by decide +kernel) ⟨Nat.le_of_ble_eq_true rfl, Nat.le_of_ble_eq_true rfl⟩) vl3_o (by decide) rfl rfl hl.1 rfl (by first | exact Nat.le_of_ble_eq_true rfl | simp [catK, catI, catR, catL]) dX5_writeTable_156 ⟨Nat.le_refl _, Nat.le_refl _⟩) hS (fun r_22 σ_23 H locs rr_22 rkσ_23 h hWσ_23 hS => ?_)
    have h := h rr_22 rkσ_23
    refine lv_iconst (v := oI 1) X.1 X.2.1 dX5_writeTable_159 rfl ?_
    refine wr_V (rV (As := [.long (oL r_22), .int (oI 1)]) (rest := []) X hT hWσ_23 hS (met_Row_close l (w := w) hV (o + 2) r_22 1 _ σ_23 (by omega) rr_22 rZ_1 h) (cwV 2 X.2.2.2.2 (lw_V q755 q756 q757 q132 q758) rfl rfl rfl (by decide +kernel) ⟨Nat.le_of_ble_eq_true rfl, Nat.le_of_ble_eq_true rfl⟩) vl8_o_2 (by decide) rfl rfl hl.1 rfl (by first | exact Nat.le_of_ble_eq_true rfl | simp [catK, catI, catR, catL]) dX5_writeTable_160 ⟨Nat.le_refl _, Nat.le_refl _⟩) hS (fun σ_25 H locs rkσ_25 h hWσ_25 hS => ?_)
    have h := h rkσ_25
    refine lv_aload_n X.1 X.2.1 dX5_writeTable_163 rfl (lv_at hl 0 rfl) ?_
    refine lv_aload_n X.1 X.2.1 dX5_writeTable_164 rfl (lv_at hl 0 rfl) ?_
    refine wg (v := .ref (wad w 7 (o + 4))) X hT hWσ_25 3 5 197 vl3_o rfl rfl (by decide) rfl (by decide) in_X5 q530 rfl dX5_writeTable_165 ?_
    refine lv_aload_n X.1 X.2.1 dX5_writeTable_168 rfl (lv_at hl 0 rfl) ?_
    refine wg (v := .ref (wad w 8 (o + 2))) X hT hWσ_25 3 7 199 vl3_o rfl rfl (by decide) rfl (by decide) in_X5 q533 rfl dX5_writeTable_169 ?_
    refine wg (v := .ref (wad w 512 (o + 2))) X hT hWσ_25 8 0 512 vl8_o_2 rfl rfl (by decide) rfl (by decide) in_X2 q166 rfl dX5_writeTable_172 ?_
    refine lv_iconst (v := oI 0) X.1 X.2.1 dX5_writeTable_175 rfl ?_
    refine lv_aload_n X.1 X.2.1 dX5_writeTable_176 rfl (lv_at hl 0 rfl) ?_
    refine wg (v := .int (oI (gI σ_25 216 o))) X hT hWσ_25 3 24 216 vl3_o rfl rfl (by decide) rfl (by decide) in_X5 q554 rfl dX5_writeTable_177 ?_
    refine wr_I (rV (As := [.ref (wad w 512 (o + 2)), .int (oI 0), .int (oI (gI σ_25 216 o))]) (rest := [.ref (wad w 3 o)]) X hT hWσ_25 hS (met_Writer_put l (w := w) hV (o + 4) 512 (o + 2) 0 (gI σ_25 216 o) _ σ_25 (by omega) vl512_o_2 (by decide) rfl rZ_0.i (hWσ_25.r.i 216 o rfl) h) (cwV 3 X.2.2.2.2 (lw_V q856 q857 q858 q141 q859) rfl rfl rfl (by decide +kernel) ⟨Nat.le_of_ble_eq_true rfl, Nat.le_of_ble_eq_true rfl⟩) vl7_o_4 (by decide) rfl rfl hl.1 rfl (by first | exact Nat.le_of_ble_eq_true rfl | simp [catK, catI, catR, catL]) dX5_writeTable_180 ⟨Nat.le_refl _, Nat.le_refl _⟩) hS (fun r_26 σ_27 H locs rr_26 rkσ_27 h hWσ_27 hS => ?_)
    have h := h rr_26 rkσ_27
    refine wput (z := r_26) X hT hWσ_27 hS 3 23 215 vl3_o rfl rfl (by decide) rfl (by decide) in_X5 tyX5 tyX5_ok nmX5 q553 rfl rfl rr_26 (fv0 w rfl) rfl rfl dX5_writeTable_183 (fun H locs hN hS => ?_)
    obtain ⟨σ_28, eσ_28⟩ : ∃ x, x = sI σ_27 215 o r_26 := ⟨_, rfl⟩
    have hWσ_28 : Wo w σ_28 H := eσ_28 ▸ hN
    have h := h σ_28 eσ_28
    clear hN
    exact wret_V X hr hlk hWσ_28 hS h dX5_writeTable_186
  · have h := h.2 hc
    refine lv_aload_n X.1 X.2.1 dX5_writeTable_117 rfl (lv_at hl 0 rfl) ?_
    refine wg (v := .ref (wad w 8 (o + 2))) X hT hW 3 7 199 vl3_o rfl rfl (by decide) rfl (by decide) in_X5 q533 rfl dX5_writeTable_118 ?_
    refine lv_iconst (v := oI 4) X.1 X.2.1 dX5_writeTable_121 rfl ?_
    refine lv_iload_n X.1 X.2.1 dX5_writeTable_122 rfl (lv_at hl 1 rfl) ?_
    refine lv_aload_n X.1 X.2.1 dX5_writeTable_123 rfl (lv_at hl 0 rfl) ?_
    refine wg (v := .ref (wad w 5 o)) X hT hW 3 1 193 vl3_o rfl rfl (by decide) rfl (by decide) in_X5 q525 rfl dX5_writeTable_124 ?_
    refine wg (v := .int (oI (4 + (wc w).2.2))) X hT hW 5 1 321 vl5_o rfl rfl (by decide) rfl (by decide) in_X7 q338 rfl dX5_writeTable_127 ?_
    refine w_isub X dX5_writeTable_130 ?_
    refine w_imul X dX5_writeTable_131 ?_
    refine lv_aload_n X.1 X.2.1 dX5_writeTable_132 rfl (lv_at hl 0 rfl) ?_
    refine wg (v := .ref (wad w 5 o)) X hT hW 3 1 193 vl3_o rfl rfl (by decide) rfl (by decide) in_X5 q525 rfl dX5_writeTable_133 ?_
    refine wg (v := .ref (wad w 324 o)) X hT hW 5 4 324 vl5_o rfl rfl (by decide) rfl (by decide) in_X7 q347 rfl dX5_writeTable_136 ?_
    refine lv_iload_n X.1 X.2.1 dX5_writeTable_139 rfl (lv_at hl 1 rfl) ?_
    obtain ⟨bi, h⟩ := h
    refine w_iald (n := ((wc w).1 - 6)) X hT hW 324 vl324_o (by decide) rfl rfl bi dX5_writeTable_140 ?_
    refine wr_R (rV (As := [.int (oI (w32 (4 * (w32 (y1 - (4 + (wc w).2.2)))))), .int (oI (gA σ 324 o y1))]) (rest := []) X hT hW hS (met_Row_put l (w := w) hV (o + 2) (w32 (4 * (w32 (y1 - (4 + (wc w).2.2))))) (gA σ 324 o y1) _ σ (by omega) (w32_r _) (hW.r.ai 324 o y1 rfl) h) (cwV 2 X.2.2.2.2 (lw_V q747 q748 q749 q132 q750) rfl rfl rfl (by decide +kernel) ⟨Nat.le_of_ble_eq_true rfl, Nat.le_of_ble_eq_true rfl⟩) vl8_o_2 (by decide) rfl rfl hl.1 rfl (by first | exact Nat.le_of_ble_eq_true rfl | simp [catK, catI, catR, catL]) dX5_writeTable_141 ⟨Nat.le_refl _, Nat.le_refl _⟩) hS (fun σ_30 H locs rkσ_30 h hWσ_30 hS => ?_)
    have h := h rkσ_30
    refine lv_pop X.1 X.2.1 dX5_writeTable_144 rfl ?_
    obtain ⟨y1_31, ey1_31⟩ : ∃ y : Int, y = w32 (y1 + 1) := ⟨_, rfl⟩
    have h := h y1_31 ey1_31
    have ry1_31 : rI y1_31 := by rw [ey1_31]; exact w32_r _
    refine lv_iinc (v := oI y1_31) (lv' := [(1, .int (oI y1_31)), (0, .ref (wad w 3 o))]) X.1 X.2.1 dX5_writeTable_145 hl (k := 1) rfl (by rw [ey1_31]; exact oI_add _ _) (by decide) (by first | rfl | simp [catK, catI, catR, catL]) (fun ls hl => ?_)
    refine lv_goto (tgt := 106) X.1 X.2.1 dX5_writeTable_148 (by decide) ?_
    exact hK106 y1_31 σ_30 _ _ _ ry1_31 (lv_sub hl [1, 0] rfl) hWσ_30 hS h
theorem wk_Store_writeTable_L106 {p : Program} {l : Launch} {e : Env} {st : State} {m : MethodId} {args : Array Value} {below : List Frame} {meth : Method} {c : Code} {w : Wp} {o : Int} {Q : St → Prop} (X : CallFix p m c cX5_writeTable 2 st args lw_all RX5) (hr : meth.sig.returnType = none) (hlk : meth.locks = false) (hT : Tb w st) (hV : Hvl w) (ho : 0 ≤ o ∧ o < 2) : ∀ (y1 : Int) (σ : St) (H : Heap) (locs : List Loc) (ls : Array Slot), rI y1 → lv_has ls 2 [(0, .ref (wad w 3 o)), (1, .int (oI y1))] → Wo w σ H → va_S (wA w) st.heap H locs → lQ1 (wp_Store_writeTable_L106 (wc w) (wtv w) o Q) y1 σ → W p l e (headSpec (ws_ yX5_writeTable cX5_writeTable 2 none) rm_Store_writeTable).room st m args below meth c H locs 0 0 (MQ below (QcV w Q) args st 0 0 (wA w)) (F0 m 106 ls []) := by
  intro y1 σ H locs ls ry1 hl hW hS h
  obtain ⟨fu, h⟩ := h
  induction fu generalizing y1 σ H locs ls with
  | zero => exact h.elim
  | succ fu ih =>
    exact wk_Store_writeTable_L106B X hr hlk hT hV ho (lq1 (wp_Store_writeTable_L106 (wc w) (wtv w) o Q) fu) (fun y1 σ H locs ls ry1 hl hW hS h => ih y1 σ H locs ls ry1 hl hW hS h) y1 σ H locs ls ry1 hl hW hS h
set_option maxHeartbeats 4000000 in
set_option maxRecDepth 100000 in
theorem wk_Store_writeTable_b27 {p : Program} {l : Launch} {e : Env} {st : State} {m : MethodId} {args : Array Value} {below : List Frame} {meth : Method} {c : Code} {w : Wp} {o : Int} {Q : St → Prop} (X : CallFix p m c cX5_writeTable 2 st args lw_all RX5) (hr : meth.sig.returnType = none) (hlk : meth.locks = false) (hT : Tb w st) (hV : Hvl w) (ho : 0 ≤ o ∧ o < 2) : ∀ (σ : St) (H : Heap) (locs : List Loc) (ls : Array Slot), lv_has ls 2 [(0, .ref (wad w 3 o))] → Wo w σ H → va_S (wA w) st.heap H locs → wp_Store_writeTable_b27 (wc w) (wtv w) o Q σ → W p l e (headSpec (ws_ yX5_writeTable cX5_writeTable 2 none) rm_Store_writeTable).room st m args below meth c H locs 0 0 (MQ below (QcV w Q) args st 0 0 (wA w)) (F0 m 27 ls []) := by
  have vl3_o : vl w 3 o := hV.hv 3 rfl ⟨by omega, by show _ < (2 : Int); omega⟩
  have vl324_o : vl w 324 o := hV.hv 324 rfl ⟨by omega, by show _ < (2 : Int); omega⟩
  have vl5_o : vl w 5 o := hV.hv 5 rfl ⟨by omega, by show _ < (2 : Int); omega⟩
  have vl7_o_4 : vl w 7 (o + 4) := hV.hv 7 rfl ⟨by omega, by show _ < (6 : Int); omega⟩
  have vl8_o_2 : vl w 8 (o + 2) := hV.hv 8 rfl ⟨by omega, by show _ < (8 : Int); omega⟩
  intro σ H locs ls hl hW hS h
  unfold wp_Store_writeTable_b27 at h
  refine lv_aload_n X.1 X.2.1 dX5_writeTable_27 rfl (lv_at hl 0 rfl) ?_
  refine lv_aload_n X.1 X.2.1 dX5_writeTable_28 rfl (lv_at hl 0 rfl) ?_
  refine wg (v := .int (oI (tbl (wc w)))) X hT hW 3 35 227 vl3_o rfl rfl (by decide) rfl (by decide) in_X5 q567 rfl dX5_writeTable_29 ?_
  refine wput (z := (tbl (wc w))) X hT hW hS 3 24 216 vl3_o rfl rfl (by decide) rfl (by decide) in_X5 tyX5 tyX5_ok nmX5 q554 rfl rfl (cin_r hT.c 227) (fv0 w rfl) rfl rfl dX5_writeTable_32 (fun H locs hN hS => ?_)
  obtain ⟨σ_32, eσ_32⟩ : ∃ x, x = sI σ 216 o (tbl (wc w)) := ⟨_, rfl⟩
  have hWσ_32 : Wo w σ_32 H := eσ_32 ▸ hN
  have h := h σ_32 eσ_32
  clear hN
  refine lv_aload_n X.1 X.2.1 dX5_writeTable_35 rfl (lv_at hl 0 rfl) ?_
  refine lv_aload_n X.1 X.2.1 dX5_writeTable_36 rfl (lv_at hl 0 rfl) ?_
  refine wg (v := .ref (wad w 7 (o + 4))) X hT hWσ_32 3 5 197 vl3_o rfl rfl (by decide) rfl (by decide) in_X5 q530 rfl dX5_writeTable_37 ?_
  refine lv_aload_n X.1 X.2.1 dX5_writeTable_40 rfl (lv_at hl 0 rfl) ?_
  refine wg (v := .int (oI (gI σ_32 216 o))) X hT hWσ_32 3 24 216 vl3_o rfl rfl (by decide) rfl (by decide) in_X5 q554 rfl dX5_writeTable_41 ?_
  refine wr_V (rV (As := [.ref (wad w 7 (o + 4)), .int (oI (gI σ_32 216 o))]) (rest := []) X hT hWσ_32 hS (met_Store_room l (w := w) hV o (o + 4) (gI σ_32 216 o) _ σ_32 (by omega) (by omega) (hWσ_32.r.i 216 o rfl) h) (cwV 2 X.2.2.2.2 (lw_V q983 q985 qs22 q136 q986) rfl rfl rfl (by decide +kernel) ⟨Nat.le_of_ble_eq_true rfl, Nat.le_of_ble_eq_true rfl⟩) vl3_o (by decide) rfl rfl hl.1 rfl (by first | exact Nat.le_of_ble_eq_true rfl | simp [catK, catI, catR, catL]) dX5_writeTable_44 ⟨Nat.le_refl _, Nat.le_refl _⟩) hS (fun σ_34 H locs rkσ_34 h hWσ_34 hS => ?_)
  have h := h rkσ_34
  refine lv_aload_n X.1 X.2.1 dX5_writeTable_47 rfl (lv_at hl 0 rfl) ?_
  refine lv_aload_n X.1 X.2.1 dX5_writeTable_48 rfl (lv_at hl 0 rfl) ?_
  refine wg (v := .ref (wad w 7 (o + 4))) X hT hWσ_34 3 5 197 vl3_o rfl rfl (by decide) rfl (by decide) in_X5 q530 rfl dX5_writeTable_49 ?_
  refine wg (v := .int (oI (gI σ_34 451 (o + 4)))) X hT hWσ_34 7 3 451 vl7_o_4 rfl rfl (by decide) rfl (by decide) in_X10 q509 rfl dX5_writeTable_52 ?_
  refine wput (z := gI σ_34 451 (o + 4)) X hT hWσ_34 hS 3 22 214 vl3_o rfl rfl (by decide) rfl (by decide) in_X5 tyX5 tyX5_ok nmX5 q552 rfl rfl (hWσ_34.r.i 451 (o + 4) rfl) (fv0 w rfl) rfl rfl dX5_writeTable_55 (fun H locs hN hS => ?_)
  obtain ⟨σ_35, eσ_35⟩ : ∃ x, x = sI σ_34 214 o (gI σ_34 451 (o + 4)) := ⟨_, rfl⟩
  have hWσ_35 : Wo w σ_35 H := eσ_35 ▸ hN
  have h := h σ_35 eσ_35
  clear hN
  refine lv_aload_n X.1 X.2.1 dX5_writeTable_58 rfl (lv_at hl 0 rfl) ?_
  refine wg (v := .ref (wad w 5 o)) X hT hWσ_35 3 1 193 vl3_o rfl rfl (by decide) rfl (by decide) in_X5 q525 rfl dX5_writeTable_59 ?_
  refine wg (v := .ref (wad w 324 o)) X hT hWσ_35 5 4 324 vl5_o rfl rfl (by decide) rfl (by decide) in_X7 q347 rfl dX5_writeTable_62 ?_
  refine lv_aload_n X.1 X.2.1 dX5_writeTable_65 rfl (lv_at hl 0 rfl) ?_
  refine wg (v := .int (oI (gI σ_35 214 o))) X hT hWσ_35 3 22 214 vl3_o rfl rfl (by decide) rfl (by decide) in_X5 q552 rfl dX5_writeTable_66 ?_
  refine lv_dup2_11 X.1 X.2.1 dX5_writeTable_69 rfl rfl ?_
  obtain ⟨bi, h⟩ := h
  refine w_iald (n := ((wc w).1 - 6)) X hT hWσ_35 324 vl324_o (by decide) rfl rfl bi dX5_writeTable_70 ?_
  refine lv_aload_n X.1 X.2.1 dX5_writeTable_71 rfl (lv_at hl 0 rfl) ?_
  refine wg (v := .int (oI (gI σ_35 216 o))) X hT hWσ_35 3 24 216 vl3_o rfl rfl (by decide) rfl (by decide) in_X5 q554 rfl dX5_writeTable_72 ?_
  refine w_iadd X dX5_writeTable_75 ?_
  obtain ⟨bi, h⟩ := h
  refine w_iast (n := ((wc w).1 - 6)) X hT hWσ_35 hS 324 vl324_o (by decide) rfl rfl bi (w32_r _) dX5_writeTable_76 (fun H locs hN hS => ?_)
  obtain ⟨σ_36, eσ_36⟩ : ∃ x, x = sA σ_35 324 o (gI σ_35 214 o) (w32 ((gA σ_35 324 o (gI σ_35 214 o)) + (gI σ_35 216 o))) := ⟨_, rfl⟩
  have hWσ_36 : Wo w σ_36 H := eσ_36 ▸ hN
  have h := h σ_36 eσ_36
  clear hN
  refine lv_aload_n X.1 X.2.1 dX5_writeTable_77 rfl (lv_at hl 0 rfl) ?_
  refine wg (v := .ref (wad w 8 (o + 2))) X hT hWσ_36 3 7 199 vl3_o rfl rfl (by decide) rfl (by decide) in_X5 q533 rfl dX5_writeTable_78 ?_
  refine wr_V (rV (As := []) (rest := []) X hT hWσ_36 hS (met_Row_clear l (w := w) hV (o + 2) _ σ_36 (by omega) h) (cwV 0 X.2.2.2.2 (lw_V q736 q737 q738 q132 q739) rfl rfl rfl (by decide +kernel) ⟨Nat.le_of_ble_eq_true rfl, Nat.le_of_ble_eq_true rfl⟩) vl8_o_2 (by decide) rfl rfl hl.1 rfl (by first | exact Nat.le_of_ble_eq_true rfl | simp [catK, catI, catR, catL]) dX5_writeTable_81 ⟨Nat.le_refl _, Nat.le_refl _⟩) hS (fun σ_38 H locs rkσ_38 h hWσ_38 hS => ?_)
  have h := h rkσ_38
  refine lv_aload_n X.1 X.2.1 dX5_writeTable_84 rfl (lv_at hl 0 rfl) ?_
  refine wg (v := .ref (wad w 8 (o + 2))) X hT hWσ_38 3 7 199 vl3_o rfl rfl (by decide) rfl (by decide) in_X5 q533 rfl dX5_writeTable_85 ?_
  refine lv_bipush (v := oI 10) X.1 X.2.1 dX5_writeTable_88 (by decide) ?_
  refine lv_aload_n X.1 X.2.1 dX5_writeTable_90 rfl (lv_at hl 0 rfl) ?_
  refine wg (v := .int (oI (gI σ_38 216 o))) X hT hWσ_38 3 24 216 vl3_o rfl rfl (by decide) rfl (by decide) in_X5 q554 rfl dX5_writeTable_91 ?_
  refine wr_R (rV (As := [.int (oI 10), .int (oI (gI σ_38 216 o))]) (rest := []) X hT hWσ_38 hS (met_Row_begin l (w := w) hV (o + 2) 10 (gI σ_38 216 o) _ σ_38 (by omega) ((rB_lit 10 (by decide)).i) (hWσ_38.r.i 216 o rfl) h) (cwV 2 X.2.2.2.2 (lw_V q740 q741 q742 q132 q743) rfl rfl rfl (by decide +kernel) ⟨Nat.le_of_ble_eq_true rfl, Nat.le_of_ble_eq_true rfl⟩) vl8_o_2 (by decide) rfl rfl hl.1 rfl (by first | exact Nat.le_of_ble_eq_true rfl | simp [catK, catI, catR, catL]) dX5_writeTable_94 ⟨Nat.le_refl _, Nat.le_refl _⟩) hS (fun σ_40 H locs rkσ_40 h hWσ_40 hS => ?_)
  have h := h rkσ_40
  refine lv_pop X.1 X.2.1 dX5_writeTable_97 rfl ?_
  refine lv_aload_n X.1 X.2.1 dX5_writeTable_98 rfl (lv_at hl 0 rfl) ?_
  refine wg (v := .ref (wad w 5 o)) X hT hWσ_40 3 1 193 vl3_o rfl rfl (by decide) rfl (by decide) in_X5 q525 rfl dX5_writeTable_99 ?_
  refine wg (v := .int (oI (4 + (wc w).2.2))) X hT hWσ_40 5 1 321 vl5_o rfl rfl (by decide) rfl (by decide) in_X7 q338 rfl dX5_writeTable_102 ?_
  refine w_top (fun y1_41 ey1_41 => ?_)
  have h := h y1_41 ey1_41
  have ry1_41 : rI y1_41 := by rw [ey1_41]; exact (cin_r hT.c 321)
  refine lv_istore_n (i := 1) (lv' := [(1, .int (oI y1_41)), (0, .ref (wad w 3 o))]) X.1 X.2.1 dX5_writeTable_105 rfl hl (by decide) (by first | rfl | simp [catK, catI, catR, catL]) (fun ls hl => ?_)
  exact wk_Store_writeTable_L106 X hr hlk hT hV ho y1_41 σ_40 _ _ _ ry1_41 (lv_sub hl [1, 0] rfl) hWσ_40 hS h
set_option maxHeartbeats 4000000 in
set_option maxRecDepth 100000 in
theorem met_Store_writeTable (l : Launch) {w : Wp} (hV : Hvl w) (o : Int) (Q : St → Prop) (σ : St) (ho : 0 ≤ o ∧ o < 2) (h : wp_Store_writeTable (wc w) (wtv w) o Q σ) : Met l yX5_writeTable (ws_ yX5_writeTable cX5_writeTable 2 none) rm_Store_writeTable (PcW w σ [.ref (wad w 3 o)]) (QcV w Q) 0 0 (wA w) := by
  refine Met.ofW (cc := cX5_writeTable) (maxL := 2) (ret := none) (by decide) rfl ?_
  intro p e st m args below meth c s₁ B hml hv
  obtain ⟨hargs, hW, hT⟩ := hv
  have X : CallFix p m c cX5_writeTable 2 st _ lw_all RX5 := ⟨B.exec, B.bytes, hml, findClass_of_methodNamed B.named, fun w h => atoms_spec (ws := ws_ yX5_writeTable cX5_writeTable 2 none) B.pre w (List.mem_cons_of_mem _ h)⟩
  have hr := B.returns
  have hlk := B.notSynchronized
  have hS : va_S (wA w) st.heap st.heap [] := va_S.rf
  have vl3_o : vl w 3 o := hV.hv 3 rfl ⟨by omega, by show _ < (2 : Int); omega⟩
  have vl324_o : vl w 324 o := hV.hv 324 rfl ⟨by omega, by show _ < (2 : Int); omega⟩
  have vl5_o : vl w 5 o := hV.hv 5 rfl ⟨by omega, by show _ < (2 : Int); omega⟩
  have hl := lv_entry ([.ref (wad w 3 o)]) (n := 2) (Nat.le_of_ble_eq_true rfl)
  have hfr := lg_entry_eq m ([.ref (wad w 3 o)]) 2
  rw [← hargs] at hfr
  rw [hfr]
  generalize (lg_sl ([.ref (wad w 3 o)]) ++ List.replicate (2 - (lg_sl ([.ref (wad w 3 o)])).length) Slot.unset).toArray = ls at hl ⊢
  have hl : lv_has ls 2 [(0, .ref (wad w 3 o))] := hl
  unfold wp_Store_writeTable at h
  refine lv_aload_n X.1 X.2.1 dX5_writeTable_0 rfl (lv_at hl 0 rfl) ?_
  refine wg (v := .int (oI (gI σ 214 o))) X hT hW 3 22 214 vl3_o rfl rfl (by decide) rfl (by decide) in_X5 q552 rfl dX5_writeTable_1 ?_
  refine lv_iconst (v := oI (-1)) X.1 X.2.1 dX5_writeTable_4 rfl ?_
  refine w_icmp_eq (tgt := 27) X (hW.r.i 214 o rfl) ((rB_lit (-1) (by decide)).i) dX5_writeTable_5 (by decide) (fun hc => ?_) (fun hc => ?_)
  · have h := h.1 hc
    exact wk_Store_writeTable_b27 X hr hlk hT hV ho σ _ _ _ (lv_sub hl [0] rfl) hW hS h
  · have h := h.2 hc
    refine lv_aload_n X.1 X.2.1 dX5_writeTable_8 rfl (lv_at hl 0 rfl) ?_
    refine wg (v := .ref (wad w 5 o)) X hT hW 3 1 193 vl3_o rfl rfl (by decide) rfl (by decide) in_X5 q525 rfl dX5_writeTable_9 ?_
    refine wg (v := .ref (wad w 324 o)) X hT hW 5 4 324 vl5_o rfl rfl (by decide) rfl (by decide) in_X7 q347 rfl dX5_writeTable_12 ?_
    refine lv_aload_n X.1 X.2.1 dX5_writeTable_15 rfl (lv_at hl 0 rfl) ?_
    refine wg (v := .int (oI (gI σ 214 o))) X hT hW 3 22 214 vl3_o rfl rfl (by decide) rfl (by decide) in_X5 q552 rfl dX5_writeTable_16 ?_
    refine lv_dup2_11 X.1 X.2.1 dX5_writeTable_19 rfl rfl ?_
    obtain ⟨bi, h⟩ := h
    refine w_iald (n := ((wc w).1 - 6)) X hT hW 324 vl324_o (by decide) rfl rfl bi dX5_writeTable_20 ?_
    refine lv_aload_n X.1 X.2.1 dX5_writeTable_21 rfl (lv_at hl 0 rfl) ?_
    refine wg (v := .int (oI (gI σ 216 o))) X hT hW 3 24 216 vl3_o rfl rfl (by decide) rfl (by decide) in_X5 q554 rfl dX5_writeTable_22 ?_
    refine w_isub X dX5_writeTable_25 ?_
    obtain ⟨bi, h⟩ := h
    refine w_iast (n := ((wc w).1 - 6)) X hT hW hS 324 vl324_o (by decide) rfl rfl bi (w32_r _) dX5_writeTable_26 (fun H locs hN hS => ?_)
    obtain ⟨σ_42, eσ_42⟩ : ∃ x, x = sA σ 324 o (gI σ 214 o) (w32 ((gA σ 324 o (gI σ 214 o)) - (gI σ 216 o))) := ⟨_, rfl⟩
    have hWσ_42 : Wo w σ_42 H := eσ_42 ▸ hN
    have h := h σ_42 eσ_42
    clear hN
    exact wk_Store_writeTable_b27 X hr hlk hT hV ho σ_42 _ _ _ (lv_sub hl [0] rfl) hWσ_42 hS h
/-! Store.sheetOf(III)V -/
set_option maxHeartbeats 4000000 in
set_option maxRecDepth 100000 in
theorem met_Store_sheetOf (l : Launch) {w : Wp} (hV : Hvl w) (o : Int) (x1 : Int) (x2 : Int) (x3 : Int) (Q : St → Prop) (σ : St) (ho : 0 ≤ o ∧ o < 2) (rx1 : rI x1) (rx2 : rI x2) (rx3 : rI x3) (h : wp_Store_sheetOf (wc w) (wtv w) o x1 x2 x3 Q σ) : Met l yX5_sheetOf (ws_ yX5_sheetOf cX5_sheetOf 4 none) rm_Store_sheetOf (PcW w σ [.ref (wad w 3 o), .int (oI x1), .int (oI x2), .int (oI x3)]) (QcV w Q) 0 0 (wA w) := by
  refine Met.ofW (cc := cX5_sheetOf) (maxL := 4) (ret := none) (by decide) rfl ?_
  intro p e st m args below meth c s₁ B hml hv
  obtain ⟨hargs, hW, hT⟩ := hv
  have X : CallFix p m c cX5_sheetOf 4 st _ lw_all RX5 := ⟨B.exec, B.bytes, hml, findClass_of_methodNamed B.named, fun w h => atoms_spec (ws := ws_ yX5_sheetOf cX5_sheetOf 4 none) B.pre w (List.mem_cons_of_mem _ h)⟩
  have hr := B.returns
  have hlk := B.notSynchronized
  have hS : va_S (wA w) st.heap st.heap [] := va_S.rf
  have vl3_o : vl w 3 o := hV.hv 3 rfl ⟨by omega, by show _ < (2 : Int); omega⟩
  have vl512_o_4 : vl w 512 (o + 4) := hV.hv 512 rfl ⟨by omega, by show _ < (8 : Int); omega⟩
  have vl8_o_4 : vl w 8 (o + 4) := hV.hv 8 rfl ⟨by omega, by show _ < (8 : Int); omega⟩
  have hl := lv_entry ([.ref (wad w 3 o), .int (oI x1), .int (oI x2), .int (oI x3)]) (n := 4) (Nat.le_of_ble_eq_true rfl)
  have hfr := lg_entry_eq m ([.ref (wad w 3 o), .int (oI x1), .int (oI x2), .int (oI x3)]) 4
  rw [← hargs] at hfr
  rw [hfr]
  generalize (lg_sl ([.ref (wad w 3 o), .int (oI x1), .int (oI x2), .int (oI x3)]) ++ List.replicate (4 - (lg_sl ([.ref (wad w 3 o), .int (oI x1), .int (oI x2), .int (oI x3)])).length) Slot.unset).toArray = ls at hl ⊢
  have hl : lv_has ls 4 [(0, .ref (wad w 3 o)), (1, .int (oI x1)), (2, .int (oI x2)), (3, .int (oI x3))] := hl
  unfold wp_Store_sheetOf at h
  refine lv_aload_n X.1 X.2.1 dX5_sheetOf_0 rfl (lv_at hl 0 rfl) ?_
  refine wg (v := .ref (wad w 8 (o + 4))) X hT hW 3 8 200 vl3_o rfl rfl (by decide) rfl (by decide) in_X5 q534 rfl dX5_sheetOf_1 ?_
  refine wg (v := .ref (wad w 512 (o + 4))) X hT hW 8 0 512 vl8_o_4 rfl rfl (by decide) rfl (by decide) in_X2 q166 rfl dX5_sheetOf_4 ?_
  refine lv_iconst (v := oI 0) X.1 X.2.1 dX5_sheetOf_7 rfl ?_
  refine wr_V (rS (As := [.ref (wad w 512 (o + 4)), .int (oI 0)]) (rest := []) X hT hW hS (met_Arrays_fill l (w := w) 512 (o + 4) 0 _ σ vl512_o_4 (by decide) rfl (rZ.b rZ_0) h) (va_cwS 2 X.2.2.2.2 (lw_S q1016 q218 q135 q219) rfl rfl rfl (by decide +kernel) ⟨Nat.le_of_ble_eq_true rfl, Nat.le_of_ble_eq_true rfl⟩) rfl hl.1 rfl (by first | exact Nat.le_of_ble_eq_true rfl | simp [catK, catI, catR, catL]) dX5_sheetOf_8 ⟨Nat.le_refl _, Nat.le_refl _⟩) hS (fun σ_12 H locs rkσ_12 h hWσ_12 hS => ?_)
  have h := h rkσ_12
  refine lv_aload_n X.1 X.2.1 dX5_sheetOf_11 rfl (lv_at hl 0 rfl) ?_
  refine wg (v := .ref (wad w 8 (o + 4))) X hT hWσ_12 3 8 200 vl3_o rfl rfl (by decide) rfl (by decide) in_X5 q534 rfl dX5_sheetOf_12 ?_
  refine wr_V (rV (As := []) (rest := []) X hT hWσ_12 hS (met_Row_clear l (w := w) hV (o + 4) _ σ_12 (by omega) h) (cwV 0 X.2.2.2.2 (lw_V q736 q737 q738 q132 q739) rfl rfl rfl (by decide +kernel) ⟨Nat.le_of_ble_eq_true rfl, Nat.le_of_ble_eq_true rfl⟩) vl8_o_4 (by decide) rfl rfl hl.1 rfl (by first | exact Nat.le_of_ble_eq_true rfl | simp [catK, catI, catR, catL]) dX5_sheetOf_15 ⟨Nat.le_refl _, Nat.le_refl _⟩) hS (fun σ_14 H locs rkσ_14 h hWσ_14 hS => ?_)
  have h := h rkσ_14
  refine lv_aload_n X.1 X.2.1 dX5_sheetOf_18 rfl (lv_at hl 0 rfl) ?_
  refine wg (v := .ref (wad w 8 (o + 4))) X hT hWσ_14 3 8 200 vl3_o rfl rfl (by decide) rfl (by decide) in_X5 q534 rfl dX5_sheetOf_19 ?_
  refine lv_iload_n X.1 X.2.1 dX5_sheetOf_22 rfl (lv_at hl 1 rfl) ?_
  refine lv_bipush (v := oI 64) X.1 X.2.1 dX5_sheetOf_23 (by decide) ?_
  refine wr_R (rV (As := [.int (oI x1), .int (oI 64)]) (rest := []) X hT hWσ_14 hS (met_Row_begin l (w := w) hV (o + 4) x1 64 _ σ_14 (by omega) rx1 ((rB_lit 64 (by decide)).i) h) (cwV 2 X.2.2.2.2 (lw_V q740 q741 q742 q132 q743) rfl rfl rfl (by decide +kernel) ⟨Nat.le_of_ble_eq_true rfl, Nat.le_of_ble_eq_true rfl⟩) vl8_o_4 (by decide) rfl rfl hl.1 rfl (by first | exact Nat.le_of_ble_eq_true rfl | simp [catK, catI, catR, catL]) dX5_sheetOf_25 ⟨Nat.le_refl _, Nat.le_refl _⟩) hS (fun σ_16 H locs rkσ_16 h hWσ_16 hS => ?_)
  have h := h rkσ_16
  refine lv_iconst (v := oI 0) X.1 X.2.1 dX5_sheetOf_28 rfl ?_
  refine lv_iload_n X.1 X.2.1 dX5_sheetOf_29 rfl (lv_at hl 2 rfl) ?_
  refine wr_R (rV (As := [.int (oI 0), .int (oI x2)]) (rest := []) X hT hWσ_16 hS (met_Row_put l (w := w) hV (o + 4) 0 x2 _ σ_16 (by omega) rZ_0.i rx2 h) (cwV 2 X.2.2.2.2 (lw_V q747 q748 q749 q132 q750) rfl rfl rfl (by decide +kernel) ⟨Nat.le_of_ble_eq_true rfl, Nat.le_of_ble_eq_true rfl⟩) vl8_o_4 (by decide) rfl rfl hl.1 rfl (by first | exact Nat.le_of_ble_eq_true rfl | simp [catK, catI, catR, catL]) dX5_sheetOf_30 ⟨Nat.le_refl _, Nat.le_refl _⟩) hS (fun σ_18 H locs rkσ_18 h hWσ_18 hS => ?_)
  have h := h rkσ_18
  refine lv_iconst (v := oI 4) X.1 X.2.1 dX5_sheetOf_33 rfl ?_
  refine lv_iload_n X.1 X.2.1 dX5_sheetOf_34 rfl (lv_at hl 3 rfl) ?_
  refine wr_R (rV (As := [.int (oI 4), .int (oI x3)]) (rest := []) X hT hWσ_18 hS (met_Row_put l (w := w) hV (o + 4) 4 x3 _ σ_18 (by omega) ((rB_lit 4 (by decide)).i) rx3 h) (cwV 2 X.2.2.2.2 (lw_V q747 q748 q749 q132 q750) rfl rfl rfl (by decide +kernel) ⟨Nat.le_of_ble_eq_true rfl, Nat.le_of_ble_eq_true rfl⟩) vl8_o_4 (by decide) rfl rfl hl.1 rfl (by first | exact Nat.le_of_ble_eq_true rfl | simp [catK, catI, catR, catL]) dX5_sheetOf_35 ⟨Nat.le_refl _, Nat.le_refl _⟩) hS (fun σ_20 H locs rkσ_20 h hWσ_20 hS => ?_)
  have h := h rkσ_20
  refine lv_pop X.1 X.2.1 dX5_sheetOf_38 rfl ?_
  exact wret_V X hr hlk hWσ_20 hS h dX5_sheetOf_39
/-! Store.endCommit()V -/
set_option maxHeartbeats 4000000 in
set_option maxRecDepth 100000 in
theorem wk_Store_endCommit_b168 {p : Program} {l : Launch} {e : Env} {st : State} {m : MethodId} {args : Array Value} {below : List Frame} {meth : Method} {c : Code} {w : Wp} {o : Int} {Q : St → Prop} (X : CallFix p m c cX5_endCommit 2 st args lw_all RX5) (hr : meth.sig.returnType = none) (hlk : meth.locks = false) (hT : Tb w st) (hV : Hvl w) (ho : 0 ≤ o ∧ o < 2) (K137 : Int → St → Prop) (hK137 : ∀ (y1 : Int) (σ : St) (H : Heap) (locs : List Loc) (ls : Array Slot), rI y1 → lv_has ls 2 [(0, .ref (wad w 3 o)), (1, .int (oI y1))] → Wo w σ H → va_S (wA w) st.heap H locs → K137 y1 σ → W p l e (headSpec (ws_ yX5_endCommit cX5_endCommit 2 none) rm_Store_endCommit).room st m args below meth c H locs 0 0 (MQ below (QcV w Q) args st 0 0 (wA w)) (F0 m 137 ls [])) : ∀ (y1 : Int) (σ : St) (H : Heap) (locs : List Loc) (ls : Array Slot), rI y1 → lv_has ls 2 [(0, .ref (wad w 3 o)), (1, .int (oI y1))] → Wo w σ H → va_S (wA w) st.heap H locs → wp_Store_endCommit_b168 (wc w) (wtv w) o Q K137 y1 σ → W p l e (headSpec (ws_ yX5_endCommit cX5_endCommit 2 none) rm_Store_endCommit).room st m args below meth c H locs 0 0 (MQ below (QcV w Q) args st 0 0 (wA w)) (F0 m 168 ls []) := by
  have vl3_o : vl w 3 o := hV.hv 3 rfl ⟨by omega, by show _ < (2 : Int); omega⟩
  have vl4_o : vl w 4 o := hV.hv 4 rfl ⟨by omega, by show _ < (2 : Int); omega⟩
  have vl512_o_4 : vl w 512 (o + 4) := hV.hv 512 rfl ⟨by omega, by show _ < (8 : Int); omega⟩
  have vl8_o_4 : vl w 8 (o + 4) := hV.hv 8 rfl ⟨by omega, by show _ < (8 : Int); omega⟩
  intro y1 σ H locs ls ry1 hl hW hS h
  unfold wp_Store_endCommit_b168 at h
  refine lv_aload_n X.1 X.2.1 dX5_endCommit_168 rfl (lv_at hl 0 rfl) ?_
  refine wg (v := .ref (wad w 4 o)) X hT hW 3 0 192 vl3_o rfl rfl (by decide) rfl (by decide) in_X5 q523 rfl dX5_endCommit_169 ?_
  refine lv_iload_n X.1 X.2.1 dX5_endCommit_172 rfl (lv_at hl 1 rfl) ?_
  refine lv_aload_n X.1 X.2.1 dX5_endCommit_173 rfl (lv_at hl 0 rfl) ?_
  refine wg (v := .ref (wad w 4 o)) X hT hW 3 0 192 vl3_o rfl rfl (by decide) rfl (by decide) in_X5 q523 rfl dX5_endCommit_174 ?_
  refine lv_iload_n X.1 X.2.1 dX5_endCommit_177 rfl (lv_at hl 1 rfl) ?_
  refine wr_I (rV (As := [.int (oI y1)]) (rest := [.int (oI y1), .ref (wad w 4 o)]) X hT hW hS (met_Blocks_written l (w := w) hV o y1 _ σ (by omega) ry1 h) (cwV 1 X.2.2.2.2 (lw_V q1017 q1018 q1019 q137 q1020) rfl rfl rfl (by decide +kernel) ⟨Nat.le_of_ble_eq_true rfl, Nat.le_of_ble_eq_true rfl⟩) vl4_o (by decide) rfl rfl hl.1 rfl (by first | exact Nat.le_of_ble_eq_true rfl | simp [catK, catI, catR, catL]) dX5_endCommit_178 ⟨Nat.le_refl _, Nat.le_refl _⟩) hS (fun r_142 σ_143 H locs rr_142 rkσ_143 h hWσ_143 hS => ?_)
  have h := h rr_142 rkσ_143
  refine lv_aload_n X.1 X.2.1 dX5_endCommit_181 rfl (lv_at hl 0 rfl) ?_
  refine wg (v := .ref (wad w 8 (o + 4))) X hT hWσ_143 3 8 200 vl3_o rfl rfl (by decide) rfl (by decide) in_X5 q534 rfl dX5_endCommit_182 ?_
  refine wg (v := .ref (wad w 512 (o + 4))) X hT hWσ_143 8 0 512 vl8_o_4 rfl rfl (by decide) rfl (by decide) in_X2 q166 rfl dX5_endCommit_185 ?_
  refine lv_iconst (v := oI 0) X.1 X.2.1 dX5_endCommit_188 rfl ?_
  refine wr_V (rV (As := [.int (oI y1), .int (oI r_142), .ref (wad w 512 (o + 4)), .int (oI 0)]) (rest := []) X hT hWσ_143 hS (met_Blocks_write l (w := w) hV o y1 r_142 512 (o + 4) 0 _ σ_143 (by omega) ry1 rr_142 vl512_o_4 (by decide) rfl rZ_0.i h) (cwV 4 X.2.2.2.2 (lw_V q1028 q861 q862 q137 q863) rfl rfl rfl (by decide +kernel) ⟨Nat.le_of_ble_eq_true rfl, Nat.le_of_ble_eq_true rfl⟩) vl4_o (by decide) rfl rfl hl.1 rfl (by first | exact Nat.le_of_ble_eq_true rfl | simp [catK, catI, catR, catL]) dX5_endCommit_189 ⟨Nat.le_refl _, Nat.le_refl _⟩) hS (fun σ_145 H locs rkσ_145 h hWσ_145 hS => ?_)
  have h := h rkσ_145
  obtain ⟨y1_146, ey1_146⟩ : ∃ y : Int, y = w32 (y1 + 1) := ⟨_, rfl⟩
  have h := h y1_146 ey1_146
  have ry1_146 : rI y1_146 := by rw [ey1_146]; exact w32_r _
  refine lv_iinc (v := oI y1_146) (lv' := [(1, .int (oI y1_146)), (0, .ref (wad w 3 o))]) X.1 X.2.1 dX5_endCommit_192 hl (k := 1) rfl (by rw [ey1_146]; exact oI_add _ _) (by decide) (by first | rfl | simp [catK, catI, catR, catL]) (fun ls hl => ?_)
  refine lv_goto (tgt := 137) X.1 X.2.1 dX5_endCommit_195 (by decide) ?_
  exact hK137 y1_146 σ_145 _ _ _ ry1_146 (lv_sub hl [1, 0] rfl) hWσ_145 hS h
set_option maxHeartbeats 4000000 in
set_option maxRecDepth 100000 in
theorem wk_Store_endCommit_L137B {p : Program} {l : Launch} {e : Env} {st : State} {m : MethodId} {args : Array Value} {below : List Frame} {meth : Method} {c : Code} {w : Wp} {o : Int} {Q : St → Prop} (X : CallFix p m c cX5_endCommit 2 st args lw_all RX5) (hr : meth.sig.returnType = none) (hlk : meth.locks = false) (hT : Tb w st) (hV : Hvl w) (ho : 0 ≤ o ∧ o < 2) (K137 : Int → St → Prop) (hK137 : ∀ (y1 : Int) (σ : St) (H : Heap) (locs : List Loc) (ls : Array Slot), rI y1 → lv_has ls 2 [(0, .ref (wad w 3 o)), (1, .int (oI y1))] → Wo w σ H → va_S (wA w) st.heap H locs → K137 y1 σ → W p l e (headSpec (ws_ yX5_endCommit cX5_endCommit 2 none) rm_Store_endCommit).room st m args below meth c H locs 0 0 (MQ below (QcV w Q) args st 0 0 (wA w)) (F0 m 137 ls [])) : ∀ (y1 : Int) (σ : St) (H : Heap) (locs : List Loc) (ls : Array Slot), rI y1 → lv_has ls 2 [(0, .ref (wad w 3 o)), (1, .int (oI y1))] → Wo w σ H → va_S (wA w) st.heap H locs → wp_Store_endCommit_L137 (wc w) (wtv w) o Q K137 y1 σ → W p l e (headSpec (ws_ yX5_endCommit cX5_endCommit 2 none) rm_Store_endCommit).room st m args below meth c H locs 0 0 (MQ below (QcV w Q) args st 0 0 (wA w)) (F0 m 137 ls []) := by
  have vl3_o : vl w 3 o := hV.hv 3 rfl ⟨by omega, by show _ < (2 : Int); omega⟩
  have vl4_o : vl w 4 o := hV.hv 4 rfl ⟨by omega, by show _ < (2 : Int); omega⟩
  have vl5_o : vl w 5 o := hV.hv 5 rfl ⟨by omega, by show _ < (2 : Int); omega⟩
  intro y1 σ H locs ls ry1 hl hW hS h
  unfold wp_Store_endCommit_L137 at h
  refine lv_iload_n X.1 X.2.1 dX5_endCommit_137 rfl (lv_at hl 1 rfl) ?_
  refine lv_iconst (v := oI 2) X.1 X.2.1 dX5_endCommit_138 rfl ?_
  refine w_icmp_ge (tgt := 198) X ry1 ((rB_lit 2 (by decide)).i) dX5_endCommit_139 (by decide) (fun hc => ?_) (fun hc => ?_)
  · have h := h.1 hc
    refine lv_aload_n X.1 X.2.1 dX5_endCommit_198 rfl (lv_at hl 0 rfl) ?_
    refine wg (v := .ref (wad w 4 o)) X hT hW 3 0 192 vl3_o rfl rfl (by decide) rfl (by decide) in_X5 q523 rfl dX5_endCommit_199 ?_
    refine lv_aload_n X.1 X.2.1 dX5_endCommit_202 rfl (lv_at hl 0 rfl) ?_
    refine wg (v := .int (oI (gI σ 219 o))) X hT hW 3 27 219 vl3_o rfl rfl (by decide) rfl (by decide) in_X5 q559 rfl dX5_endCommit_203 ?_
    refine wr_V (rV (As := [.int (oI (gI σ 219 o))]) (rest := []) X hT hW hS (met_Blocks_drop l (w := w) hV o (gI σ 219 o) _ σ (by omega) (hW.r.i 219 o rfl) h) (cwV 1 X.2.2.2.2 (lw_V q1027 q776 q777 q137 q778) rfl rfl rfl (by decide +kernel) ⟨Nat.le_of_ble_eq_true rfl, Nat.le_of_ble_eq_true rfl⟩) vl4_o (by decide) rfl rfl hl.1 rfl (by first | exact Nat.le_of_ble_eq_true rfl | simp [catK, catI, catR, catL]) dX5_endCommit_206 ⟨Nat.le_refl _, Nat.le_refl _⟩) hS (fun σ_148 H locs rkσ_148 h hWσ_148 hS => ?_)
    have h := h rkσ_148
    refine lv_aload_n X.1 X.2.1 dX5_endCommit_209 rfl (lv_at hl 0 rfl) ?_
    refine wg (v := .ref (wad w 5 o)) X hT hWσ_148 3 1 193 vl3_o rfl rfl (by decide) rfl (by decide) in_X5 q525 rfl dX5_endCommit_210 ?_
    refine wr_V (rV (As := []) (rest := []) X hT hWσ_148 hS (met_Space_sweep l (w := w) hV o _ σ_148 (by omega) h) (cwV 0 X.2.2.2.2 (lw_V q1029 q1030 q1031 q138 q1032) rfl rfl rfl (by decide +kernel) ⟨Nat.le_of_ble_eq_true rfl, Nat.le_of_ble_eq_true rfl⟩) vl5_o (by decide) rfl rfl hl.1 rfl (by first | exact Nat.le_of_ble_eq_true rfl | simp [catK, catI, catR, catL]) dX5_endCommit_213 ⟨Nat.le_refl _, Nat.le_refl _⟩) hS (fun σ_150 H locs rkσ_150 h hWσ_150 hS => ?_)
    have h := h rkσ_150
    refine lv_aload_n X.1 X.2.1 dX5_endCommit_216 rfl (lv_at hl 0 rfl) ?_
    refine lv_iconst (v := oI 0) X.1 X.2.1 dX5_endCommit_217 rfl ?_
    refine wput (z := 0) X hT hWσ_150 hS 3 21 213 vl3_o rfl rfl (by decide) rfl (by decide) in_X5 tyX5 tyX5_ok nmX5 q551 rfl rfl rZ_0 (fv3 w rfl) (nrZ rZ_0) (ftZ rZ_0) dX5_endCommit_218 (fun H locs hN hS => ?_)
    obtain ⟨σ_151, eσ_151⟩ : ∃ x, x = sI σ_150 213 o 0 := ⟨_, rfl⟩
    have hWσ_151 : Wo w σ_151 H := eσ_151 ▸ hN
    have h := h σ_151 eσ_151
    clear hN
    refine lv_aload_n X.1 X.2.1 dX5_endCommit_221 rfl (lv_at hl 0 rfl) ?_
    refine lv_iconst (v := oI (-1)) X.1 X.2.1 dX5_endCommit_222 rfl ?_
    refine wput (z := (-1)) X hT hWσ_151 hS 3 31 223 vl3_o rfl rfl (by decide) rfl (by decide) in_X5 tyX5 tyX5_ok nmX5 q563 rfl rfl ((rB_lit (-1) (by decide)).i) (fv0 w rfl) rfl rfl dX5_endCommit_223 (fun H locs hN hS => ?_)
    obtain ⟨σ_152, eσ_152⟩ : ∃ x, x = sI σ_151 223 o (-1) := ⟨_, rfl⟩
    have hWσ_152 : Wo w σ_152 H := eσ_152 ▸ hN
    have h := h σ_152 eσ_152
    clear hN
    refine lv_aload_n X.1 X.2.1 dX5_endCommit_226 rfl (lv_at hl 0 rfl) ?_
    refine lv_iconst (v := oI 0) X.1 X.2.1 dX5_endCommit_227 rfl ?_
    refine wput (z := 0) X hT hWσ_152 hS 3 33 225 vl3_o rfl rfl (by decide) rfl (by decide) in_X5 tyX5 tyX5_ok nmX5 q565 rfl rfl rZ_0 (fv3 w rfl) (nrZ rZ_0) (ftZ rZ_0) dX5_endCommit_228 (fun H locs hN hS => ?_)
    obtain ⟨σ_153, eσ_153⟩ : ∃ x, x = sI σ_152 225 o 0 := ⟨_, rfl⟩
    have hWσ_153 : Wo w σ_153 H := eσ_153 ▸ hN
    have h := h σ_153 eσ_153
    clear hN
    exact wret_V X hr hlk hWσ_153 hS h dX5_endCommit_231
  · have h := h.2 hc
    refine lv_aload_n X.1 X.2.1 dX5_endCommit_142 rfl (lv_at hl 0 rfl) ?_
    refine wg (v := .ref (wad w 4 o)) X hT hW 3 0 192 vl3_o rfl rfl (by decide) rfl (by decide) in_X5 q523 rfl dX5_endCommit_143 ?_
    refine lv_iload_n X.1 X.2.1 dX5_endCommit_146 rfl (lv_at hl 1 rfl) ?_
    refine wr_I (rV (As := [.int (oI y1)]) (rest := []) X hT hW hS (met_Blocks_written l (w := w) hV o y1 _ σ (by omega) ry1 h) (cwV 1 X.2.2.2.2 (lw_V q1017 q1018 q1019 q137 q1020) rfl rfl rfl (by decide +kernel) ⟨Nat.le_of_ble_eq_true rfl, Nat.le_of_ble_eq_true rfl⟩) vl4_o (by decide) rfl rfl hl.1 rfl (by first | exact Nat.le_of_ble_eq_true rfl | simp [catK, catI, catR, catL]) dX5_endCommit_147 ⟨Nat.le_refl _, Nat.le_refl _⟩) hS (fun r_154 σ_155 H locs rr_154 rkσ_155 h hWσ_155 hS => ?_)
    have h := h rr_154 rkσ_155
    refine lv_aload_n X.1 X.2.1 dX5_endCommit_150 rfl (lv_at hl 0 rfl) ?_
    refine wg (v := .ref (wad w 4 o)) X hT hWσ_155 3 0 192 vl3_o rfl rfl (by decide) rfl (by decide) in_X5 q523 rfl dX5_endCommit_151 ?_
    refine wr_I (rV (As := []) (rest := [.int (oI r_154)]) X hT hWσ_155 hS (met_Blocks_pages l (w := w) hV o _ σ_155 (by omega) h) (cwV 0 X.2.2.2.2 (lw_V q1026 q333 q334 q137 q335) rfl rfl rfl (by decide +kernel) ⟨Nat.le_of_ble_eq_true rfl, Nat.le_of_ble_eq_true rfl⟩) vl4_o (by decide) rfl rfl hl.1 rfl (by first | exact Nat.le_of_ble_eq_true rfl | simp [catK, catI, catR, catL]) dX5_endCommit_154 ⟨Nat.le_refl _, Nat.le_refl _⟩) hS (fun r_156 σ_157 H locs rr_156 rkσ_157 h hWσ_157 hS => ?_)
    have h := h rr_156 rkσ_157
    refine w_icmp_ne (tgt := 168) X rr_154 rr_156 dX5_endCommit_157 (by decide) (fun hc => ?_) (fun hc => ?_)
    · have h := h.1 hc
      exact wk_Store_endCommit_b168 X hr hlk hT hV ho K137 hK137 y1 σ_157 _ _ _ ry1 (lv_sub hl [0, 1] rfl) hWσ_157 hS h
    · have h := h.2 hc
      refine lv_aload_n X.1 X.2.1 dX5_endCommit_160 rfl (lv_at hl 0 rfl) ?_
      refine wg (v := .ref (wad w 4 o)) X hT hWσ_157 3 0 192 vl3_o rfl rfl (by decide) rfl (by decide) in_X5 q523 rfl dX5_endCommit_161 ?_
      refine lv_iload_n X.1 X.2.1 dX5_endCommit_164 rfl (lv_at hl 1 rfl) ?_
      refine wr_V (rV (As := [.int (oI y1)]) (rest := []) X hT hWσ_157 hS (met_Blocks_drop l (w := w) hV o y1 _ σ_157 (by omega) ry1 h) (cwV 1 X.2.2.2.2 (lw_V q1027 q776 q777 q137 q778) rfl rfl rfl (by decide +kernel) ⟨Nat.le_of_ble_eq_true rfl, Nat.le_of_ble_eq_true rfl⟩) vl4_o (by decide) rfl rfl hl.1 rfl (by first | exact Nat.le_of_ble_eq_true rfl | simp [catK, catI, catR, catL]) dX5_endCommit_165 ⟨Nat.le_refl _, Nat.le_refl _⟩) hS (fun σ_159 H locs rkσ_159 h hWσ_159 hS => ?_)
      have h := h rkσ_159
      exact wk_Store_endCommit_b168 X hr hlk hT hV ho K137 hK137 y1 σ_159 _ _ _ ry1 (lv_sub hl [0, 1] rfl) hWσ_159 hS h
theorem wk_Store_endCommit_L137 {p : Program} {l : Launch} {e : Env} {st : State} {m : MethodId} {args : Array Value} {below : List Frame} {meth : Method} {c : Code} {w : Wp} {o : Int} {Q : St → Prop} (X : CallFix p m c cX5_endCommit 2 st args lw_all RX5) (hr : meth.sig.returnType = none) (hlk : meth.locks = false) (hT : Tb w st) (hV : Hvl w) (ho : 0 ≤ o ∧ o < 2) : ∀ (y1 : Int) (σ : St) (H : Heap) (locs : List Loc) (ls : Array Slot), rI y1 → lv_has ls 2 [(0, .ref (wad w 3 o)), (1, .int (oI y1))] → Wo w σ H → va_S (wA w) st.heap H locs → lQ1 (wp_Store_endCommit_L137 (wc w) (wtv w) o Q) y1 σ → W p l e (headSpec (ws_ yX5_endCommit cX5_endCommit 2 none) rm_Store_endCommit).room st m args below meth c H locs 0 0 (MQ below (QcV w Q) args st 0 0 (wA w)) (F0 m 137 ls []) := by
  intro y1 σ H locs ls ry1 hl hW hS h
  obtain ⟨fu, h⟩ := h
  induction fu generalizing y1 σ H locs ls with
  | zero => exact h.elim
  | succ fu ih =>
    exact wk_Store_endCommit_L137B X hr hlk hT hV ho (lq1 (wp_Store_endCommit_L137 (wc w) (wtv w) o Q) fu) (fun y1 σ H locs ls ry1 hl hW hS h => ih y1 σ H locs ls ry1 hl hW hS h) y1 σ H locs ls ry1 hl hW hS h
set_option maxHeartbeats 4000000 in
set_option maxRecDepth 100000 in
theorem met_Store_endCommit (l : Launch) {w : Wp} (hV : Hvl w) (o : Int) (Q : St → Prop) (σ : St) (ho : 0 ≤ o ∧ o < 2) (h : wp_Store_endCommit (wc w) (wtv w) o Q σ) : Met l yX5_endCommit (ws_ yX5_endCommit cX5_endCommit 2 none) rm_Store_endCommit (PcW w σ [.ref (wad w 3 o)]) (QcV w Q) 0 0 (wA w) := by
  refine Met.ofW (cc := cX5_endCommit) (maxL := 2) (ret := none) (by decide) rfl ?_
  intro p e st m args below meth c s₁ B hml hv
  obtain ⟨hargs, hW, hT⟩ := hv
  have X : CallFix p m c cX5_endCommit 2 st _ lw_all RX5 := ⟨B.exec, B.bytes, hml, findClass_of_methodNamed B.named, fun w h => atoms_spec (ws := ws_ yX5_endCommit cX5_endCommit 2 none) B.pre w (List.mem_cons_of_mem _ h)⟩
  have hr := B.returns
  have hlk := B.notSynchronized
  have hS : va_S (wA w) st.heap st.heap [] := va_S.rf
  have vl3_o : vl w 3 o := hV.hv 3 rfl ⟨by omega, by show _ < (2 : Int); omega⟩
  have vl6_o : vl w 6 o := hV.hv 6 rfl ⟨by omega, by show _ < (2 : Int); omega⟩
  have vl7_o_4 : vl w 7 (o + 4) := hV.hv 7 rfl ⟨by omega, by show _ < (6 : Int); omega⟩
  have vl8_o_4 : vl w 8 (o + 4) := hV.hv 8 rfl ⟨by omega, by show _ < (8 : Int); omega⟩
  have hl := lv_entry ([.ref (wad w 3 o)]) (n := 2) (Nat.le_of_ble_eq_true rfl)
  have hfr := lg_entry_eq m ([.ref (wad w 3 o)]) 2
  rw [← hargs] at hfr
  rw [hfr]
  generalize (lg_sl ([.ref (wad w 3 o)]) ++ List.replicate (2 - (lg_sl ([.ref (wad w 3 o)])).length) Slot.unset).toArray = ls at hl ⊢
  have hl : lv_has ls 2 [(0, .ref (wad w 3 o))] := hl
  unfold wp_Store_endCommit at h
  refine lv_aload_n X.1 X.2.1 dX5_endCommit_0 rfl (lv_at hl 0 rfl) ?_
  refine wg (v := .ref (wad w 6 o)) X hT hW 3 2 194 vl3_o rfl rfl (by decide) rfl (by decide) in_X5 q526 rfl dX5_endCommit_1 ?_
  refine wr_V (rV (As := []) (rest := []) X hT hW hS (met_Index_written l (w := w) hV o _ σ (by omega) h) (cwV 0 X.2.2.2.2 (lw_V q1003 q1004 q1005 q139 q1006) rfl rfl rfl (by decide +kernel) ⟨Nat.le_of_ble_eq_true rfl, Nat.le_of_ble_eq_true rfl⟩) vl6_o (by decide) rfl rfl hl.1 rfl (by first | exact Nat.le_of_ble_eq_true rfl | simp [catK, catI, catR, catL]) dX5_endCommit_4 ⟨Nat.le_refl _, Nat.le_refl _⟩) hS (fun σ_161 H locs rkσ_161 h hWσ_161 hS => ?_)
  have h := h rkσ_161
  refine lv_aload_n X.1 X.2.1 dX5_endCommit_7 rfl (lv_at hl 0 rfl) ?_
  refine wr_V (rV (As := []) (rest := []) X hT hWσ_161 hS (met_Store_writeTable l (w := w) hV o _ σ_161 (by omega) h) (cwV 0 X.2.2.2.2 (lw_V q1007 q1009 qs24 q136 q1010) rfl rfl rfl (by decide +kernel) ⟨Nat.le_of_ble_eq_true rfl, Nat.le_of_ble_eq_true rfl⟩) vl3_o (by decide) rfl rfl hl.1 rfl (by first | exact Nat.le_of_ble_eq_true rfl | simp [catK, catI, catR, catL]) dX5_endCommit_8 ⟨Nat.le_refl _, Nat.le_refl _⟩) hS (fun σ_163 H locs rkσ_163 h hWσ_163 hS => ?_)
  have h := h rkσ_163
  refine lv_aload_n X.1 X.2.1 dX5_endCommit_11 rfl (lv_at hl 0 rfl) ?_
  refine wg (v := .ref (wad w 7 (o + 4))) X hT hWσ_163 3 5 197 vl3_o rfl rfl (by decide) rfl (by decide) in_X5 q530 rfl dX5_endCommit_12 ?_
  refine wr_V (rV (As := []) (rest := []) X hT hWσ_163 hS (met_Writer_flush l (w := w) hV (o + 4) _ σ_163 (by omega) h) (cwV 0 X.2.2.2.2 (lw_V q1011 q996 q997 q141 q998) rfl rfl rfl (by decide +kernel) ⟨Nat.le_of_ble_eq_true rfl, Nat.le_of_ble_eq_true rfl⟩) vl7_o_4 (by decide) rfl rfl hl.1 rfl (by first | exact Nat.le_of_ble_eq_true rfl | simp [catK, catI, catR, catL]) dX5_endCommit_15 ⟨Nat.le_refl _, Nat.le_refl _⟩) hS (fun σ_165 H locs rkσ_165 h hWσ_165 hS => ?_)
  have h := h rkσ_165
  refine lv_aload_n X.1 X.2.1 dX5_endCommit_18 rfl (lv_at hl 0 rfl) ?_
  refine lv_bipush (v := oI 6) X.1 X.2.1 dX5_endCommit_19 (by decide) ?_
  refine lv_aload_n X.1 X.2.1 dX5_endCommit_21 rfl (lv_at hl 0 rfl) ?_
  refine wg (v := .int (oI (gI σ_165 212 o))) X hT hWσ_165 3 20 212 vl3_o rfl rfl (by decide) rfl (by decide) in_X5 q550 rfl dX5_endCommit_22 ?_
  refine lv_aload_n X.1 X.2.1 dX5_endCommit_25 rfl (lv_at hl 0 rfl) ?_
  refine wg (v := .int (oI (gI σ_165 208 o))) X hT hWσ_165 3 16 208 vl3_o rfl rfl (by decide) rfl (by decide) in_X5 q546 rfl dX5_endCommit_26 ?_
  refine wr_V (rV (As := [.int (oI 6), .int (oI (gI σ_165 212 o)), .int (oI (gI σ_165 208 o))]) (rest := []) X hT hWσ_165 hS (met_Store_sheetOf l (w := w) hV o 6 (gI σ_165 212 o) (gI σ_165 208 o) _ σ_165 (by omega) ((rB_lit 6 (by decide)).i) (hWσ_165.r.i 212 o rfl) (hWσ_165.r.i 208 o rfl) h) (cwV 3 X.2.2.2.2 (lw_V q1012 q1014 qs25 q136 q1015) rfl rfl rfl (by decide +kernel) ⟨Nat.le_of_ble_eq_true rfl, Nat.le_of_ble_eq_true rfl⟩) vl3_o (by decide) rfl rfl hl.1 rfl (by first | exact Nat.le_of_ble_eq_true rfl | simp [catK, catI, catR, catL]) dX5_endCommit_29 ⟨Nat.le_refl _, Nat.le_refl _⟩) hS (fun σ_167 H locs rkσ_167 h hWσ_167 hS => ?_)
  have h := h rkσ_167
  refine lv_aload_n X.1 X.2.1 dX5_endCommit_32 rfl (lv_at hl 0 rfl) ?_
  refine wg (v := .ref (wad w 8 (o + 4))) X hT hWσ_167 3 8 200 vl3_o rfl rfl (by decide) rfl (by decide) in_X5 q534 rfl dX5_endCommit_33 ?_
  refine lv_bipush (v := oI 8) X.1 X.2.1 dX5_endCommit_36 (by decide) ?_
  refine lv_aload_n X.1 X.2.1 dX5_endCommit_38 rfl (lv_at hl 0 rfl) ?_
  refine wg (v := .ref (wad w 6 o)) X hT hWσ_167 3 2 194 vl3_o rfl rfl (by decide) rfl (by decide) in_X5 q526 rfl dX5_endCommit_39 ?_
  refine wg (v := va_rf (knO w (gI σ_167 387 o))) X hT hWσ_167 6 3 387 vl6_o rfl rfl (by decide) rfl (by decide) in_X8 q446 rfl dX5_endCommit_42 ?_
  obtain ⟨hz_168, h⟩ := h
  rw [knR hz_168]
  refine wg (v := .int (oI (gI σ_167 585 (gI σ_167 387 o)))) X hT hWσ_167 9 9 585 (hV.hv 9 rfl ⟨hz_168, (hWσ_167.r.k 387 o rfl).2⟩) rfl rfl (by decide) rfl (by decide) in_X9 q412 rfl dX5_endCommit_45 ?_
  refine wr_R (rV (As := [.int (oI 8), .int (oI (gI σ_167 585 (gI σ_167 387 o)))]) (rest := []) X hT hWσ_167 hS (met_Row_put l (w := w) hV (o + 4) 8 (gI σ_167 585 (gI σ_167 387 o)) _ σ_167 (by omega) ((rB_lit 8 (by decide)).i) (hWσ_167.r.i 585 (gI σ_167 387 o) rfl) h) (cwV 2 X.2.2.2.2 (lw_V q747 q748 q749 q132 q750) rfl rfl rfl (by decide +kernel) ⟨Nat.le_of_ble_eq_true rfl, Nat.le_of_ble_eq_true rfl⟩) vl8_o_4 (by decide) rfl rfl hl.1 rfl (by first | exact Nat.le_of_ble_eq_true rfl | simp [catK, catI, catR, catL]) dX5_endCommit_48 ⟨Nat.le_refl _, Nat.le_refl _⟩) hS (fun σ_170 H locs rkσ_170 h hWσ_170 hS => ?_)
  have h := h rkσ_170
  refine lv_bipush (v := oI 12) X.1 X.2.1 dX5_endCommit_51 (by decide) ?_
  refine lv_aload_n X.1 X.2.1 dX5_endCommit_53 rfl (lv_at hl 0 rfl) ?_
  refine wg (v := .ref (wad w 6 o)) X hT hWσ_170 3 2 194 vl3_o rfl rfl (by decide) rfl (by decide) in_X5 q526 rfl dX5_endCommit_54 ?_
  refine wg (v := va_rf (knO w (gI σ_170 387 o))) X hT hWσ_170 6 3 387 vl6_o rfl rfl (by decide) rfl (by decide) in_X8 q446 rfl dX5_endCommit_57 ?_
  obtain ⟨hz_171, h⟩ := h
  rw [knR hz_171]
  refine wg (v := .int (oI (gI σ_170 586 (gI σ_170 387 o)))) X hT hWσ_170 9 10 586 (hV.hv 9 rfl ⟨hz_171, (hWσ_170.r.k 387 o rfl).2⟩) rfl rfl (by decide) rfl (by decide) in_X9 q413 rfl dX5_endCommit_60 ?_
  refine wr_R (rV (As := [.int (oI 12), .int (oI (gI σ_170 586 (gI σ_170 387 o)))]) (rest := []) X hT hWσ_170 hS (met_Row_put l (w := w) hV (o + 4) 12 (gI σ_170 586 (gI σ_170 387 o)) _ σ_170 (by omega) ((rB_lit 12 (by decide)).i) (hWσ_170.r.i 586 (gI σ_170 387 o) rfl) h) (cwV 2 X.2.2.2.2 (lw_V q747 q748 q749 q132 q750) rfl rfl rfl (by decide +kernel) ⟨Nat.le_of_ble_eq_true rfl, Nat.le_of_ble_eq_true rfl⟩) vl8_o_4 (by decide) rfl rfl hl.1 rfl (by first | exact Nat.le_of_ble_eq_true rfl | simp [catK, catI, catR, catL]) dX5_endCommit_63 ⟨Nat.le_refl _, Nat.le_refl _⟩) hS (fun σ_173 H locs rkσ_173 h hWσ_173 hS => ?_)
  have h := h rkσ_173
  refine lv_bipush (v := oI 16) X.1 X.2.1 dX5_endCommit_66 (by decide) ?_
  refine lv_aload_n X.1 X.2.1 dX5_endCommit_68 rfl (lv_at hl 0 rfl) ?_
  refine wg (v := .ref (wad w 6 o)) X hT hWσ_173 3 2 194 vl3_o rfl rfl (by decide) rfl (by decide) in_X5 q526 rfl dX5_endCommit_69 ?_
  refine wg (v := va_rf (knO w (gI σ_173 387 o))) X hT hWσ_173 6 3 387 vl6_o rfl rfl (by decide) rfl (by decide) in_X8 q446 rfl dX5_endCommit_72 ?_
  obtain ⟨hz_174, h⟩ := h
  rw [knR hz_174]
  refine wg (v := .int (oI (gI σ_173 587 (gI σ_173 387 o)))) X hT hWσ_173 9 11 587 (hV.hv 9 rfl ⟨hz_174, (hWσ_173.r.k 387 o rfl).2⟩) rfl rfl (by decide) rfl (by decide) in_X9 q416 rfl dX5_endCommit_75 ?_
  refine wr_R (rV (As := [.int (oI 16), .int (oI (gI σ_173 587 (gI σ_173 387 o)))]) (rest := []) X hT hWσ_173 hS (met_Row_put l (w := w) hV (o + 4) 16 (gI σ_173 587 (gI σ_173 387 o)) _ σ_173 (by omega) ((rB_lit 16 (by decide)).i) (hWσ_173.r.i 587 (gI σ_173 387 o) rfl) h) (cwV 2 X.2.2.2.2 (lw_V q747 q748 q749 q132 q750) rfl rfl rfl (by decide +kernel) ⟨Nat.le_of_ble_eq_true rfl, Nat.le_of_ble_eq_true rfl⟩) vl8_o_4 (by decide) rfl rfl hl.1 rfl (by first | exact Nat.le_of_ble_eq_true rfl | simp [catK, catI, catR, catL]) dX5_endCommit_78 ⟨Nat.le_refl _, Nat.le_refl _⟩) hS (fun σ_176 H locs rkσ_176 h hWσ_176 hS => ?_)
  have h := h rkσ_176
  refine lv_bipush (v := oI 20) X.1 X.2.1 dX5_endCommit_81 (by decide) ?_
  refine lv_aload_n X.1 X.2.1 dX5_endCommit_83 rfl (lv_at hl 0 rfl) ?_
  refine wg (v := .int (oI (gI σ_176 203 o))) X hT hWσ_176 3 11 203 vl3_o rfl rfl (by decide) rfl (by decide) in_X5 q537 rfl dX5_endCommit_84 ?_
  refine wr_R (rV (As := [.int (oI 20), .int (oI (gI σ_176 203 o))]) (rest := []) X hT hWσ_176 hS (met_Row_put l (w := w) hV (o + 4) 20 (gI σ_176 203 o) _ σ_176 (by omega) ((rB_lit 20 (by decide)).i) (hWσ_176.r.i 203 o rfl) h) (cwV 2 X.2.2.2.2 (lw_V q747 q748 q749 q132 q750) rfl rfl rfl (by decide +kernel) ⟨Nat.le_of_ble_eq_true rfl, Nat.le_of_ble_eq_true rfl⟩) vl8_o_4 (by decide) rfl rfl hl.1 rfl (by first | exact Nat.le_of_ble_eq_true rfl | simp [catK, catI, catR, catL]) dX5_endCommit_87 ⟨Nat.le_refl _, Nat.le_refl _⟩) hS (fun σ_178 H locs rkσ_178 h hWσ_178 hS => ?_)
  have h := h rkσ_178
  refine lv_pop X.1 X.2.1 dX5_endCommit_90 rfl ?_
  refine lv_aload_n X.1 X.2.1 dX5_endCommit_91 rfl (lv_at hl 0 rfl) ?_
  refine wg (v := .ref (wad w 8 (o + 4))) X hT hWσ_178 3 8 200 vl3_o rfl rfl (by decide) rfl (by decide) in_X5 q534 rfl dX5_endCommit_92 ?_
  refine lv_bipush (v := oI 24) X.1 X.2.1 dX5_endCommit_95 (by decide) ?_
  refine lv_aload_n X.1 X.2.1 dX5_endCommit_97 rfl (lv_at hl 0 rfl) ?_
  refine wg (v := .int (oI (gI σ_178 214 o))) X hT hWσ_178 3 22 214 vl3_o rfl rfl (by decide) rfl (by decide) in_X5 q552 rfl dX5_endCommit_98 ?_
  refine wr_R (rV (As := [.int (oI 24), .int (oI (gI σ_178 214 o))]) (rest := []) X hT hWσ_178 hS (met_Row_put l (w := w) hV (o + 4) 24 (gI σ_178 214 o) _ σ_178 (by omega) ((rB_lit 24 (by decide)).i) (hWσ_178.r.i 214 o rfl) h) (cwV 2 X.2.2.2.2 (lw_V q747 q748 q749 q132 q750) rfl rfl rfl (by decide +kernel) ⟨Nat.le_of_ble_eq_true rfl, Nat.le_of_ble_eq_true rfl⟩) vl8_o_4 (by decide) rfl rfl hl.1 rfl (by first | exact Nat.le_of_ble_eq_true rfl | simp [catK, catI, catR, catL]) dX5_endCommit_101 ⟨Nat.le_refl _, Nat.le_refl _⟩) hS (fun σ_180 H locs rkσ_180 h hWσ_180 hS => ?_)
  have h := h rkσ_180
  refine lv_bipush (v := oI 28) X.1 X.2.1 dX5_endCommit_104 (by decide) ?_
  refine lv_aload_n X.1 X.2.1 dX5_endCommit_106 rfl (lv_at hl 0 rfl) ?_
  refine wg (v := .int (oI (gI σ_180 215 o))) X hT hWσ_180 3 23 215 vl3_o rfl rfl (by decide) rfl (by decide) in_X5 q553 rfl dX5_endCommit_107 ?_
  refine wr_R (rV (As := [.int (oI 28), .int (oI (gI σ_180 215 o))]) (rest := []) X hT hWσ_180 hS (met_Row_put l (w := w) hV (o + 4) 28 (gI σ_180 215 o) _ σ_180 (by omega) ((rB_lit 28 (by decide)).i) (hWσ_180.r.i 215 o rfl) h) (cwV 2 X.2.2.2.2 (lw_V q747 q748 q749 q132 q750) rfl rfl rfl (by decide +kernel) ⟨Nat.le_of_ble_eq_true rfl, Nat.le_of_ble_eq_true rfl⟩) vl8_o_4 (by decide) rfl rfl hl.1 rfl (by first | exact Nat.le_of_ble_eq_true rfl | simp [catK, catI, catR, catL]) dX5_endCommit_110 ⟨Nat.le_refl _, Nat.le_refl _⟩) hS (fun σ_182 H locs rkσ_182 h hWσ_182 hS => ?_)
  have h := h rkσ_182
  refine lv_bipush (v := oI 32) X.1 X.2.1 dX5_endCommit_113 (by decide) ?_
  refine lv_aload_n X.1 X.2.1 dX5_endCommit_115 rfl (lv_at hl 0 rfl) ?_
  refine wg (v := .int (oI (gI σ_182 216 o))) X hT hWσ_182 3 24 216 vl3_o rfl rfl (by decide) rfl (by decide) in_X5 q554 rfl dX5_endCommit_116 ?_
  refine wr_R (rV (As := [.int (oI 32), .int (oI (gI σ_182 216 o))]) (rest := []) X hT hWσ_182 hS (met_Row_put l (w := w) hV (o + 4) 32 (gI σ_182 216 o) _ σ_182 (by omega) ((rB_lit 32 (by decide)).i) (hWσ_182.r.i 216 o rfl) h) (cwV 2 X.2.2.2.2 (lw_V q747 q748 q749 q132 q750) rfl rfl rfl (by decide +kernel) ⟨Nat.le_of_ble_eq_true rfl, Nat.le_of_ble_eq_true rfl⟩) vl8_o_4 (by decide) rfl rfl hl.1 rfl (by first | exact Nat.le_of_ble_eq_true rfl | simp [catK, catI, catR, catL]) dX5_endCommit_119 ⟨Nat.le_refl _, Nat.le_refl _⟩) hS (fun σ_184 H locs rkσ_184 h hWσ_184 hS => ?_)
  have h := h rkσ_184
  refine lv_pop X.1 X.2.1 dX5_endCommit_122 rfl ?_
  refine lv_aload_n X.1 X.2.1 dX5_endCommit_123 rfl (lv_at hl 0 rfl) ?_
  refine wg (v := .ref (wad w 8 (o + 4))) X hT hWσ_184 3 8 200 vl3_o rfl rfl (by decide) rfl (by decide) in_X5 q534 rfl dX5_endCommit_124 ?_
  refine lv_aload_n X.1 X.2.1 dX5_endCommit_127 rfl (lv_at hl 0 rfl) ?_
  refine wr_J (rV (As := []) (rest := [.ref (wad w 8 (o + 4))]) X hT hWσ_184 hS (met_Store_serial l (w := w) hV o _ σ_184 (by omega) h) (cwV 0 X.2.2.2.2 (lw_V q751 q752 q753 q136 q754) rfl rfl rfl (by decide +kernel) ⟨Nat.le_of_ble_eq_true rfl, Nat.le_of_ble_eq_true rfl⟩) vl3_o (by decide) rfl rfl hl.1 rfl (by first | exact Nat.le_of_ble_eq_true rfl | simp [catK, catI, catR, catL]) dX5_endCommit_128 ⟨Nat.le_refl _, Nat.le_refl _⟩) hS (fun r_185 σ_186 H locs rr_185 rkσ_186 h hWσ_186 hS => ?_)
  have h := h rr_185 rkσ_186
  refine lv_iconst (v := oI 1) X.1 X.2.1 dX5_endCommit_131 rfl ?_
  refine wr_V (rV (As := [.long (oL r_185), .int (oI 1)]) (rest := []) X hT hWσ_186 hS (met_Row_close l (w := w) hV (o + 4) r_185 1 _ σ_186 (by omega) rr_185 rZ_1 h) (cwV 2 X.2.2.2.2 (lw_V q755 q756 q757 q132 q758) rfl rfl rfl (by decide +kernel) ⟨Nat.le_of_ble_eq_true rfl, Nat.le_of_ble_eq_true rfl⟩) vl8_o_4 (by decide) rfl rfl hl.1 rfl (by first | exact Nat.le_of_ble_eq_true rfl | simp [catK, catI, catR, catL]) dX5_endCommit_132 ⟨Nat.le_refl _, Nat.le_refl _⟩) hS (fun σ_188 H locs rkσ_188 h hWσ_188 hS => ?_)
  have h := h rkσ_188
  refine lv_iconst (v := oI 0) X.1 X.2.1 dX5_endCommit_135 rfl ?_
  refine lv_istore_n (i := 1) (lv' := [(1, .int (oI 0)), (0, .ref (wad w 3 o))]) X.1 X.2.1 dX5_endCommit_136 rfl hl (by decide) (by first | rfl | simp [catK, catI, catR, catL]) (fun ls hl => ?_)
  exact wk_Store_endCommit_L137 X hr hlk hT hV ho 0 σ_188 _ _ _ rZ_0.i (lv_sub hl [1, 0] rfl) hWσ_188 hS h
/-! Store.commitStep()V -/
set_option maxHeartbeats 4000000 in
set_option maxRecDepth 100000 in
theorem met_Store_commitStep (l : Launch) {w : Wp} (hV : Hvl w) (o : Int) (Q : St → Prop) (σ : St) (ho : 0 ≤ o ∧ o < 2) (h : wp_Store_commitStep (wc w) (wtv w) o Q σ) : Met l yX5_commitStep (ws_ yX5_commitStep cX5_commitStep 1 none) rm_Store_commitStep (PcW w σ [.ref (wad w 3 o)]) (QcV w Q) 0 0 (wA w) := by
  refine Met.ofW (cc := cX5_commitStep) (maxL := 1) (ret := none) (by decide) rfl ?_
  intro p e st m args below meth c s₁ B hml hv
  obtain ⟨hargs, hW, hT⟩ := hv
  have X : CallFix p m c cX5_commitStep 1 st _ lw_all RX5 := ⟨B.exec, B.bytes, hml, findClass_of_methodNamed B.named, fun w h => atoms_spec (ws := ws_ yX5_commitStep cX5_commitStep 1 none) B.pre w (List.mem_cons_of_mem _ h)⟩
  have hr := B.returns
  have hlk := B.notSynchronized
  have hS : va_S (wA w) st.heap st.heap [] := va_S.rf
  have vl220_o : vl w 220 o := hV.hv 220 rfl ⟨by omega, by show _ < (2 : Int); omega⟩
  have vl3_o : vl w 3 o := hV.hv 3 rfl ⟨by omega, by show _ < (2 : Int); omega⟩
  have hl := lv_entry ([.ref (wad w 3 o)]) (n := 1) (Nat.le_of_ble_eq_true rfl)
  have hfr := lg_entry_eq m ([.ref (wad w 3 o)]) 1
  rw [← hargs] at hfr
  rw [hfr]
  generalize (lg_sl ([.ref (wad w 3 o)]) ++ List.replicate (1 - (lg_sl ([.ref (wad w 3 o)])).length) Slot.unset).toArray = ls at hl ⊢
  have hl : lv_has ls 1 [(0, .ref (wad w 3 o))] := hl
  unfold wp_Store_commitStep at h
  refine lv_aload_n X.1 X.2.1 dX5_commitStep_0 rfl (lv_at hl 0 rfl) ?_
  refine wg (v := .int (oI (gI σ 222 o))) X hT hW 3 30 222 vl3_o rfl rfl (by decide) rfl (by decide) in_X5 q562 rfl dX5_commitStep_1 ?_
  refine lv_aload_n X.1 X.2.1 dX5_commitStep_4 rfl (lv_at hl 0 rfl) ?_
  refine wg (v := .int (oI (gI σ 221 o))) X hT hW 3 29 221 vl3_o rfl rfl (by decide) rfl (by decide) in_X5 q561 rfl dX5_commitStep_5 ?_
  refine w_icmp_ge (tgt := 34) X (hW.r.i 222 o rfl) (hW.r.i 221 o rfl) dX5_commitStep_8 (by decide) (fun hc => ?_) (fun hc => ?_)
  · have h := h.1 hc
    refine lv_aload_n X.1 X.2.1 dX5_commitStep_34 rfl (lv_at hl 0 rfl) ?_
    refine wr_V (rV (As := []) (rest := []) X hT hW hS (met_Store_endCommit l (w := w) hV o _ σ (by omega) h) (cwV 0 X.2.2.2.2 (lw_V q999 q1001 qs23 q136 q1002) rfl rfl rfl (by decide +kernel) ⟨Nat.le_of_ble_eq_true rfl, Nat.le_of_ble_eq_true rfl⟩) vl3_o (by decide) rfl rfl hl.1 rfl (by first | exact Nat.le_of_ble_eq_true rfl | simp [catK, catI, catR, catL]) dX5_commitStep_35 ⟨Nat.le_refl _, Nat.le_refl _⟩) hS (fun σ_7 H locs rkσ_7 h hWσ_7 hS => ?_)
    have h := h rkσ_7
    exact wret_V X hr hlk hWσ_7 hS h dX5_commitStep_38
  · have h := h.2 hc
    refine lv_aload_n X.1 X.2.1 dX5_commitStep_11 rfl (lv_at hl 0 rfl) ?_
    refine lv_aload_n X.1 X.2.1 dX5_commitStep_12 rfl (lv_at hl 0 rfl) ?_
    refine wg (v := .ref (wad w 220 o)) X hT hW 3 28 220 vl3_o rfl rfl (by decide) rfl (by decide) in_X5 q560 rfl dX5_commitStep_13 ?_
    refine lv_aload_n X.1 X.2.1 dX5_commitStep_16 rfl (lv_at hl 0 rfl) ?_
    refine lv_dup X.1 X.2.1 dX5_commitStep_17 rfl ?_
    refine wg (v := .int (oI (gI σ 222 o))) X hT hW 3 30 222 vl3_o rfl rfl (by decide) rfl (by decide) in_X5 q562 rfl dX5_commitStep_18 ?_
    refine lv_dup_x1 X.1 X.2.1 dX5_commitStep_21 rfl rfl ?_
    refine lv_iconst (v := oI 1) X.1 X.2.1 dX5_commitStep_22 rfl ?_
    refine w_iadd X dX5_commitStep_23 ?_
    refine wput (z := w32 ((gI σ 222 o) + 1)) X hT hW hS 3 30 222 vl3_o rfl rfl (by decide) rfl (by decide) in_X5 tyX5 tyX5_ok nmX5 q562 rfl rfl (w32_r _) (fv0 w rfl) rfl rfl dX5_commitStep_24 (fun H locs hN hS => ?_)
    obtain ⟨σ_8, eσ_8⟩ : ∃ x, x = sI σ 222 o (w32 ((gI σ 222 o) + 1)) := ⟨_, rfl⟩
    have hWσ_8 : Wo w σ_8 H := eσ_8 ▸ hN
    have h := h σ_8 eσ_8
    clear hN
    obtain ⟨bi, h⟩ := h
    refine w_aald (n := 320) X hT hWσ_8 220 vl220_o (by decide) rfl rfl bi dX5_commitStep_27 ?_
    refine wr_V (rV (As := [va_rf (knO w (gA σ_8 220 o (gI σ 222 o)))]) (rest := []) X hT hWσ_8 hS (met_Store_writeKnot l (w := w) hV o (gA σ_8 220 o (gI σ 222 o)) _ σ_8 (by omega) (hWσ_8.r.ak 220 o (gI σ 222 o) rfl) h) (cwV 1 X.2.2.2.2 (lw_V q971 q973 qs21 q136 q974) rfl rfl rfl (by decide +kernel) ⟨Nat.le_of_ble_eq_true rfl, Nat.le_of_ble_eq_true rfl⟩) vl3_o (by decide) rfl rfl hl.1 rfl (by first | exact Nat.le_of_ble_eq_true rfl | simp [catK, catI, catR, catL]) dX5_commitStep_28 ⟨Nat.le_refl _, Nat.le_refl _⟩) hS (fun σ_10 H locs rkσ_10 h hWσ_10 hS => ?_)
    have h := h rkσ_10
    refine lv_goto (tgt := 38) X.1 X.2.1 dX5_commitStep_31 (by decide) ?_
    exact wret_V X hr hlk hWσ_10 hS h dX5_commitStep_38
/-! Store.finish()V -/
set_option maxHeartbeats 4000000 in
set_option maxRecDepth 100000 in
theorem wk_Store_finish_L0B {p : Program} {l : Launch} {e : Env} {st : State} {m : MethodId} {args : Array Value} {below : List Frame} {meth : Method} {c : Code} {w : Wp} {o : Int} {Q : St → Prop} (X : CallFix p m c cX5_finish 1 st args lw_all RX5) (hr : meth.sig.returnType = none) (hlk : meth.locks = false) (hT : Tb w st) (hV : Hvl w) (ho : 0 ≤ o ∧ o < 2) (K0 : St → Prop) (hK0 : ∀ (σ : St) (H : Heap) (locs : List Loc) (ls : Array Slot), lv_has ls 1 [(0, .ref (wad w 3 o))] → Wo w σ H → va_S (wA w) st.heap H locs → K0 σ → W p l e (headSpec (ws_ yX5_finish cX5_finish 1 none) rm_Store_finish).room st m args below meth c H locs 0 0 (MQ below (QcV w Q) args st 0 0 (wA w)) (F0 m 0 ls [])) : ∀ (σ : St) (H : Heap) (locs : List Loc) (ls : Array Slot), lv_has ls 1 [(0, .ref (wad w 3 o))] → Wo w σ H → va_S (wA w) st.heap H locs → wp_Store_finish_L0 (wc w) (wtv w) o Q K0 σ → W p l e (headSpec (ws_ yX5_finish cX5_finish 1 none) rm_Store_finish).room st m args below meth c H locs 0 0 (MQ below (QcV w Q) args st 0 0 (wA w)) (F0 m 0 ls []) := by
  have vl3_o : vl w 3 o := hV.hv 3 rfl ⟨by omega, by show _ < (2 : Int); omega⟩
  intro σ H locs ls hl hW hS h
  unfold wp_Store_finish_L0 at h
  refine lv_aload_n X.1 X.2.1 dX5_finish_0 rfl (lv_at hl 0 rfl) ?_
  refine wg (v := .int (oI (gI σ 213 o))) X hT hW 3 21 213 vl3_o rfl rfl (by decide) rfl (by decide) in_X5 q551 rfl dX5_finish_1 ?_
  refine w_if_eq (tgt := 14) X ((hW.r.z 213 o rfl).i) dX5_finish_4 (by decide) (fun hc => ?_) (fun hc => ?_)
  · have h := h.1 hc
    exact wret_V X hr hlk hW hS h dX5_finish_14
  · have h := h.2 hc
    refine lv_aload_n X.1 X.2.1 dX5_finish_7 rfl (lv_at hl 0 rfl) ?_
    refine wr_V (rV (As := []) (rest := []) X hT hW hS (met_Store_commitStep l (w := w) hV o _ σ (by omega) h) (cwV 0 X.2.2.2.2 (lw_V q967 q969 qs20 q136 q970) rfl rfl rfl (by decide +kernel) ⟨Nat.le_of_ble_eq_true rfl, Nat.le_of_ble_eq_true rfl⟩) vl3_o (by decide) rfl rfl hl.1 rfl (by first | exact Nat.le_of_ble_eq_true rfl | simp [catK, catI, catR, catL]) dX5_finish_8 ⟨Nat.le_refl _, Nat.le_refl _⟩) hS (fun σ_4 H locs rkσ_4 h hWσ_4 hS => ?_)
    have h := h rkσ_4
    refine lv_goto (tgt := 0) X.1 X.2.1 dX5_finish_11 (by decide) ?_
    exact hK0 σ_4 _ _ _ (lv_sub hl [0] rfl) hWσ_4 hS h
theorem wk_Store_finish_L0 {p : Program} {l : Launch} {e : Env} {st : State} {m : MethodId} {args : Array Value} {below : List Frame} {meth : Method} {c : Code} {w : Wp} {o : Int} {Q : St → Prop} (X : CallFix p m c cX5_finish 1 st args lw_all RX5) (hr : meth.sig.returnType = none) (hlk : meth.locks = false) (hT : Tb w st) (hV : Hvl w) (ho : 0 ≤ o ∧ o < 2) : ∀ (σ : St) (H : Heap) (locs : List Loc) (ls : Array Slot), lv_has ls 1 [(0, .ref (wad w 3 o))] → Wo w σ H → va_S (wA w) st.heap H locs → lQ0 (wp_Store_finish_L0 (wc w) (wtv w) o Q) σ → W p l e (headSpec (ws_ yX5_finish cX5_finish 1 none) rm_Store_finish).room st m args below meth c H locs 0 0 (MQ below (QcV w Q) args st 0 0 (wA w)) (F0 m 0 ls []) := by
  intro σ H locs ls hl hW hS h
  obtain ⟨fu, h⟩ := h
  induction fu generalizing σ H locs ls with
  | zero => exact h.elim
  | succ fu ih =>
    exact wk_Store_finish_L0B X hr hlk hT hV ho (lq0 (wp_Store_finish_L0 (wc w) (wtv w) o Q) fu) (fun σ H locs ls hl hW hS h => ih σ H locs ls hl hW hS h) σ H locs ls hl hW hS h
set_option maxHeartbeats 4000000 in
set_option maxRecDepth 100000 in
theorem met_Store_finish (l : Launch) {w : Wp} (hV : Hvl w) (o : Int) (Q : St → Prop) (σ : St) (ho : 0 ≤ o ∧ o < 2) (h : wp_Store_finish (wc w) (wtv w) o Q σ) : Met l yX5_finish (ws_ yX5_finish cX5_finish 1 none) rm_Store_finish (PcW w σ [.ref (wad w 3 o)]) (QcV w Q) 0 0 (wA w) := by
  refine Met.ofW (cc := cX5_finish) (maxL := 1) (ret := none) (by decide) rfl ?_
  intro p e st m args below meth c s₁ B hml hv
  obtain ⟨hargs, hW, hT⟩ := hv
  have X : CallFix p m c cX5_finish 1 st _ lw_all RX5 := ⟨B.exec, B.bytes, hml, findClass_of_methodNamed B.named, fun w h => atoms_spec (ws := ws_ yX5_finish cX5_finish 1 none) B.pre w (List.mem_cons_of_mem _ h)⟩
  have hr := B.returns
  have hlk := B.notSynchronized
  have hS : va_S (wA w) st.heap st.heap [] := va_S.rf
  have vl3_o : vl w 3 o := hV.hv 3 rfl ⟨by omega, by show _ < (2 : Int); omega⟩
  have hl := lv_entry ([.ref (wad w 3 o)]) (n := 1) (Nat.le_of_ble_eq_true rfl)
  have hfr := lg_entry_eq m ([.ref (wad w 3 o)]) 1
  rw [← hargs] at hfr
  rw [hfr]
  generalize (lg_sl ([.ref (wad w 3 o)]) ++ List.replicate (1 - (lg_sl ([.ref (wad w 3 o)])).length) Slot.unset).toArray = ls at hl ⊢
  have hl : lv_has ls 1 [(0, .ref (wad w 3 o))] := hl
  unfold wp_Store_finish at h
  exact wk_Store_finish_L0 X hr hlk hT hV ho σ _ _ _ (lv_sub hl [0] rfl) hW hS h
/-! Store.logBud(II)V -/
set_option maxHeartbeats 4000000 in
set_option maxRecDepth 100000 in
theorem met_Store_logBud (l : Launch) {w : Wp} (hV : Hvl w) (o : Int) (x1 : Int) (x2 : Int) (Q : St → Prop) (σ : St) (ho : 0 ≤ o ∧ o < 2) (rx1 : rI x1) (rx2 : rI x2) (h : wp_Store_logBud (wc w) (wtv w) o x1 x2 Q σ) : Met l yX5_logBud (ws_ yX5_logBud cX5_logBud 3 none) rm_Store_logBud (PcW w σ [.ref (wad w 3 o), .int (oI x1), .int (oI x2)]) (QcV w Q) 0 0 (wA w) := by
  refine Met.ofW (cc := cX5_logBud) (maxL := 3) (ret := none) (by decide) rfl ?_
  intro p e st m args below meth c s₁ B hml hv
  obtain ⟨hargs, hW, hT⟩ := hv
  have X : CallFix p m c cX5_logBud 3 st _ lw_all RX5 := ⟨B.exec, B.bytes, hml, findClass_of_methodNamed B.named, fun w h => atoms_spec (ws := ws_ yX5_logBud cX5_logBud 3 none) B.pre w (List.mem_cons_of_mem _ h)⟩
  have hr := B.returns
  have hlk := B.notSynchronized
  have hS : va_S (wA w) st.heap st.heap [] := va_S.rf
  have vl210_o : vl w 210 o := hV.hv 210 rfl ⟨by omega, by show _ < (2 : Int); omega⟩
  have vl3_o : vl w 3 o := hV.hv 3 rfl ⟨by omega, by show _ < (2 : Int); omega⟩
  have vl4_o : vl w 4 o := hV.hv 4 rfl ⟨by omega, by show _ < (2 : Int); omega⟩
  have vl512_o_4 : vl w 512 (o + 4) := hV.hv 512 rfl ⟨by omega, by show _ < (8 : Int); omega⟩
  have vl8_o_4 : vl w 8 (o + 4) := hV.hv 8 rfl ⟨by omega, by show _ < (8 : Int); omega⟩
  have hl := lv_entry ([.ref (wad w 3 o), .int (oI x1), .int (oI x2)]) (n := 3) (Nat.le_of_ble_eq_true rfl)
  have hfr := lg_entry_eq m ([.ref (wad w 3 o), .int (oI x1), .int (oI x2)]) 3
  rw [← hargs] at hfr
  rw [hfr]
  generalize (lg_sl ([.ref (wad w 3 o), .int (oI x1), .int (oI x2)]) ++ List.replicate (3 - (lg_sl ([.ref (wad w 3 o), .int (oI x1), .int (oI x2)])).length) Slot.unset).toArray = ls at hl ⊢
  have hl : lv_has ls 3 [(0, .ref (wad w 3 o)), (1, .int (oI x1)), (2, .int (oI x2))] := hl
  unfold wp_Store_logBud at h
  refine lv_aload_n X.1 X.2.1 dX5_logBud_0 rfl (lv_at hl 0 rfl) ?_
  refine lv_bipush (v := oI 8) X.1 X.2.1 dX5_logBud_1 (by decide) ?_
  refine lv_iload_n X.1 X.2.1 dX5_logBud_3 rfl (lv_at hl 1 rfl) ?_
  refine lv_iload_n X.1 X.2.1 dX5_logBud_4 rfl (lv_at hl 2 rfl) ?_
  refine wr_V (rV (As := [.int (oI 8), .int (oI x1), .int (oI x2)]) (rest := []) X hT hW hS (met_Store_sheetOf l (w := w) hV o 8 x1 x2 _ σ (by omega) ((rB_lit 8 (by decide)).i) rx1 rx2 h) (cwV 3 X.2.2.2.2 (lw_V q1012 q1014 qs25 q136 q1015) rfl rfl rfl (by decide +kernel) ⟨Nat.le_of_ble_eq_true rfl, Nat.le_of_ble_eq_true rfl⟩) vl3_o (by decide) rfl rfl hl.1 rfl (by first | exact Nat.le_of_ble_eq_true rfl | simp [catK, catI, catR, catL]) dX5_logBud_5 ⟨Nat.le_refl _, Nat.le_refl _⟩) hS (fun σ_13 H locs rkσ_13 h hWσ_13 hS => ?_)
  have h := h rkσ_13
  refine lv_aload_n X.1 X.2.1 dX5_logBud_8 rfl (lv_at hl 0 rfl) ?_
  refine wg (v := .ref (wad w 8 (o + 4))) X hT hWσ_13 3 8 200 vl3_o rfl rfl (by decide) rfl (by decide) in_X5 q534 rfl dX5_logBud_9 ?_
  refine lv_aload_n X.1 X.2.1 dX5_logBud_12 rfl (lv_at hl 0 rfl) ?_
  refine wr_J (rV (As := []) (rest := [.ref (wad w 8 (o + 4))]) X hT hWσ_13 hS (met_Store_serial l (w := w) hV o _ σ_13 (by omega) h) (cwV 0 X.2.2.2.2 (lw_V q751 q752 q753 q136 q754) rfl rfl rfl (by decide +kernel) ⟨Nat.le_of_ble_eq_true rfl, Nat.le_of_ble_eq_true rfl⟩) vl3_o (by decide) rfl rfl hl.1 rfl (by first | exact Nat.le_of_ble_eq_true rfl | simp [catK, catI, catR, catL]) dX5_logBud_13 ⟨Nat.le_refl _, Nat.le_refl _⟩) hS (fun r_14 σ_15 H locs rr_14 rkσ_15 h hWσ_15 hS => ?_)
  have h := h rr_14 rkσ_15
  refine lv_iconst (v := oI 1) X.1 X.2.1 dX5_logBud_16 rfl ?_
  refine wr_V (rV (As := [.long (oL r_14), .int (oI 1)]) (rest := []) X hT hWσ_15 hS (met_Row_close l (w := w) hV (o + 4) r_14 1 _ σ_15 (by omega) rr_14 rZ_1 h) (cwV 2 X.2.2.2.2 (lw_V q755 q756 q757 q132 q758) rfl rfl rfl (by decide +kernel) ⟨Nat.le_of_ble_eq_true rfl, Nat.le_of_ble_eq_true rfl⟩) vl8_o_4 (by decide) rfl rfl hl.1 rfl (by first | exact Nat.le_of_ble_eq_true rfl | simp [catK, catI, catR, catL]) dX5_logBud_17 ⟨Nat.le_refl _, Nat.le_refl _⟩) hS (fun σ_17 H locs rkσ_17 h hWσ_17 hS => ?_)
  have h := h rkσ_17
  refine lv_aload_n X.1 X.2.1 dX5_logBud_20 rfl (lv_at hl 0 rfl) ?_
  refine wg (v := .ref (wad w 4 o)) X hT hWσ_17 3 0 192 vl3_o rfl rfl (by decide) rfl (by decide) in_X5 q523 rfl dX5_logBud_21 ?_
  refine lv_aload_n X.1 X.2.1 dX5_logBud_24 rfl (lv_at hl 0 rfl) ?_
  refine wg (v := .int (oI (gI σ_17 208 o))) X hT hWσ_17 3 16 208 vl3_o rfl rfl (by decide) rfl (by decide) in_X5 q546 rfl dX5_logBud_25 ?_
  refine lv_aload_n X.1 X.2.1 dX5_logBud_28 rfl (lv_at hl 0 rfl) ?_
  refine lv_dup X.1 X.2.1 dX5_logBud_29 rfl ?_
  refine wg (v := .int (oI (gI σ_17 209 o))) X hT hWσ_17 3 17 209 vl3_o rfl rfl (by decide) rfl (by decide) in_X5 q547 rfl dX5_logBud_30 ?_
  refine lv_dup_x1 X.1 X.2.1 dX5_logBud_33 rfl rfl ?_
  refine lv_iconst (v := oI 1) X.1 X.2.1 dX5_logBud_34 rfl ?_
  refine w_iadd X dX5_logBud_35 ?_
  refine wput (z := w32 ((gI σ_17 209 o) + 1)) X hT hWσ_17 hS 3 17 209 vl3_o rfl rfl (by decide) rfl (by decide) in_X5 tyX5 tyX5_ok nmX5 q547 rfl rfl (w32_r _) (fv0 w rfl) rfl rfl dX5_logBud_36 (fun H locs hN hS => ?_)
  obtain ⟨σ_18, eσ_18⟩ : ∃ x, x = sI σ_17 209 o (w32 ((gI σ_17 209 o) + 1)) := ⟨_, rfl⟩
  have hWσ_18 : Wo w σ_18 H := eσ_18 ▸ hN
  have h := h σ_18 eσ_18
  clear hN
  refine lv_aload_n X.1 X.2.1 dX5_logBud_39 rfl (lv_at hl 0 rfl) ?_
  refine wg (v := .ref (wad w 8 (o + 4))) X hT hWσ_18 3 8 200 vl3_o rfl rfl (by decide) rfl (by decide) in_X5 q534 rfl dX5_logBud_40 ?_
  refine wg (v := .ref (wad w 512 (o + 4))) X hT hWσ_18 8 0 512 vl8_o_4 rfl rfl (by decide) rfl (by decide) in_X2 q166 rfl dX5_logBud_43 ?_
  refine lv_iconst (v := oI 0) X.1 X.2.1 dX5_logBud_46 rfl ?_
  refine wr_V (rV (As := [.int (oI (gI σ_17 208 o)), .int (oI (gI σ_17 209 o)), .ref (wad w 512 (o + 4)), .int (oI 0)]) (rest := []) X hT hWσ_18 hS (met_Blocks_write l (w := w) hV o (gI σ_17 208 o) (gI σ_17 209 o) 512 (o + 4) 0 _ σ_18 (by omega) (hWσ_17.r.i 208 o rfl) (hWσ_17.r.i 209 o rfl) vl512_o_4 (by decide) rfl rZ_0.i h) (cwV 4 X.2.2.2.2 (lw_V q1028 q861 q862 q137 q863) rfl rfl rfl (by decide +kernel) ⟨Nat.le_of_ble_eq_true rfl, Nat.le_of_ble_eq_true rfl⟩) vl4_o (by decide) rfl rfl hl.1 rfl (by first | exact Nat.le_of_ble_eq_true rfl | simp [catK, catI, catR, catL]) dX5_logBud_47 ⟨Nat.le_refl _, Nat.le_refl _⟩) hS (fun σ_20 H locs rkσ_20 h hWσ_20 hS => ?_)
  have h := h rkσ_20
  refine lv_aload_n X.1 X.2.1 dX5_logBud_50 rfl (lv_at hl 0 rfl) ?_
  refine wg (v := .ref (wad w 210 o)) X hT hWσ_20 3 18 210 vl3_o rfl rfl (by decide) rfl (by decide) in_X5 q548 rfl dX5_logBud_51 ?_
  refine lv_aload_n X.1 X.2.1 dX5_logBud_54 rfl (lv_at hl 0 rfl) ?_
  refine lv_dup X.1 X.2.1 dX5_logBud_55 rfl ?_
  refine wg (v := .int (oI (gI σ_20 211 o))) X hT hWσ_20 3 19 211 vl3_o rfl rfl (by decide) rfl (by decide) in_X5 q549 rfl dX5_logBud_56 ?_
  refine lv_dup_x1 X.1 X.2.1 dX5_logBud_59 rfl rfl ?_
  refine lv_iconst (v := oI 1) X.1 X.2.1 dX5_logBud_60 rfl ?_
  refine w_iadd X dX5_logBud_61 ?_
  refine wput (z := w32 ((gI σ_20 211 o) + 1)) X hT hWσ_20 hS 3 19 211 vl3_o rfl rfl (by decide) rfl (by decide) in_X5 tyX5 tyX5_ok nmX5 q549 rfl rfl (w32_r _) (fv0 w rfl) rfl rfl dX5_logBud_62 (fun H locs hN hS => ?_)
  obtain ⟨σ_21, eσ_21⟩ : ∃ x, x = sI σ_20 211 o (w32 ((gI σ_20 211 o) + 1)) := ⟨_, rfl⟩
  have hWσ_21 : Wo w σ_21 H := eσ_21 ▸ hN
  have h := h σ_21 eσ_21
  clear hN
  refine lv_iload_n X.1 X.2.1 dX5_logBud_65 rfl (lv_at hl 1 rfl) ?_
  obtain ⟨bi, h⟩ := h
  refine w_iast (n := 8) X hT hWσ_21 hS 210 vl210_o (by decide) rfl rfl bi rx1 dX5_logBud_66 (fun H locs hN hS => ?_)
  obtain ⟨σ_22, eσ_22⟩ : ∃ x, x = sA σ_21 210 o (gI σ_20 211 o) x1 := ⟨_, rfl⟩
  have hWσ_22 : Wo w σ_22 H := eσ_22 ▸ hN
  have h := h σ_22 eσ_22
  clear hN
  exact wret_V X hr hlk hWσ_22 hS h dX5_logBud_67
/-! Store.line(LNandHouse$Knot;)V -/
set_option maxHeartbeats 4000000 in
set_option maxRecDepth 100000 in
theorem wk_Store_line_b33 {p : Program} {l : Launch} {e : Env} {st : State} {m : MethodId} {args : Array Value} {below : List Frame} {meth : Method} {c : Code} {w : Wp} {o : Int} {x1 : Int} {Q : St → Prop} {n : Nat} {F : Int → Int → (St → Prop) → St → Prop} (X : CallFix p m c cX5_line 3 st args lw_all RX5) (hr : meth.sig.returnType = none) (hlk : meth.locks = false) (hT : Tb w st) (hV : Hvl w) (hF : ∀ (o : Int) (x1 : Int) (Q : St → Prop) (σ : St), 0 ≤ o ∧ o < 2 → rK x1 →  F o x1 Q σ → Met l yX5_line (ws_ yX5_line cX5_line 3 none) (rm_Store_line n) (PcW w σ [.ref (wad w 3 o), va_rf (knO w x1)]) (QcV w Q) 0 0 (wA w)) (ho : 0 ≤ o ∧ o < 2) (rx1 : rK x1) : ∀ (σ : St) (H : Heap) (locs : List Loc) (ls : Array Slot), lv_has ls 3 [(0, .ref (wad w 3 o)), (1, va_rf (knO w x1))] → Wo w σ H → va_S (wA w) st.heap H locs → wp_Store_line_b33 (wc w) (wtv w) o x1 F Q σ → W p l e (headSpec (ws_ yX5_line cX5_line 3 none) (rm_Store_line (n + 1))).room st m args below meth c H locs 0 0 (MQ below (QcV w Q) args st 0 0 (wA w)) (F0 m 33 ls []) := by
  have vl220_o : vl w 220 o := hV.hv 220 rfl ⟨by omega, by show _ < (2 : Int); omega⟩
  have vl3_o : vl w 3 o := hV.hv 3 rfl ⟨by omega, by show _ < (2 : Int); omega⟩
  intro σ H locs ls hl hW hS h
  unfold wp_Store_line_b33 at h
  refine w_kload_n (w := w) X dX5_line_33 rfl (lv_at hl 1 rfl) ?_
  obtain ⟨hz_15, h⟩ := h
  rw [knR hz_15]
  refine wg (v := .int (oI (gI σ 584 x1))) X hT hW 9 8 584 (hV.hv 9 rfl ⟨hz_15, rx1.2⟩) rfl rfl (by decide) rfl (by decide) in_X9 q409 rfl dX5_line_34 ?_
  refine w_if_eq (tgt := 57) X ((hW.r.z 584 x1 rfl).i) dX5_line_37 (by decide) (fun hc => ?_) (fun hc => ?_)
  · have h := h.1 hc
    exact wret_V X hr hlk hW hS h dX5_line_57
  · have h := h.2 hc
    refine lv_aload_n X.1 X.2.1 dX5_line_40 rfl (lv_at hl 0 rfl) ?_
    refine wg (v := .ref (wad w 220 o)) X hT hW 3 28 220 vl3_o rfl rfl (by decide) rfl (by decide) in_X5 q560 rfl dX5_line_41 ?_
    refine lv_aload_n X.1 X.2.1 dX5_line_44 rfl (lv_at hl 0 rfl) ?_
    refine lv_dup X.1 X.2.1 dX5_line_45 rfl ?_
    refine wg (v := .int (oI (gI σ 221 o))) X hT hW 3 29 221 vl3_o rfl rfl (by decide) rfl (by decide) in_X5 q561 rfl dX5_line_46 ?_
    refine lv_dup_x1 X.1 X.2.1 dX5_line_49 rfl rfl ?_
    refine lv_iconst (v := oI 1) X.1 X.2.1 dX5_line_50 rfl ?_
    refine w_iadd X dX5_line_51 ?_
    refine wput (z := w32 ((gI σ 221 o) + 1)) X hT hW hS 3 29 221 vl3_o rfl rfl (by decide) rfl (by decide) in_X5 tyX5 tyX5_ok nmX5 q561 rfl rfl (w32_r _) (fv0 w rfl) rfl rfl dX5_line_52 (fun H locs hN hS => ?_)
    obtain ⟨σ_16, eσ_16⟩ : ∃ x, x = sI σ 221 o (w32 ((gI σ 221 o) + 1)) := ⟨_, rfl⟩
    have hWσ_16 : Wo w σ_16 H := eσ_16 ▸ hN
    have h := h σ_16 eσ_16
    clear hN
    refine w_kload_n (w := w) X dX5_line_55 rfl (lv_at hl 1 rfl) ?_
    obtain ⟨bi, h⟩ := h
    refine w_aast (n := 320) X hV hT hWσ_16 hS 220 vl220_o (by decide) rfl rfl bi rx1 dX5_line_56 (fun H locs hN hS => ?_)
    obtain ⟨σ_17, eσ_17⟩ : ∃ x, x = sA σ_16 220 o (gI σ 221 o) x1 := ⟨_, rfl⟩
    have hWσ_17 : Wo w σ_17 H := eσ_17 ▸ hN
    have h := h σ_17 eσ_17
    clear hN
    exact wret_V X hr hlk hWσ_17 hS h dX5_line_57
set_option maxHeartbeats 4000000 in
set_option maxRecDepth 100000 in
theorem wk_Store_line_L2B {p : Program} {l : Launch} {e : Env} {st : State} {m : MethodId} {args : Array Value} {below : List Frame} {meth : Method} {c : Code} {w : Wp} {o : Int} {x1 : Int} {Q : St → Prop} {n : Nat} {F : Int → Int → (St → Prop) → St → Prop} (X : CallFix p m c cX5_line 3 st args lw_all RX5) (hr : meth.sig.returnType = none) (hlk : meth.locks = false) (hT : Tb w st) (hV : Hvl w) (hF : ∀ (o : Int) (x1 : Int) (Q : St → Prop) (σ : St), 0 ≤ o ∧ o < 2 → rK x1 →  F o x1 Q σ → Met l yX5_line (ws_ yX5_line cX5_line 3 none) (rm_Store_line n) (PcW w σ [.ref (wad w 3 o), va_rf (knO w x1)]) (QcV w Q) 0 0 (wA w)) (ho : 0 ≤ o ∧ o < 2) (rx1 : rK x1) (K2 : Int → St → Prop) (hK2 : ∀ (y2 : Int) (σ : St) (H : Heap) (locs : List Loc) (ls : Array Slot), rI y2 → lv_has ls 3 [(0, .ref (wad w 3 o)), (1, va_rf (knO w x1)), (2, .int (oI y2))] → Wo w σ H → va_S (wA w) st.heap H locs → K2 y2 σ → W p l e (headSpec (ws_ yX5_line cX5_line 3 none) (rm_Store_line (n + 1))).room st m args below meth c H locs 0 0 (MQ below (QcV w Q) args st 0 0 (wA w)) (F0 m 2 ls [])) : ∀ (y2 : Int) (σ : St) (H : Heap) (locs : List Loc) (ls : Array Slot), rI y2 → lv_has ls 3 [(0, .ref (wad w 3 o)), (1, va_rf (knO w x1)), (2, .int (oI y2))] → Wo w σ H → va_S (wA w) st.heap H locs → wp_Store_line_L2 (wc w) (wtv w) o x1 F Q K2 y2 σ → W p l e (headSpec (ws_ yX5_line cX5_line 3 none) (rm_Store_line (n + 1))).room st m args below meth c H locs 0 0 (MQ below (QcV w Q) args st 0 0 (wA w)) (F0 m 2 ls []) := by
  have vl3_o : vl w 3 o := hV.hv 3 rfl ⟨by omega, by show _ < (2 : Int); omega⟩
  intro y2 σ H locs ls ry2 hl hW hS h
  unfold wp_Store_line_L2 at h
  refine lv_iload_n X.1 X.2.1 dX5_line_2 rfl (lv_at hl 2 rfl) ?_
  refine w_kload_n (w := w) X dX5_line_3 rfl (lv_at hl 1 rfl) ?_
  obtain ⟨hz_18, h⟩ := h
  rw [knR hz_18]
  refine wg (v := .int (oI (gI σ 577 x1))) X hT hW 9 1 577 (hV.hv 9 rfl ⟨hz_18, rx1.2⟩) rfl rfl (by decide) rfl (by decide) in_X9 q388 rfl dX5_line_4 ?_
  refine w_icmp_ge (tgt := 33) X ry2 (hW.r.i 577 x1 rfl) dX5_line_7 (by decide) (fun hc => ?_) (fun hc => ?_)
  · have h := h.1 hc
    exact wk_Store_line_b33 X hr hlk hT hV hF ho rx1 σ _ _ _ (lv_sub hl [0, 1] rfl) hW hS h
  · have h := h.2 hc
    refine w_kload_n (w := w) X dX5_line_10 rfl (lv_at hl 1 rfl) ?_
    rw [knR hz_18]
    refine wg (v := .int (oI (gI σ 576 x1))) X hT hW 9 0 576 (hV.hv 9 rfl ⟨hz_18, rx1.2⟩) rfl rfl (by decide) rfl (by decide) in_X9 q385 rfl dX5_line_11 ?_
    refine w_if_le (tgt := 33) X (hW.r.i 576 x1 rfl) dX5_line_14 (by decide) (fun hc => ?_) (fun hc => ?_)
    · have h := h.1 hc
      exact wk_Store_line_b33 X hr hlk hT hV hF ho rx1 σ _ _ _ (lv_sub hl [0, 1] rfl) hW hS h
    · have h := h.2 hc
      refine lv_aload_n X.1 X.2.1 dX5_line_17 rfl (lv_at hl 0 rfl) ?_
      refine w_kload_n (w := w) X dX5_line_18 rfl (lv_at hl 1 rfl) ?_
      rw [knR hz_18]
      refine wg (v := .ref (wad w 583 x1)) X hT hW 9 7 583 (hV.hv 9 rfl ⟨hz_18, rx1.2⟩) rfl rfl (by decide) rfl (by decide) in_X9 q406 rfl dX5_line_19 ?_
      refine lv_iload_n X.1 X.2.1 dX5_line_22 rfl (lv_at hl 2 rfl) ?_
      obtain ⟨bi, h⟩ := h
      refine w_aald (n := 9) X hT hW 583 (hV.hv 583 rfl ⟨hz_18, rx1.2⟩) (by decide) rfl rfl bi dX5_line_23 ?_
      refine wr_V (rV (As := [va_rf (knO w (gA σ 583 x1 y2))]) (rest := []) X hT hW hS (hF o (gA σ 583 x1 y2) _ σ (by omega) (hW.r.ak 583 x1 y2 rfl) h) (cwV 1 X.2.2.2.2 (lw_V q1056 q1058 qs28 q136 q1059) rfl rfl rfl (by decide +kernel) ⟨by show _ ≤ _; simp only [headSpec, rm_Store_line]; omega, by show _ ≤ _; simp only [headSpec, rm_Store_line]; omega⟩) vl3_o (by decide) rfl rfl hl.1 rfl (by first | exact Nat.le_of_ble_eq_true rfl | simp [catK, catI, catR, catL]) dX5_line_24 ⟨Nat.le_refl _, Nat.le_refl _⟩) hS (fun σ_20 H locs rkσ_20 h hWσ_20 hS => ?_)
      have h := h rkσ_20
      obtain ⟨y2_21, ey2_21⟩ : ∃ y : Int, y = w32 (y2 + 1) := ⟨_, rfl⟩
      have h := h y2_21 ey2_21
      have ry2_21 : rI y2_21 := by rw [ey2_21]; exact w32_r _
      refine lv_iinc (v := oI y2_21) (lv' := [(2, .int (oI y2_21)), (0, .ref (wad w 3 o)), (1, va_rf (knO w x1))]) X.1 X.2.1 dX5_line_27 hl (k := 2) rfl (by rw [ey2_21]; exact oI_add _ _) (by decide) (by first | rfl | simp [catK, catI, catR, catL]) (fun ls hl => ?_)
      refine lv_goto (tgt := 2) X.1 X.2.1 dX5_line_30 (by decide) ?_
      exact hK2 y2_21 σ_20 _ _ _ ry2_21 (lv_sub hl [1, 2, 0] rfl) hWσ_20 hS h
theorem wk_Store_line_L2 {p : Program} {l : Launch} {e : Env} {st : State} {m : MethodId} {args : Array Value} {below : List Frame} {meth : Method} {c : Code} {w : Wp} {o : Int} {x1 : Int} {Q : St → Prop} {n : Nat} {F : Int → Int → (St → Prop) → St → Prop} (X : CallFix p m c cX5_line 3 st args lw_all RX5) (hr : meth.sig.returnType = none) (hlk : meth.locks = false) (hT : Tb w st) (hV : Hvl w) (hF : ∀ (o : Int) (x1 : Int) (Q : St → Prop) (σ : St), 0 ≤ o ∧ o < 2 → rK x1 →  F o x1 Q σ → Met l yX5_line (ws_ yX5_line cX5_line 3 none) (rm_Store_line n) (PcW w σ [.ref (wad w 3 o), va_rf (knO w x1)]) (QcV w Q) 0 0 (wA w)) (ho : 0 ≤ o ∧ o < 2) (rx1 : rK x1) : ∀ (y2 : Int) (σ : St) (H : Heap) (locs : List Loc) (ls : Array Slot), rI y2 → lv_has ls 3 [(0, .ref (wad w 3 o)), (1, va_rf (knO w x1)), (2, .int (oI y2))] → Wo w σ H → va_S (wA w) st.heap H locs → lQ1 (wp_Store_line_L2 (wc w) (wtv w) o x1 F Q) y2 σ → W p l e (headSpec (ws_ yX5_line cX5_line 3 none) (rm_Store_line (n + 1))).room st m args below meth c H locs 0 0 (MQ below (QcV w Q) args st 0 0 (wA w)) (F0 m 2 ls []) := by
  intro y2 σ H locs ls ry2 hl hW hS h
  obtain ⟨fu, h⟩ := h
  induction fu generalizing y2 σ H locs ls with
  | zero => exact h.elim
  | succ fu ih =>
    exact wk_Store_line_L2B X hr hlk hT hV hF ho rx1 (lq1 (wp_Store_line_L2 (wc w) (wtv w) o x1 F Q) fu) (fun y2 σ H locs ls ry2 hl hW hS h => ih y2 σ H locs ls ry2 hl hW hS h) y2 σ H locs ls ry2 hl hW hS h
set_option maxHeartbeats 4000000 in
set_option maxRecDepth 100000 in
theorem met_Store_line_R (l : Launch) {w : Wp} (hV : Hvl w) {n : Nat} {F : Int → Int → (St → Prop) → St → Prop} (hF : ∀ (o : Int) (x1 : Int) (Q : St → Prop) (σ : St), 0 ≤ o ∧ o < 2 → rK x1 →  F o x1 Q σ → Met l yX5_line (ws_ yX5_line cX5_line 3 none) (rm_Store_line n) (PcW w σ [.ref (wad w 3 o), va_rf (knO w x1)]) (QcV w Q) 0 0 (wA w)) (o : Int) (x1 : Int) (Q : St → Prop) (σ : St) (ho : 0 ≤ o ∧ o < 2) (rx1 : rK x1) (h : wp_Store_line_R (wc w) (wtv w) o x1 F Q σ) : Met l yX5_line (ws_ yX5_line cX5_line 3 none) (rm_Store_line (n + 1)) (PcW w σ [.ref (wad w 3 o), va_rf (knO w x1)]) (QcV w Q) 0 0 (wA w) := by
  refine Met.ofW (cc := cX5_line) (maxL := 3) (ret := none) (by decide) rfl ?_
  intro p e st m args below meth c s₁ B hml hv
  obtain ⟨hargs, hW, hT⟩ := hv
  have X : CallFix p m c cX5_line 3 st _ lw_all RX5 := ⟨B.exec, B.bytes, hml, findClass_of_methodNamed B.named, fun w h => atoms_spec (ws := ws_ yX5_line cX5_line 3 none) B.pre w (List.mem_cons_of_mem _ h)⟩
  have hr := B.returns
  have hlk := B.notSynchronized
  have hS : va_S (wA w) st.heap st.heap [] := va_S.rf
  have vl3_o : vl w 3 o := hV.hv 3 rfl ⟨by omega, by show _ < (2 : Int); omega⟩
  have hl := lv_entry ([.ref (wad w 3 o), va_rf (knO w x1)]) (n := 3) (by simp [lg_sl, catK, catI, catR, catL])
  have hfr := lg_entry_eq m ([.ref (wad w 3 o), va_rf (knO w x1)]) 3
  rw [← hargs] at hfr
  rw [hfr]
  generalize (lg_sl ([.ref (wad w 3 o), va_rf (knO w x1)]) ++ List.replicate (3 - (lg_sl ([.ref (wad w 3 o), va_rf (knO w x1)])).length) Slot.unset).toArray = ls at hl ⊢
  simp [lv_args, catK, catI, catR, catL] at hl
  have hl : lv_has ls 3 [(0, .ref (wad w 3 o)), (1, va_rf (knO w x1))] := hl
  unfold wp_Store_line_R at h
  refine lv_iconst (v := oI 0) X.1 X.2.1 dX5_line_0 rfl ?_
  refine lv_istore_n (i := 2) (lv' := [(2, .int (oI 0)), (0, .ref (wad w 3 o)), (1, va_rf (knO w x1))]) X.1 X.2.1 dX5_line_1 rfl hl (by decide) (by first | rfl | simp [catK, catI, catR, catL]) (fun ls hl => ?_)
  exact wk_Store_line_L2 X hr hlk hT hV hF ho rx1 0 σ _ _ _ rZ_0.i (lv_sub hl [1, 2, 0] rfl) hW hS h
theorem met_Store_line (l : Launch) {w : Wp} (hV : Hvl w) (n : Nat) : ∀ (o : Int) (x1 : Int) (Q : St → Prop) (σ : St), 0 ≤ o ∧ o < 2 → rK x1 → wp_Store_line (wc w) (wtv w) n o x1 Q σ → Met l yX5_line (ws_ yX5_line cX5_line 3 none) (rm_Store_line n) (PcW w σ [.ref (wad w 3 o), va_rf (knO w x1)]) (QcV w Q) 0 0 (wA w) := by
  induction n with
  | zero => intro o x1 Q σ ho rx1 h; exact h.elim
  | succ n ih => intro o x1 Q σ ho rx1 h; exact met_Store_line_R l hV ih o x1 Q σ ho rx1 h
/-! Store.beginCommit()V -/
set_option maxHeartbeats 4000000 in
set_option maxRecDepth 100000 in
theorem wk_Store_beginCommit_b261 {p : Program} {l : Launch} {e : Env} {st : State} {m : MethodId} {args : Array Value} {below : List Frame} {meth : Method} {c : Code} {w : Wp} {o : Int} {Q : St → Prop} (X : CallFix p m c cX5_beginCommit 2 st args lw_all RX5) (hr : meth.sig.returnType = none) (hlk : meth.locks = false) (hT : Tb w st) (hV : Hvl w) (ho : 0 ≤ o ∧ o < 2) : ∀ (σ : St) (H : Heap) (locs : List Loc) (ls : Array Slot), lv_has ls 2 [(0, .ref (wad w 3 o))] → Wo w σ H → va_S (wA w) st.heap H locs → wp_Store_beginCommit_b261 (wc w) (wtv w) o Q σ → W p l e (headSpec (ws_ yX5_beginCommit cX5_beginCommit 2 none) rm_Store_beginCommit).room st m args below meth c H locs 0 0 (MQ below (QcV w Q) args st 0 0 (wA w)) (F0 m 261 ls []) := by
  have vl3_o : vl w 3 o := hV.hv 3 rfl ⟨by omega, by show _ < (2 : Int); omega⟩
  have vl6_o : vl w 6 o := hV.hv 6 rfl ⟨by omega, by show _ < (2 : Int); omega⟩
  intro σ H locs ls hl hW hS h
  unfold wp_Store_beginCommit_b261 at h
  refine lv_aload_n X.1 X.2.1 dX5_beginCommit_261 rfl (lv_at hl 0 rfl) ?_
  refine lv_iconst (v := oI 0) X.1 X.2.1 dX5_beginCommit_262 rfl ?_
  refine wput (z := 0) X hT hW hS 3 29 221 vl3_o rfl rfl (by decide) rfl (by decide) in_X5 tyX5 tyX5_ok nmX5 q561 rfl rfl rZ_0.i (fv0 w rfl) rfl rfl dX5_beginCommit_263 (fun H locs hN hS => ?_)
  obtain ⟨σ_112, eσ_112⟩ : ∃ x, x = sI σ 221 o 0 := ⟨_, rfl⟩
  have hWσ_112 : Wo w σ_112 H := eσ_112 ▸ hN
  have h := h σ_112 eσ_112
  clear hN
  refine lv_aload_n X.1 X.2.1 dX5_beginCommit_266 rfl (lv_at hl 0 rfl) ?_
  refine lv_iconst (v := oI 0) X.1 X.2.1 dX5_beginCommit_267 rfl ?_
  refine wput (z := 0) X hT hWσ_112 hS 3 30 222 vl3_o rfl rfl (by decide) rfl (by decide) in_X5 tyX5 tyX5_ok nmX5 q562 rfl rfl rZ_0.i (fv0 w rfl) rfl rfl dX5_beginCommit_268 (fun H locs hN hS => ?_)
  obtain ⟨σ_113, eσ_113⟩ : ∃ x, x = sI σ_112 222 o 0 := ⟨_, rfl⟩
  have hWσ_113 : Wo w σ_113 H := eσ_113 ▸ hN
  have h := h σ_113 eσ_113
  clear hN
  refine lv_aload_n X.1 X.2.1 dX5_beginCommit_271 rfl (lv_at hl 0 rfl) ?_
  refine lv_aload_n X.1 X.2.1 dX5_beginCommit_272 rfl (lv_at hl 0 rfl) ?_
  refine wg (v := .ref (wad w 6 o)) X hT hWσ_113 3 2 194 vl3_o rfl rfl (by decide) rfl (by decide) in_X5 q526 rfl dX5_beginCommit_273 ?_
  refine wg (v := va_rf (knO w (gI σ_113 387 o))) X hT hWσ_113 6 3 387 vl6_o rfl rfl (by decide) rfl (by decide) in_X8 q446 rfl dX5_beginCommit_276 ?_
  refine wr_V (rV (As := [va_rf (knO w (gI σ_113 387 o))]) (rest := []) X hT hWσ_113 hS (met_Store_line l hV 12 o (gI σ_113 387 o) _ σ_113 (by omega) (hWσ_113.r.k 387 o rfl) h) (cwV 1 X.2.2.2.2 (lw_V q1056 q1058 qs28 q136 q1059) rfl rfl rfl (by decide +kernel) ⟨Nat.le_of_ble_eq_true rfl, Nat.le_of_ble_eq_true rfl⟩) vl3_o (by decide) rfl rfl hl.1 rfl (by first | exact Nat.le_of_ble_eq_true rfl | simp [catK, catI, catR, catL]) dX5_beginCommit_279 ⟨Nat.le_refl _, Nat.le_refl _⟩) hS (fun σ_115 H locs rkσ_115 h hWσ_115 hS => ?_)
  have h := h rkσ_115
  refine lv_aload_n X.1 X.2.1 dX5_beginCommit_282 rfl (lv_at hl 0 rfl) ?_
  refine lv_iconst (v := oI 1) X.1 X.2.1 dX5_beginCommit_283 rfl ?_
  refine wput (z := 1) X hT hWσ_115 hS 3 21 213 vl3_o rfl rfl (by decide) rfl (by decide) in_X5 tyX5 tyX5_ok nmX5 q551 rfl rfl rZ_1 (fv3 w rfl) (nrZ rZ_1) (ftZ rZ_1) dX5_beginCommit_284 (fun H locs hN hS => ?_)
  obtain ⟨σ_116, eσ_116⟩ : ∃ x, x = sI σ_115 213 o 1 := ⟨_, rfl⟩
  have hWσ_116 : Wo w σ_116 H := eσ_116 ▸ hN
  have h := h σ_116 eσ_116
  clear hN
  exact wret_V X hr hlk hWσ_116 hS h dX5_beginCommit_287
set_option maxHeartbeats 4000000 in
set_option maxRecDepth 100000 in
theorem wk_Store_beginCommit_b221 {p : Program} {l : Launch} {e : Env} {st : State} {m : MethodId} {args : Array Value} {below : List Frame} {meth : Method} {c : Code} {w : Wp} {o : Int} {Q : St → Prop} (X : CallFix p m c cX5_beginCommit 2 st args lw_all RX5) (hr : meth.sig.returnType = none) (hlk : meth.locks = false) (hT : Tb w st) (hV : Hvl w) (ho : 0 ≤ o ∧ o < 2) (K182 : Int → St → Prop) (hK182 : ∀ (y1 : Int) (σ : St) (H : Heap) (locs : List Loc) (ls : Array Slot), rI y1 → lv_has ls 2 [(0, .ref (wad w 3 o)), (1, .int (oI y1))] → Wo w σ H → va_S (wA w) st.heap H locs → K182 y1 σ → W p l e (headSpec (ws_ yX5_beginCommit cX5_beginCommit 2 none) rm_Store_beginCommit).room st m args below meth c H locs 0 0 (MQ below (QcV w Q) args st 0 0 (wA w)) (F0 m 182 ls [])) : ∀ (y1 : Int) (σ : St) (H : Heap) (locs : List Loc) (ls : Array Slot), rI y1 → lv_has ls 2 [(0, .ref (wad w 3 o)), (1, .int (oI y1))] → Wo w σ H → va_S (wA w) st.heap H locs → wp_Store_beginCommit_b221 (wc w) (wtv w) o Q K182 y1 σ → W p l e (headSpec (ws_ yX5_beginCommit cX5_beginCommit 2 none) rm_Store_beginCommit).room st m args below meth c H locs 0 0 (MQ below (QcV w Q) args st 0 0 (wA w)) (F0 m 221 ls []) := by

  intro y1 σ H locs ls ry1 hl hW hS h
  unfold wp_Store_beginCommit_b221 at h
  obtain ⟨y1_117, ey1_117⟩ : ∃ y : Int, y = w32 (y1 + 1) := ⟨_, rfl⟩
  have h := h y1_117 ey1_117
  have ry1_117 : rI y1_117 := by rw [ey1_117]; exact w32_r _
  refine lv_iinc (v := oI y1_117) (lv' := [(1, .int (oI y1_117)), (0, .ref (wad w 3 o))]) X.1 X.2.1 dX5_beginCommit_221 hl (k := 1) rfl (by rw [ey1_117]; exact oI_add _ _) (by decide) (by first | rfl | simp [catK, catI, catR, catL]) (fun ls hl => ?_)
  refine lv_goto (tgt := 182) X.1 X.2.1 dX5_beginCommit_224 (by decide) ?_
  exact hK182 y1_117 σ _ _ _ ry1_117 (lv_sub hl [1, 0] rfl) hW hS h
set_option maxHeartbeats 4000000 in
set_option maxRecDepth 100000 in
theorem wk_Store_beginCommit_L182B {p : Program} {l : Launch} {e : Env} {st : State} {m : MethodId} {args : Array Value} {below : List Frame} {meth : Method} {c : Code} {w : Wp} {o : Int} {Q : St → Prop} (X : CallFix p m c cX5_beginCommit 2 st args lw_all RX5) (hr : meth.sig.returnType = none) (hlk : meth.locks = false) (hT : Tb w st) (hV : Hvl w) (ho : 0 ≤ o ∧ o < 2) (K182 : Int → St → Prop) (hK182 : ∀ (y1 : Int) (σ : St) (H : Heap) (locs : List Loc) (ls : Array Slot), rI y1 → lv_has ls 2 [(0, .ref (wad w 3 o)), (1, .int (oI y1))] → Wo w σ H → va_S (wA w) st.heap H locs → K182 y1 σ → W p l e (headSpec (ws_ yX5_beginCommit cX5_beginCommit 2 none) rm_Store_beginCommit).room st m args below meth c H locs 0 0 (MQ below (QcV w Q) args st 0 0 (wA w)) (F0 m 182 ls [])) : ∀ (y1 : Int) (σ : St) (H : Heap) (locs : List Loc) (ls : Array Slot), rI y1 → lv_has ls 2 [(0, .ref (wad w 3 o)), (1, .int (oI y1))] → Wo w σ H → va_S (wA w) st.heap H locs → wp_Store_beginCommit_L182 (wc w) (wtv w) o Q K182 y1 σ → W p l e (headSpec (ws_ yX5_beginCommit cX5_beginCommit 2 none) rm_Store_beginCommit).room st m args below meth c H locs 0 0 (MQ below (QcV w Q) args st 0 0 (wA w)) (F0 m 182 ls []) := by
  have vl210_o : vl w 210 o := hV.hv 210 rfl ⟨by omega, by show _ < (2 : Int); omega⟩
  have vl3_o : vl w 3 o := hV.hv 3 rfl ⟨by omega, by show _ < (2 : Int); omega⟩
  have vl323_o : vl w 323 o := hV.hv 323 rfl ⟨by omega, by show _ < (2 : Int); omega⟩
  have vl5_o : vl w 5 o := hV.hv 5 rfl ⟨by omega, by show _ < (2 : Int); omega⟩
  have vl7_o : vl w 7 o := hV.hv 7 rfl ⟨by omega, by show _ < (6 : Int); omega⟩
  intro y1 σ H locs ls ry1 hl hW hS h
  unfold wp_Store_beginCommit_L182 at h
  refine lv_iload_n X.1 X.2.1 dX5_beginCommit_182 rfl (lv_at hl 1 rfl) ?_
  refine lv_aload_n X.1 X.2.1 dX5_beginCommit_183 rfl (lv_at hl 0 rfl) ?_
  refine wg (v := .int (oI (gI σ 211 o))) X hT hW 3 19 211 vl3_o rfl rfl (by decide) rfl (by decide) in_X5 q549 rfl dX5_beginCommit_184 ?_
  refine w_icmp_ge (tgt := 227) X ry1 (hW.r.i 211 o rfl) dX5_beginCommit_187 (by decide) (fun hc => ?_) (fun hc => ?_)
  · have h := h.1 hc
    refine lv_aload_n X.1 X.2.1 dX5_beginCommit_227 rfl (lv_at hl 0 rfl) ?_
    refine lv_iconst (v := oI 0) X.1 X.2.1 dX5_beginCommit_228 rfl ?_
    refine wput (z := 0) X hT hW hS 3 19 211 vl3_o rfl rfl (by decide) rfl (by decide) in_X5 tyX5 tyX5_ok nmX5 q549 rfl rfl rZ_0.i (fv0 w rfl) rfl rfl dX5_beginCommit_229 (fun H locs hN hS => ?_)
    obtain ⟨σ_118, eσ_118⟩ : ∃ x, x = sI σ 211 o 0 := ⟨_, rfl⟩
    have hWσ_118 : Wo w σ_118 H := eσ_118 ▸ hN
    have h := h σ_118 eσ_118
    clear hN
    refine lv_aload_n X.1 X.2.1 dX5_beginCommit_232 rfl (lv_at hl 0 rfl) ?_
    refine wg (v := .ref (wad w 7 o)) X hT hWσ_118 3 3 195 vl3_o rfl rfl (by decide) rfl (by decide) in_X5 q528 rfl dX5_beginCommit_233 ?_
    refine wg (v := .int (oI (gI σ_118 451 o))) X hT hWσ_118 7 3 451 vl7_o rfl rfl (by decide) rfl (by decide) in_X10 q509 rfl dX5_beginCommit_236 ?_
    refine lv_iconst (v := oI (-1)) X.1 X.2.1 dX5_beginCommit_239 rfl ?_
    refine w_icmp_eq (tgt := 261) X (hWσ_118.r.i 451 o rfl) ((rB_lit (-1) (by decide)).i) dX5_beginCommit_240 (by decide) (fun hc => ?_) (fun hc => ?_)
    · have h := h.1 hc
      exact wk_Store_beginCommit_b261 X hr hlk hT hV ho σ_118 _ _ _ (lv_sub hl [0] rfl) hWσ_118 hS h
    · have h := h.2 hc
      refine lv_aload_n X.1 X.2.1 dX5_beginCommit_243 rfl (lv_at hl 0 rfl) ?_
      refine lv_aload_n X.1 X.2.1 dX5_beginCommit_244 rfl (lv_at hl 0 rfl) ?_
      refine wg (v := .ref (wad w 7 o)) X hT hWσ_118 3 3 195 vl3_o rfl rfl (by decide) rfl (by decide) in_X5 q528 rfl dX5_beginCommit_245 ?_
      refine wg (v := .int (oI (gI σ_118 451 o))) X hT hWσ_118 7 3 451 vl7_o rfl rfl (by decide) rfl (by decide) in_X10 q509 rfl dX5_beginCommit_248 ?_
      refine lv_aload_n X.1 X.2.1 dX5_beginCommit_251 rfl (lv_at hl 0 rfl) ?_
      refine wg (v := .ref (wad w 7 o)) X hT hWσ_118 3 3 195 vl3_o rfl rfl (by decide) rfl (by decide) in_X5 q528 rfl dX5_beginCommit_252 ?_
      refine wg (v := .int (oI (gI σ_118 452 o))) X hT hWσ_118 7 4 452 vl7_o rfl rfl (by decide) rfl (by decide) in_X10 q511 rfl dX5_beginCommit_255 ?_
      refine wr_V (rV (As := [.int (oI (gI σ_118 451 o)), .int (oI (gI σ_118 452 o))]) (rest := []) X hT hWσ_118 hS (met_Store_logBud l (w := w) hV o (gI σ_118 451 o) (gI σ_118 452 o) _ σ_118 (by omega) (hWσ_118.r.i 451 o rfl) (hWσ_118.r.i 452 o rfl) h) (cwV 2 X.2.2.2.2 (lw_V q1052 q1054 qs27 q136 q1055) rfl rfl rfl (by decide +kernel) ⟨Nat.le_of_ble_eq_true rfl, Nat.le_of_ble_eq_true rfl⟩) vl3_o (by decide) rfl rfl hl.1 rfl (by first | exact Nat.le_of_ble_eq_true rfl | simp [catK, catI, catR, catL]) dX5_beginCommit_258 ⟨Nat.le_refl _, Nat.le_refl _⟩) hS (fun σ_120 H locs rkσ_120 h hWσ_120 hS => ?_)
      have h := h rkσ_120
      exact wk_Store_beginCommit_b261 X hr hlk hT hV ho σ_120 _ _ _ (lv_sub hl [0] rfl) hWσ_120 hS h
  · have h := h.2 hc
    refine lv_aload_n X.1 X.2.1 dX5_beginCommit_190 rfl (lv_at hl 0 rfl) ?_
    refine wg (v := .ref (wad w 210 o)) X hT hW 3 18 210 vl3_o rfl rfl (by decide) rfl (by decide) in_X5 q548 rfl dX5_beginCommit_191 ?_
    refine lv_iload_n X.1 X.2.1 dX5_beginCommit_194 rfl (lv_at hl 1 rfl) ?_
    obtain ⟨bi, h⟩ := h
    refine w_iald (n := 8) X hT hW 210 vl210_o (by decide) rfl rfl bi dX5_beginCommit_195 ?_
    refine lv_aload_n X.1 X.2.1 dX5_beginCommit_196 rfl (lv_at hl 0 rfl) ?_
    refine wg (v := .ref (wad w 7 o)) X hT hW 3 3 195 vl3_o rfl rfl (by decide) rfl (by decide) in_X5 q528 rfl dX5_beginCommit_197 ?_
    refine wg (v := .int (oI (gI σ 451 o))) X hT hW 7 3 451 vl7_o rfl rfl (by decide) rfl (by decide) in_X10 q509 rfl dX5_beginCommit_200 ?_
    refine w_icmp_eq (tgt := 221) X (hW.r.ai 210 o y1 rfl) (hW.r.i 451 o rfl) dX5_beginCommit_203 (by decide) (fun hc => ?_) (fun hc => ?_)
    · have h := h.1 hc
      exact wk_Store_beginCommit_b221 X hr hlk hT hV ho K182 hK182 y1 σ _ _ _ ry1 (lv_sub hl [0, 1] rfl) hW hS h
    · have h := h.2 hc
      refine lv_aload_n X.1 X.2.1 dX5_beginCommit_206 rfl (lv_at hl 0 rfl) ?_
      refine wg (v := .ref (wad w 5 o)) X hT hW 3 1 193 vl3_o rfl rfl (by decide) rfl (by decide) in_X5 q525 rfl dX5_beginCommit_207 ?_
      refine wg (v := .ref (wad w 323 o)) X hT hW 5 3 323 vl5_o rfl rfl (by decide) rfl (by decide) in_X7 q344 rfl dX5_beginCommit_210 ?_
      refine lv_aload_n X.1 X.2.1 dX5_beginCommit_213 rfl (lv_at hl 0 rfl) ?_
      refine wg (v := .ref (wad w 210 o)) X hT hW 3 18 210 vl3_o rfl rfl (by decide) rfl (by decide) in_X5 q548 rfl dX5_beginCommit_214 ?_
      refine lv_iload_n X.1 X.2.1 dX5_beginCommit_217 rfl (lv_at hl 1 rfl) ?_
      obtain ⟨bi, h⟩ := h
      refine w_iald (n := 8) X hT hW 210 vl210_o (by decide) rfl rfl bi dX5_beginCommit_218 ?_
      refine lv_iconst (v := oI 1) X.1 X.2.1 dX5_beginCommit_219 rfl ?_
      obtain ⟨bi, h⟩ := h
      refine w_iast (n := ((wc w).1 - 6)) X hT hW hS 323 vl323_o (by decide) rfl rfl bi rZ_1.i dX5_beginCommit_220 (fun H locs hN hS => ?_)
      obtain ⟨σ_121, eσ_121⟩ : ∃ x, x = sA σ 323 o (gA σ 210 o y1) 1 := ⟨_, rfl⟩
      have hWσ_121 : Wo w σ_121 H := eσ_121 ▸ hN
      have h := h σ_121 eσ_121
      clear hN
      exact wk_Store_beginCommit_b221 X hr hlk hT hV ho K182 hK182 y1 σ_121 _ _ _ ry1 (lv_sub hl [0, 1] rfl) hWσ_121 hS h
theorem wk_Store_beginCommit_L182 {p : Program} {l : Launch} {e : Env} {st : State} {m : MethodId} {args : Array Value} {below : List Frame} {meth : Method} {c : Code} {w : Wp} {o : Int} {Q : St → Prop} (X : CallFix p m c cX5_beginCommit 2 st args lw_all RX5) (hr : meth.sig.returnType = none) (hlk : meth.locks = false) (hT : Tb w st) (hV : Hvl w) (ho : 0 ≤ o ∧ o < 2) : ∀ (y1 : Int) (σ : St) (H : Heap) (locs : List Loc) (ls : Array Slot), rI y1 → lv_has ls 2 [(0, .ref (wad w 3 o)), (1, .int (oI y1))] → Wo w σ H → va_S (wA w) st.heap H locs → lQ1 (wp_Store_beginCommit_L182 (wc w) (wtv w) o Q) y1 σ → W p l e (headSpec (ws_ yX5_beginCommit cX5_beginCommit 2 none) rm_Store_beginCommit).room st m args below meth c H locs 0 0 (MQ below (QcV w Q) args st 0 0 (wA w)) (F0 m 182 ls []) := by
  intro y1 σ H locs ls ry1 hl hW hS h
  obtain ⟨fu, h⟩ := h
  induction fu generalizing y1 σ H locs ls with
  | zero => exact h.elim
  | succ fu ih =>
    exact wk_Store_beginCommit_L182B X hr hlk hT hV ho (lq1 (wp_Store_beginCommit_L182 (wc w) (wtv w) o Q) fu) (fun y1 σ H locs ls ry1 hl hW hS h => ih y1 σ H locs ls ry1 hl hW hS h) y1 σ H locs ls ry1 hl hW hS h
set_option maxHeartbeats 4000000 in
set_option maxRecDepth 100000 in
theorem wk_Store_beginCommit_L109B {p : Program} {l : Launch} {e : Env} {st : State} {m : MethodId} {args : Array Value} {below : List Frame} {meth : Method} {c : Code} {w : Wp} {o : Int} {Q : St → Prop} (X : CallFix p m c cX5_beginCommit 2 st args lw_all RX5) (hr : meth.sig.returnType = none) (hlk : meth.locks = false) (hT : Tb w st) (hV : Hvl w) (ho : 0 ≤ o ∧ o < 2) (K109 : Int → St → Prop) (hK109 : ∀ (y1 : Int) (σ : St) (H : Heap) (locs : List Loc) (ls : Array Slot), rI y1 → lv_has ls 2 [(0, .ref (wad w 3 o)), (1, .int (oI y1))] → Wo w σ H → va_S (wA w) st.heap H locs → K109 y1 σ → W p l e (headSpec (ws_ yX5_beginCommit cX5_beginCommit 2 none) rm_Store_beginCommit).room st m args below meth c H locs 0 0 (MQ below (QcV w Q) args st 0 0 (wA w)) (F0 m 109 ls [])) : ∀ (y1 : Int) (σ : St) (H : Heap) (locs : List Loc) (ls : Array Slot), rI y1 → lv_has ls 2 [(0, .ref (wad w 3 o)), (1, .int (oI y1))] → Wo w σ H → va_S (wA w) st.heap H locs → wp_Store_beginCommit_L109 (wc w) (wtv w) o Q K109 y1 σ → W p l e (headSpec (ws_ yX5_beginCommit cX5_beginCommit 2 none) rm_Store_beginCommit).room st m args below meth c H locs 0 0 (MQ below (QcV w Q) args st 0 0 (wA w)) (F0 m 109 ls []) := by
  have vl217_o : vl w 217 o := hV.hv 217 rfl ⟨by omega, by show _ < (2 : Int); omega⟩
  have vl3_o : vl w 3 o := hV.hv 3 rfl ⟨by omega, by show _ < (2 : Int); omega⟩
  have vl4_o : vl w 4 o := hV.hv 4 rfl ⟨by omega, by show _ < (2 : Int); omega⟩
  have vl512_o_4 : vl w 512 (o + 4) := hV.hv 512 rfl ⟨by omega, by show _ < (8 : Int); omega⟩
  have vl8_o_4 : vl w 8 (o + 4) := hV.hv 8 rfl ⟨by omega, by show _ < (8 : Int); omega⟩
  intro y1 σ H locs ls ry1 hl hW hS h
  unfold wp_Store_beginCommit_L109 at h
  refine lv_iload_n X.1 X.2.1 dX5_beginCommit_109 rfl (lv_at hl 1 rfl) ?_
  refine lv_aload_n X.1 X.2.1 dX5_beginCommit_110 rfl (lv_at hl 0 rfl) ?_
  refine wg (v := .int (oI (gI σ 218 o))) X hT hW 3 26 218 vl3_o rfl rfl (by decide) rfl (by decide) in_X5 q557 rfl dX5_beginCommit_111 ?_
  refine w_icmp_ge (tgt := 143) X ry1 (hW.r.i 218 o rfl) dX5_beginCommit_114 (by decide) (fun hc => ?_) (fun hc => ?_)
  · have h := h.1 hc
    refine lv_aload_n X.1 X.2.1 dX5_beginCommit_143 rfl (lv_at hl 0 rfl) ?_
    refine wg (v := .ref (wad w 8 (o + 4))) X hT hW 3 8 200 vl3_o rfl rfl (by decide) rfl (by decide) in_X5 q534 rfl dX5_beginCommit_144 ?_
    refine lv_aload_n X.1 X.2.1 dX5_beginCommit_147 rfl (lv_at hl 0 rfl) ?_
    refine wr_J (rV (As := []) (rest := [.ref (wad w 8 (o + 4))]) X hT hW hS (met_Store_serial l (w := w) hV o _ σ (by omega) h) (cwV 0 X.2.2.2.2 (lw_V q751 q752 q753 q136 q754) rfl rfl rfl (by decide +kernel) ⟨Nat.le_of_ble_eq_true rfl, Nat.le_of_ble_eq_true rfl⟩) vl3_o (by decide) rfl rfl hl.1 rfl (by first | exact Nat.le_of_ble_eq_true rfl | simp [catK, catI, catR, catL]) dX5_beginCommit_148 ⟨Nat.le_refl _, Nat.le_refl _⟩) hS (fun r_122 σ_123 H locs rr_122 rkσ_123 h hWσ_123 hS => ?_)
    have h := h rr_122 rkσ_123
    refine lv_iconst (v := oI 1) X.1 X.2.1 dX5_beginCommit_151 rfl ?_
    refine wr_V (rV (As := [.long (oL r_122), .int (oI 1)]) (rest := []) X hT hWσ_123 hS (met_Row_close l (w := w) hV (o + 4) r_122 1 _ σ_123 (by omega) rr_122 rZ_1 h) (cwV 2 X.2.2.2.2 (lw_V q755 q756 q757 q132 q758) rfl rfl rfl (by decide +kernel) ⟨Nat.le_of_ble_eq_true rfl, Nat.le_of_ble_eq_true rfl⟩) vl8_o_4 (by decide) rfl rfl hl.1 rfl (by first | exact Nat.le_of_ble_eq_true rfl | simp [catK, catI, catR, catL]) dX5_beginCommit_152 ⟨Nat.le_refl _, Nat.le_refl _⟩) hS (fun σ_125 H locs rkσ_125 h hWσ_125 hS => ?_)
    have h := h rkσ_125
    refine lv_aload_n X.1 X.2.1 dX5_beginCommit_155 rfl (lv_at hl 0 rfl) ?_
    refine wg (v := .ref (wad w 4 o)) X hT hWσ_125 3 0 192 vl3_o rfl rfl (by decide) rfl (by decide) in_X5 q523 rfl dX5_beginCommit_156 ?_
    refine lv_aload_n X.1 X.2.1 dX5_beginCommit_159 rfl (lv_at hl 0 rfl) ?_
    refine wg (v := .int (oI (gI σ_125 208 o))) X hT hWσ_125 3 16 208 vl3_o rfl rfl (by decide) rfl (by decide) in_X5 q546 rfl dX5_beginCommit_160 ?_
    refine lv_iconst (v := oI 0) X.1 X.2.1 dX5_beginCommit_163 rfl ?_
    refine lv_aload_n X.1 X.2.1 dX5_beginCommit_164 rfl (lv_at hl 0 rfl) ?_
    refine wg (v := .ref (wad w 8 (o + 4))) X hT hWσ_125 3 8 200 vl3_o rfl rfl (by decide) rfl (by decide) in_X5 q534 rfl dX5_beginCommit_165 ?_
    refine wg (v := .ref (wad w 512 (o + 4))) X hT hWσ_125 8 0 512 vl8_o_4 rfl rfl (by decide) rfl (by decide) in_X2 q166 rfl dX5_beginCommit_168 ?_
    refine lv_iconst (v := oI 0) X.1 X.2.1 dX5_beginCommit_171 rfl ?_
    refine wr_V (rV (As := [.int (oI (gI σ_125 208 o)), .int (oI 0), .ref (wad w 512 (o + 4)), .int (oI 0)]) (rest := []) X hT hWσ_125 hS (met_Blocks_write l (w := w) hV o (gI σ_125 208 o) 0 512 (o + 4) 0 _ σ_125 (by omega) (hWσ_125.r.i 208 o rfl) rZ_0.i vl512_o_4 (by decide) rfl rZ_0.i h) (cwV 4 X.2.2.2.2 (lw_V q1028 q861 q862 q137 q863) rfl rfl rfl (by decide +kernel) ⟨Nat.le_of_ble_eq_true rfl, Nat.le_of_ble_eq_true rfl⟩) vl4_o (by decide) rfl rfl hl.1 rfl (by first | exact Nat.le_of_ble_eq_true rfl | simp [catK, catI, catR, catL]) dX5_beginCommit_172 ⟨Nat.le_refl _, Nat.le_refl _⟩) hS (fun σ_127 H locs rkσ_127 h hWσ_127 hS => ?_)
    have h := h rkσ_127
    refine lv_aload_n X.1 X.2.1 dX5_beginCommit_175 rfl (lv_at hl 0 rfl) ?_
    refine lv_iconst (v := oI 1) X.1 X.2.1 dX5_beginCommit_176 rfl ?_
    refine wput (z := 1) X hT hWσ_127 hS 3 17 209 vl3_o rfl rfl (by decide) rfl (by decide) in_X5 tyX5 tyX5_ok nmX5 q547 rfl rfl rZ_1.i (fv0 w rfl) rfl rfl dX5_beginCommit_177 (fun H locs hN hS => ?_)
    obtain ⟨σ_128, eσ_128⟩ : ∃ x, x = sI σ_127 209 o 1 := ⟨_, rfl⟩
    have hWσ_128 : Wo w σ_128 H := eσ_128 ▸ hN
    have h := h σ_128 eσ_128
    clear hN
    refine lv_iconst (v := oI 0) X.1 X.2.1 dX5_beginCommit_180 rfl ?_
    refine lv_istore_n (i := 1) (lv' := [(1, .int (oI 0)), (0, .ref (wad w 3 o))]) X.1 X.2.1 dX5_beginCommit_181 rfl hl (by decide) (by first | rfl | simp [catK, catI, catR, catL]) (fun ls hl => ?_)
    exact wk_Store_beginCommit_L182 X hr hlk hT hV ho 0 σ_128 _ _ _ rZ_0.i (lv_sub hl [1, 0] rfl) hWσ_128 hS h
  · have h := h.2 hc
    refine lv_aload_n X.1 X.2.1 dX5_beginCommit_117 rfl (lv_at hl 0 rfl) ?_
    refine wg (v := .ref (wad w 8 (o + 4))) X hT hW 3 8 200 vl3_o rfl rfl (by decide) rfl (by decide) in_X5 q534 rfl dX5_beginCommit_118 ?_
    refine lv_bipush (v := oI 8) X.1 X.2.1 dX5_beginCommit_121 (by decide) ?_
    refine lv_iconst (v := oI 4) X.1 X.2.1 dX5_beginCommit_123 rfl ?_
    refine lv_iload_n X.1 X.2.1 dX5_beginCommit_124 rfl (lv_at hl 1 rfl) ?_
    refine w_imul X dX5_beginCommit_125 ?_
    refine w_iadd X dX5_beginCommit_126 ?_
    refine lv_aload_n X.1 X.2.1 dX5_beginCommit_127 rfl (lv_at hl 0 rfl) ?_
    refine wg (v := .ref (wad w 217 o)) X hT hW 3 25 217 vl3_o rfl rfl (by decide) rfl (by decide) in_X5 q555 rfl dX5_beginCommit_128 ?_
    refine lv_iload_n X.1 X.2.1 dX5_beginCommit_131 rfl (lv_at hl 1 rfl) ?_
    obtain ⟨bi, h⟩ := h
    refine w_iald (n := 16) X hT hW 217 vl217_o (by decide) rfl rfl bi dX5_beginCommit_132 ?_
    refine wr_R (rV (As := [.int (oI (w32 (8 + (w32 (4 * y1))))), .int (oI (gA σ 217 o y1))]) (rest := []) X hT hW hS (met_Row_put l (w := w) hV (o + 4) (w32 (8 + (w32 (4 * y1)))) (gA σ 217 o y1) _ σ (by omega) (w32_r _) (hW.r.ai 217 o y1 rfl) h) (cwV 2 X.2.2.2.2 (lw_V q747 q748 q749 q132 q750) rfl rfl rfl (by decide +kernel) ⟨Nat.le_of_ble_eq_true rfl, Nat.le_of_ble_eq_true rfl⟩) vl8_o_4 (by decide) rfl rfl hl.1 rfl (by first | exact Nat.le_of_ble_eq_true rfl | simp [catK, catI, catR, catL]) dX5_beginCommit_133 ⟨Nat.le_refl _, Nat.le_refl _⟩) hS (fun σ_130 H locs rkσ_130 h hWσ_130 hS => ?_)
    have h := h rkσ_130
    refine lv_pop X.1 X.2.1 dX5_beginCommit_136 rfl ?_
    obtain ⟨y1_131, ey1_131⟩ : ∃ y : Int, y = w32 (y1 + 1) := ⟨_, rfl⟩
    have h := h y1_131 ey1_131
    have ry1_131 : rI y1_131 := by rw [ey1_131]; exact w32_r _
    refine lv_iinc (v := oI y1_131) (lv' := [(1, .int (oI y1_131)), (0, .ref (wad w 3 o))]) X.1 X.2.1 dX5_beginCommit_137 hl (k := 1) rfl (by rw [ey1_131]; exact oI_add _ _) (by decide) (by first | rfl | simp [catK, catI, catR, catL]) (fun ls hl => ?_)
    refine lv_goto (tgt := 109) X.1 X.2.1 dX5_beginCommit_140 (by decide) ?_
    exact hK109 y1_131 σ_130 _ _ _ ry1_131 (lv_sub hl [1, 0] rfl) hWσ_130 hS h
theorem wk_Store_beginCommit_L109 {p : Program} {l : Launch} {e : Env} {st : State} {m : MethodId} {args : Array Value} {below : List Frame} {meth : Method} {c : Code} {w : Wp} {o : Int} {Q : St → Prop} (X : CallFix p m c cX5_beginCommit 2 st args lw_all RX5) (hr : meth.sig.returnType = none) (hlk : meth.locks = false) (hT : Tb w st) (hV : Hvl w) (ho : 0 ≤ o ∧ o < 2) : ∀ (y1 : Int) (σ : St) (H : Heap) (locs : List Loc) (ls : Array Slot), rI y1 → lv_has ls 2 [(0, .ref (wad w 3 o)), (1, .int (oI y1))] → Wo w σ H → va_S (wA w) st.heap H locs → lQ1 (wp_Store_beginCommit_L109 (wc w) (wtv w) o Q) y1 σ → W p l e (headSpec (ws_ yX5_beginCommit cX5_beginCommit 2 none) rm_Store_beginCommit).room st m args below meth c H locs 0 0 (MQ below (QcV w Q) args st 0 0 (wA w)) (F0 m 109 ls []) := by
  intro y1 σ H locs ls ry1 hl hW hS h
  obtain ⟨fu, h⟩ := h
  induction fu generalizing y1 σ H locs ls with
  | zero => exact h.elim
  | succ fu ih =>
    exact wk_Store_beginCommit_L109B X hr hlk hT hV ho (lq1 (wp_Store_beginCommit_L109 (wc w) (wtv w) o Q) fu) (fun y1 σ H locs ls ry1 hl hW hS h => ih y1 σ H locs ls ry1 hl hW hS h) y1 σ H locs ls ry1 hl hW hS h
set_option maxHeartbeats 4000000 in
set_option maxRecDepth 100000 in
theorem wk_Store_beginCommit_b47 {p : Program} {l : Launch} {e : Env} {st : State} {m : MethodId} {args : Array Value} {below : List Frame} {meth : Method} {c : Code} {w : Wp} {o : Int} {Q : St → Prop} (X : CallFix p m c cX5_beginCommit 2 st args lw_all RX5) (hr : meth.sig.returnType = none) (hlk : meth.locks = false) (hT : Tb w st) (hV : Hvl w) (ho : 0 ≤ o ∧ o < 2) : ∀ (σ : St) (H : Heap) (locs : List Loc) (ls : Array Slot), lv_has ls 2 [(0, .ref (wad w 3 o))] → Wo w σ H → va_S (wA w) st.heap H locs → wp_Store_beginCommit_b47 (wc w) (wtv w) o Q σ → W p l e (headSpec (ws_ yX5_beginCommit cX5_beginCommit 2 none) rm_Store_beginCommit).room st m args below meth c H locs 0 0 (MQ below (QcV w Q) args st 0 0 (wA w)) (F0 m 47 ls []) := by
  have vl3_o : vl w 3 o := hV.hv 3 rfl ⟨by omega, by show _ < (2 : Int); omega⟩
  have vl4_o : vl w 4 o := hV.hv 4 rfl ⟨by omega, by show _ < (2 : Int); omega⟩
  have vl7_o_2 : vl w 7 (o + 2) := hV.hv 7 rfl ⟨by omega, by show _ < (6 : Int); omega⟩
  intro σ H locs ls hl hW hS h
  unfold wp_Store_beginCommit_b47 at h
  refine lv_aload_n X.1 X.2.1 dX5_beginCommit_47 rfl (lv_at hl 0 rfl) ?_
  refine wg (v := .ref (wad w 7 (o + 2))) X hT hW 3 4 196 vl3_o rfl rfl (by decide) rfl (by decide) in_X5 q529 rfl dX5_beginCommit_48 ?_
  refine wr_V (rV (As := []) (rest := []) X hT hW hS (met_Writer_flush l (w := w) hV (o + 2) _ σ (by omega) h) (cwV 0 X.2.2.2.2 (lw_V q1011 q996 q997 q141 q998) rfl rfl rfl (by decide +kernel) ⟨Nat.le_of_ble_eq_true rfl, Nat.le_of_ble_eq_true rfl⟩) vl7_o_2 (by decide) rfl rfl hl.1 rfl (by first | exact Nat.le_of_ble_eq_true rfl | simp [catK, catI, catR, catL]) dX5_beginCommit_51 ⟨Nat.le_refl _, Nat.le_refl _⟩) hS (fun σ_133 H locs rkσ_133 h hWσ_133 hS => ?_)
  have h := h rkσ_133
  refine lv_aload_n X.1 X.2.1 dX5_beginCommit_54 rfl (lv_at hl 0 rfl) ?_
  refine lv_aload_n X.1 X.2.1 dX5_beginCommit_55 rfl (lv_at hl 0 rfl) ?_
  refine wg (v := .int (oI (gI σ_133 208 o))) X hT hWσ_133 3 16 208 vl3_o rfl rfl (by decide) rfl (by decide) in_X5 q546 rfl dX5_beginCommit_56 ?_
  refine wput (z := gI σ_133 208 o) X hT hWσ_133 hS 3 27 219 vl3_o rfl rfl (by decide) rfl (by decide) in_X5 tyX5 tyX5_ok nmX5 q559 rfl rfl (hWσ_133.r.i 208 o rfl) (fv0 w rfl) rfl rfl dX5_beginCommit_59 (fun H locs hN hS => ?_)
  obtain ⟨σ_134, eσ_134⟩ : ∃ x, x = sI σ_133 219 o (gI σ_133 208 o) := ⟨_, rfl⟩
  have hWσ_134 : Wo w σ_134 H := eσ_134 ▸ hN
  have h := h σ_134 eσ_134
  clear hN
  refine lv_aload_n X.1 X.2.1 dX5_beginCommit_62 rfl (lv_at hl 0 rfl) ?_
  refine lv_iconst (v := oI 5) X.1 X.2.1 dX5_beginCommit_63 rfl ?_
  refine lv_aload_n X.1 X.2.1 dX5_beginCommit_64 rfl (lv_at hl 0 rfl) ?_
  refine wg (v := .int (oI (gI σ_134 208 o))) X hT hWσ_134 3 16 208 vl3_o rfl rfl (by decide) rfl (by decide) in_X5 q546 rfl dX5_beginCommit_65 ?_
  refine w_isub X dX5_beginCommit_68 ?_
  refine wput (z := w32 (5 - (gI σ_134 208 o))) X hT hWσ_134 hS 3 16 208 vl3_o rfl rfl (by decide) rfl (by decide) in_X5 tyX5 tyX5_ok nmX5 q546 rfl rfl (w32_r _) (fv0 w rfl) rfl rfl dX5_beginCommit_69 (fun H locs hN hS => ?_)
  obtain ⟨σ_135, eσ_135⟩ : ∃ x, x = sI σ_134 208 o (w32 (5 - (gI σ_134 208 o))) := ⟨_, rfl⟩
  have hWσ_135 : Wo w σ_135 H := eσ_135 ▸ hN
  have h := h σ_135 eσ_135
  clear hN
  refine lv_aload_n X.1 X.2.1 dX5_beginCommit_72 rfl (lv_at hl 0 rfl) ?_
  refine wg (v := .ref (wad w 4 o)) X hT hWσ_135 3 0 192 vl3_o rfl rfl (by decide) rfl (by decide) in_X5 q523 rfl dX5_beginCommit_73 ?_
  refine lv_aload_n X.1 X.2.1 dX5_beginCommit_76 rfl (lv_at hl 0 rfl) ?_
  refine wg (v := .int (oI (gI σ_135 208 o))) X hT hWσ_135 3 16 208 vl3_o rfl rfl (by decide) rfl (by decide) in_X5 q546 rfl dX5_beginCommit_77 ?_
  refine wr_V (rV (As := [.int (oI (gI σ_135 208 o))]) (rest := []) X hT hWσ_135 hS (met_Blocks_drop l (w := w) hV o (gI σ_135 208 o) _ σ_135 (by omega) (hWσ_135.r.i 208 o rfl) h) (cwV 1 X.2.2.2.2 (lw_V q1027 q776 q777 q137 q778) rfl rfl rfl (by decide +kernel) ⟨Nat.le_of_ble_eq_true rfl, Nat.le_of_ble_eq_true rfl⟩) vl4_o (by decide) rfl rfl hl.1 rfl (by first | exact Nat.le_of_ble_eq_true rfl | simp [catK, catI, catR, catL]) dX5_beginCommit_80 ⟨Nat.le_refl _, Nat.le_refl _⟩) hS (fun σ_137 H locs rkσ_137 h hWσ_137 hS => ?_)
  have h := h rkσ_137
  refine lv_aload_n X.1 X.2.1 dX5_beginCommit_83 rfl (lv_at hl 0 rfl) ?_
  refine lv_dup X.1 X.2.1 dX5_beginCommit_84 rfl ?_
  refine wg (v := .int (oI (gI σ_137 212 o))) X hT hWσ_137 3 20 212 vl3_o rfl rfl (by decide) rfl (by decide) in_X5 q550 rfl dX5_beginCommit_85 ?_
  refine lv_iconst (v := oI 1) X.1 X.2.1 dX5_beginCommit_88 rfl ?_
  refine w_iadd X dX5_beginCommit_89 ?_
  refine wput (z := w32 ((gI σ_137 212 o) + 1)) X hT hWσ_137 hS 3 20 212 vl3_o rfl rfl (by decide) rfl (by decide) in_X5 tyX5 tyX5_ok nmX5 q550 rfl rfl (w32_r _) (fv0 w rfl) rfl rfl dX5_beginCommit_90 (fun H locs hN hS => ?_)
  obtain ⟨σ_138, eσ_138⟩ : ∃ x, x = sI σ_137 212 o (w32 ((gI σ_137 212 o) + 1)) := ⟨_, rfl⟩
  have hWσ_138 : Wo w σ_138 H := eσ_138 ▸ hN
  have h := h σ_138 eσ_138
  clear hN
  refine lv_aload_n X.1 X.2.1 dX5_beginCommit_93 rfl (lv_at hl 0 rfl) ?_
  refine lv_bipush (v := oI 7) X.1 X.2.1 dX5_beginCommit_94 (by decide) ?_
  refine lv_aload_n X.1 X.2.1 dX5_beginCommit_96 rfl (lv_at hl 0 rfl) ?_
  refine wg (v := .int (oI (gI σ_138 212 o))) X hT hWσ_138 3 20 212 vl3_o rfl rfl (by decide) rfl (by decide) in_X5 q550 rfl dX5_beginCommit_97 ?_
  refine lv_aload_n X.1 X.2.1 dX5_beginCommit_100 rfl (lv_at hl 0 rfl) ?_
  refine wg (v := .int (oI (gI σ_138 218 o))) X hT hWσ_138 3 26 218 vl3_o rfl rfl (by decide) rfl (by decide) in_X5 q557 rfl dX5_beginCommit_101 ?_
  refine wr_V (rV (As := [.int (oI 7), .int (oI (gI σ_138 212 o)), .int (oI (gI σ_138 218 o))]) (rest := []) X hT hWσ_138 hS (met_Store_sheetOf l (w := w) hV o 7 (gI σ_138 212 o) (gI σ_138 218 o) _ σ_138 (by omega) ((rB_lit 7 (by decide)).i) (hWσ_138.r.i 212 o rfl) (hWσ_138.r.i 218 o rfl) h) (cwV 3 X.2.2.2.2 (lw_V q1012 q1014 qs25 q136 q1015) rfl rfl rfl (by decide +kernel) ⟨Nat.le_of_ble_eq_true rfl, Nat.le_of_ble_eq_true rfl⟩) vl3_o (by decide) rfl rfl hl.1 rfl (by first | exact Nat.le_of_ble_eq_true rfl | simp [catK, catI, catR, catL]) dX5_beginCommit_104 ⟨Nat.le_refl _, Nat.le_refl _⟩) hS (fun σ_140 H locs rkσ_140 h hWσ_140 hS => ?_)
  have h := h rkσ_140
  refine lv_iconst (v := oI 0) X.1 X.2.1 dX5_beginCommit_107 rfl ?_
  refine lv_istore_n (i := 1) (lv' := [(1, .int (oI 0)), (0, .ref (wad w 3 o))]) X.1 X.2.1 dX5_beginCommit_108 rfl hl (by decide) (by first | rfl | simp [catK, catI, catR, catL]) (fun ls hl => ?_)
  exact wk_Store_beginCommit_L109 X hr hlk hT hV ho 0 σ_140 _ _ _ rZ_0.i (lv_sub hl [1, 0] rfl) hWσ_140 hS h
set_option maxHeartbeats 4000000 in
set_option maxRecDepth 100000 in
theorem met_Store_beginCommit (l : Launch) {w : Wp} (hV : Hvl w) (o : Int) (Q : St → Prop) (σ : St) (ho : 0 ≤ o ∧ o < 2) (h : wp_Store_beginCommit (wc w) (wtv w) o Q σ) : Met l yX5_beginCommit (ws_ yX5_beginCommit cX5_beginCommit 2 none) rm_Store_beginCommit (PcW w σ [.ref (wad w 3 o)]) (QcV w Q) 0 0 (wA w) := by
  refine Met.ofW (cc := cX5_beginCommit) (maxL := 2) (ret := none) (by decide) rfl ?_
  intro p e st m args below meth c s₁ B hml hv
  obtain ⟨hargs, hW, hT⟩ := hv
  have X : CallFix p m c cX5_beginCommit 2 st _ lw_all RX5 := ⟨B.exec, B.bytes, hml, findClass_of_methodNamed B.named, fun w h => atoms_spec (ws := ws_ yX5_beginCommit cX5_beginCommit 2 none) B.pre w (List.mem_cons_of_mem _ h)⟩
  have hr := B.returns
  have hlk := B.notSynchronized
  have hS : va_S (wA w) st.heap st.heap [] := va_S.rf
  have vl3_o : vl w 3 o := hV.hv 3 rfl ⟨by omega, by show _ < (2 : Int); omega⟩
  have vl5_o : vl w 5 o := hV.hv 5 rfl ⟨by omega, by show _ < (2 : Int); omega⟩
  have vl6_o : vl w 6 o := hV.hv 6 rfl ⟨by omega, by show _ < (2 : Int); omega⟩
  have hl := lv_entry ([.ref (wad w 3 o)]) (n := 2) (Nat.le_of_ble_eq_true rfl)
  have hfr := lg_entry_eq m ([.ref (wad w 3 o)]) 2
  rw [← hargs] at hfr
  rw [hfr]
  generalize (lg_sl ([.ref (wad w 3 o)]) ++ List.replicate (2 - (lg_sl ([.ref (wad w 3 o)])).length) Slot.unset).toArray = ls at hl ⊢
  have hl : lv_has ls 2 [(0, .ref (wad w 3 o))] := hl
  unfold wp_Store_beginCommit at h
  refine lv_aload_n X.1 X.2.1 dX5_beginCommit_0 rfl (lv_at hl 0 rfl) ?_
  refine wg (v := .ref (wad w 5 o)) X hT hW 3 1 193 vl3_o rfl rfl (by decide) rfl (by decide) in_X5 q525 rfl dX5_beginCommit_1 ?_
  refine wr_I (rV (As := []) (rest := []) X hT hW hS (met_Space_empty l (w := w) hV o _ σ (by omega) h) (cwV 0 X.2.2.2.2 (lw_V q1037 q1038 q1039 q138 q1040) rfl rfl rfl (by decide +kernel) ⟨Nat.le_of_ble_eq_true rfl, Nat.le_of_ble_eq_true rfl⟩) vl5_o (by decide) rfl rfl hl.1 rfl (by first | exact Nat.le_of_ble_eq_true rfl | simp [catK, catI, catR, catL]) dX5_beginCommit_4 ⟨Nat.le_refl _, Nat.le_refl _⟩) hS (fun r_141 σ_142 H locs rr_141 rkσ_142 h hWσ_142 hS => ?_)
  have h := h rr_141 rkσ_142
  refine lv_aload_n X.1 X.2.1 dX5_beginCommit_7 rfl (lv_at hl 0 rfl) ?_
  refine lv_aload_n X.1 X.2.1 dX5_beginCommit_8 rfl (lv_at hl 0 rfl) ?_
  refine wg (v := .ref (wad w 6 o)) X hT hWσ_142 3 2 194 vl3_o rfl rfl (by decide) rfl (by decide) in_X5 q526 rfl dX5_beginCommit_9 ?_
  refine lv_aload_n X.1 X.2.1 dX5_beginCommit_12 rfl (lv_at hl 0 rfl) ?_
  refine wg (v := .ref (wad w 6 o)) X hT hWσ_142 3 2 194 vl3_o rfl rfl (by decide) rfl (by decide) in_X5 q526 rfl dX5_beginCommit_13 ?_
  refine wg (v := va_rf (knO w (gI σ_142 387 o))) X hT hWσ_142 6 3 387 vl6_o rfl rfl (by decide) rfl (by decide) in_X8 q446 rfl dX5_beginCommit_16 ?_
  refine wr_I (rV (As := [va_rf (knO w (gI σ_142 387 o))]) (rest := [.ref (wad w 3 o), .int (oI r_141)]) X hT hWσ_142 hS (met_Index_freshBytes l hV 12 o (gI σ_142 387 o) _ σ_142 (by omega) (hWσ_142.r.k 387 o rfl) h) (cwV 1 X.2.2.2.2 (lw_V q1041 q1042 q1043 q139 q1044) rfl rfl rfl (by decide +kernel) ⟨Nat.le_of_ble_eq_true rfl, Nat.le_of_ble_eq_true rfl⟩) vl6_o (by decide) rfl rfl hl.1 rfl (by first | exact Nat.le_of_ble_eq_true rfl | simp [catK, catI, catR, catL]) dX5_beginCommit_19 ⟨Nat.le_refl _, Nat.le_refl _⟩) hS (fun r_143 σ_144 H locs rr_143 rkσ_144 h hWσ_144 hS => ?_)
  have h := h rr_143 rkσ_144
  refine wr_I (rV (As := [.int (oI r_143)]) (rest := [.int (oI r_141)]) X hT hWσ_144 hS (met_Store_costOf l (w := w) hV o r_143 _ σ_144 (by omega) rr_143 h) (cwV 1 X.2.2.2.2 (lw_V q366 q368 qs0 q136 q369) rfl rfl rfl (by decide +kernel) ⟨Nat.le_of_ble_eq_true rfl, Nat.le_of_ble_eq_true rfl⟩) vl3_o (by decide) rfl rfl hl.1 rfl (by first | exact Nat.le_of_ble_eq_true rfl | simp [catK, catI, catR, catL]) dX5_beginCommit_22 ⟨Nat.le_refl _, Nat.le_refl _⟩) hS (fun r_145 σ_146 H locs rr_145 rkσ_146 h hWσ_146 hS => ?_)
  have h := h rr_145 rkσ_146
  refine w_isub X dX5_beginCommit_25 ?_
  refine lv_aload_n X.1 X.2.1 dX5_beginCommit_26 rfl (lv_at hl 0 rfl) ?_
  refine wg (v := .int (oI (whl (wc w)))) X hT hWσ_146 3 34 226 vl3_o rfl rfl (by decide) rfl (by decide) in_X5 q566 rfl dX5_beginCommit_27 ?_
  refine w_icmp_gt (tgt := 47) X (w32_r _) (cin_r hT.c 226) dX5_beginCommit_30 (by decide) (fun hc => ?_) (fun hc => ?_)
  · have h := h.1 hc
    exact wk_Store_beginCommit_b47 X hr hlk hT hV ho σ_146 _ _ _ (lv_sub hl [0] rfl) hWσ_146 hS h
  · have h := h.2 hc
    refine lv_aload_n X.1 X.2.1 dX5_beginCommit_33 rfl (lv_at hl 0 rfl) ?_
    refine wg (v := .ref (wad w 6 o)) X hT hWσ_146 3 2 194 vl3_o rfl rfl (by decide) rfl (by decide) in_X5 q526 rfl dX5_beginCommit_34 ?_
    refine lv_aload_n X.1 X.2.1 dX5_beginCommit_37 rfl (lv_at hl 0 rfl) ?_
    refine wg (v := .ref (wad w 6 o)) X hT hWσ_146 3 2 194 vl3_o rfl rfl (by decide) rfl (by decide) in_X5 q526 rfl dX5_beginCommit_38 ?_
    refine wg (v := va_rf (knO w (gI σ_146 387 o))) X hT hWσ_146 6 3 387 vl6_o rfl rfl (by decide) rfl (by decide) in_X8 q446 rfl dX5_beginCommit_41 ?_
    refine wr_V (rV (As := [va_rf (knO w (gI σ_146 387 o))]) (rest := []) X hT hWσ_146 hS (met_Index_stirAll l hV 12 o (gI σ_146 387 o) _ σ_146 (by omega) (hWσ_146.r.k 387 o rfl) h) (cwV 1 X.2.2.2.2 (lw_V q1047 q1048 q1049 q139 q1050) rfl rfl rfl (by decide +kernel) ⟨Nat.le_of_ble_eq_true rfl, Nat.le_of_ble_eq_true rfl⟩) vl6_o (by decide) rfl rfl hl.1 rfl (by first | exact Nat.le_of_ble_eq_true rfl | simp [catK, catI, catR, catL]) dX5_beginCommit_44 ⟨Nat.le_refl _, Nat.le_refl _⟩) hS (fun σ_148 H locs rkσ_148 h hWσ_148 hS => ?_)
    have h := h rkσ_148
    exact wk_Store_beginCommit_b47 X hr hlk hT hV ho σ_148 _ _ _ (lv_sub hl [0] rfl) hWσ_148 hS h
/-! Store.commitAll()V -/
set_option maxHeartbeats 4000000 in
set_option maxRecDepth 100000 in
theorem met_Store_commitAll (l : Launch) {w : Wp} (hV : Hvl w) (o : Int) (Q : St → Prop) (σ : St) (ho : 0 ≤ o ∧ o < 2) (h : wp_Store_commitAll (wc w) (wtv w) o Q σ) : Met l yX5_commitAll (ws_ yX5_commitAll cX5_commitAll 1 none) rm_Store_commitAll (PcW w σ [.ref (wad w 3 o)]) (QcV w Q) 0 0 (wA w) := by
  refine Met.ofW (cc := cX5_commitAll) (maxL := 1) (ret := none) (by decide) rfl ?_
  intro p e st m args below meth c s₁ B hml hv
  obtain ⟨hargs, hW, hT⟩ := hv
  have X : CallFix p m c cX5_commitAll 1 st _ lw_all RX5 := ⟨B.exec, B.bytes, hml, findClass_of_methodNamed B.named, fun w h => atoms_spec (ws := ws_ yX5_commitAll cX5_commitAll 1 none) B.pre w (List.mem_cons_of_mem _ h)⟩
  have hr := B.returns
  have hlk := B.notSynchronized
  have hS : va_S (wA w) st.heap st.heap [] := va_S.rf
  have vl3_o : vl w 3 o := hV.hv 3 rfl ⟨by omega, by show _ < (2 : Int); omega⟩
  have hl := lv_entry ([.ref (wad w 3 o)]) (n := 1) (Nat.le_of_ble_eq_true rfl)
  have hfr := lg_entry_eq m ([.ref (wad w 3 o)]) 1
  rw [← hargs] at hfr
  rw [hfr]
  generalize (lg_sl ([.ref (wad w 3 o)]) ++ List.replicate (1 - (lg_sl ([.ref (wad w 3 o)])).length) Slot.unset).toArray = ls at hl ⊢
  have hl : lv_has ls 1 [(0, .ref (wad w 3 o))] := hl
  unfold wp_Store_commitAll at h
  refine lv_aload_n X.1 X.2.1 dX5_commitAll_0 rfl (lv_at hl 0 rfl) ?_
  refine wr_V (rV (As := []) (rest := []) X hT hW hS (met_Store_finish l (w := w) hV o _ σ (by omega) h) (cwV 0 X.2.2.2.2 (lw_V q963 q964 q965 q136 q966) rfl rfl rfl (by decide +kernel) ⟨Nat.le_of_ble_eq_true rfl, Nat.le_of_ble_eq_true rfl⟩) vl3_o (by decide) rfl rfl hl.1 rfl (by first | exact Nat.le_of_ble_eq_true rfl | simp [catK, catI, catR, catL]) dX5_commitAll_1 ⟨Nat.le_refl _, Nat.le_refl _⟩) hS (fun σ_8 H locs rkσ_8 h hWσ_8 hS => ?_)
  have h := h rkσ_8
  refine lv_aload_n X.1 X.2.1 dX5_commitAll_4 rfl (lv_at hl 0 rfl) ?_
  refine wr_V (rV (As := []) (rest := []) X hT hWσ_8 hS (met_Store_beginCommit l (w := w) hV o _ σ_8 (by omega) h) (cwV 0 X.2.2.2.2 (lw_V q1033 q1035 qs26 q136 q1036) rfl rfl rfl (by decide +kernel) ⟨Nat.le_of_ble_eq_true rfl, Nat.le_of_ble_eq_true rfl⟩) vl3_o (by decide) rfl rfl hl.1 rfl (by first | exact Nat.le_of_ble_eq_true rfl | simp [catK, catI, catR, catL]) dX5_commitAll_5 ⟨Nat.le_refl _, Nat.le_refl _⟩) hS (fun σ_10 H locs rkσ_10 h hWσ_10 hS => ?_)
  have h := h rkσ_10
  refine lv_aload_n X.1 X.2.1 dX5_commitAll_8 rfl (lv_at hl 0 rfl) ?_
  refine wr_V (rV (As := []) (rest := []) X hT hWσ_10 hS (met_Store_finish l (w := w) hV o _ σ_10 (by omega) h) (cwV 0 X.2.2.2.2 (lw_V q963 q964 q965 q136 q966) rfl rfl rfl (by decide +kernel) ⟨Nat.le_of_ble_eq_true rfl, Nat.le_of_ble_eq_true rfl⟩) vl3_o (by decide) rfl rfl hl.1 rfl (by first | exact Nat.le_of_ble_eq_true rfl | simp [catK, catI, catR, catL]) dX5_commitAll_9 ⟨Nat.le_refl _, Nat.le_refl _⟩) hS (fun σ_12 H locs rkσ_12 h hWσ_12 hS => ?_)
  have h := h rkσ_12
  exact wret_V X hr hlk hWσ_12 hS h dX5_commitAll_12
/-! Store.format()V -/
set_option maxHeartbeats 4000000 in
set_option maxRecDepth 100000 in
theorem met_Store_format (l : Launch) {w : Wp} (hV : Hvl w) (o : Int) (Q : St → Prop) (σ : St) (ho : 0 ≤ o ∧ o < 2) (h : wp_Store_format (wc w) (wtv w) o Q σ) : Met l yX5_format (ws_ yX5_format cX5_format 2 none) rm_Store_format (PcW w σ [.ref (wad w 3 o)]) (QcV w Q) 0 0 (wA w) := by
  refine Met.ofW (cc := cX5_format) (maxL := 2) (ret := none) (by decide) rfl ?_
  intro p e st m args below meth c s₁ B hml hv
  obtain ⟨hargs, hW, hT⟩ := hv
  have X : CallFix p m c cX5_format 2 st _ lw_all RX5 := ⟨B.exec, B.bytes, hml, findClass_of_methodNamed B.named, fun w h => atoms_spec (ws := ws_ yX5_format cX5_format 2 none) B.pre w (List.mem_cons_of_mem _ h)⟩
  have hr := B.returns
  have hlk := B.notSynchronized
  have hS : va_S (wA w) st.heap st.heap [] := va_S.rf
  have vl3_o : vl w 3 o := hV.hv 3 rfl ⟨by omega, by show _ < (2 : Int); omega⟩
  have vl4_o : vl w 4 o := hV.hv 4 rfl ⟨by omega, by show _ < (2 : Int); omega⟩
  have vl5_o : vl w 5 o := hV.hv 5 rfl ⟨by omega, by show _ < (2 : Int); omega⟩
  have vl512_o_2 : vl w 512 (o + 2) := hV.hv 512 rfl ⟨by omega, by show _ < (8 : Int); omega⟩
  have vl6_o : vl w 6 o := hV.hv 6 rfl ⟨by omega, by show _ < (2 : Int); omega⟩
  have vl7_o_2 : vl w 7 (o + 2) := hV.hv 7 rfl ⟨by omega, by show _ < (6 : Int); omega⟩
  have vl8_o_2 : vl w 8 (o + 2) := hV.hv 8 rfl ⟨by omega, by show _ < (8 : Int); omega⟩
  have hl := lv_entry ([.ref (wad w 3 o)]) (n := 2) (Nat.le_of_ble_eq_true rfl)
  have hfr := lg_entry_eq m ([.ref (wad w 3 o)]) 2
  rw [← hargs] at hfr
  rw [hfr]
  generalize (lg_sl ([.ref (wad w 3 o)]) ++ List.replicate (2 - (lg_sl ([.ref (wad w 3 o)])).length) Slot.unset).toArray = ls at hl ⊢
  have hl : lv_has ls 2 [(0, .ref (wad w 3 o))] := hl
  unfold wp_Store_format at h
  refine lv_aload_n X.1 X.2.1 dX5_format_0 rfl (lv_at hl 0 rfl) ?_
  refine wg (v := .ref (wad w 4 o)) X hT hW 3 0 192 vl3_o rfl rfl (by decide) rfl (by decide) in_X5 q523 rfl dX5_format_1 ?_
  refine wr_V (rV (As := []) (rest := []) X hT hW hS (met_Blocks_format l (w := w) hV o _ σ (by omega) h) (cwV 0 X.2.2.2.2 (lw_V q648 q649 q650 q137 q651) rfl rfl rfl (by decide +kernel) ⟨Nat.le_of_ble_eq_true rfl, Nat.le_of_ble_eq_true rfl⟩) vl4_o (by decide) rfl rfl hl.1 rfl (by first | exact Nat.le_of_ble_eq_true rfl | simp [catK, catI, catR, catL]) dX5_format_4 ⟨Nat.le_refl _, Nat.le_refl _⟩) hS (fun σ_34 H locs rkσ_34 h hWσ_34 hS => ?_)
  have h := h rkσ_34
  refine lv_aload_n X.1 X.2.1 dX5_format_7 rfl (lv_at hl 0 rfl) ?_
  refine wg (v := .ref (wad w 5 o)) X hT hWσ_34 3 1 193 vl3_o rfl rfl (by decide) rfl (by decide) in_X5 q525 rfl dX5_format_8 ?_
  refine wr_V (rV (As := []) (rest := []) X hT hWσ_34 hS (met_Space_clear l (w := w) hV o _ σ_34 (by omega) h) (cwV 0 X.2.2.2.2 (lw_V q712 q713 q714 q138 q715) rfl rfl rfl (by decide +kernel) ⟨Nat.le_of_ble_eq_true rfl, Nat.le_of_ble_eq_true rfl⟩) vl5_o (by decide) rfl rfl hl.1 rfl (by first | exact Nat.le_of_ble_eq_true rfl | simp [catK, catI, catR, catL]) dX5_format_11 ⟨Nat.le_refl _, Nat.le_refl _⟩) hS (fun σ_36 H locs rkσ_36 h hWσ_36 hS => ?_)
  have h := h rkσ_36
  refine lv_aload_n X.1 X.2.1 dX5_format_14 rfl (lv_at hl 0 rfl) ?_
  refine wg (v := .ref (wad w 6 o)) X hT hWσ_36 3 2 194 vl3_o rfl rfl (by decide) rfl (by decide) in_X5 q526 rfl dX5_format_15 ?_
  refine wr_V (rV (As := []) (rest := []) X hT hWσ_36 hS (met_Index_clear l (w := w) hV o _ σ_36 (by omega) h) (cwV 0 X.2.2.2.2 (lw_V q720 q721 q722 q139 q723) rfl rfl rfl (by decide +kernel) ⟨Nat.le_of_ble_eq_true rfl, Nat.le_of_ble_eq_true rfl⟩) vl6_o (by decide) rfl rfl hl.1 rfl (by first | exact Nat.le_of_ble_eq_true rfl | simp [catK, catI, catR, catL]) dX5_format_18 ⟨Nat.le_refl _, Nat.le_refl _⟩) hS (fun σ_38 H locs rkσ_38 h hWσ_38 hS => ?_)
  have h := h rkσ_38
  refine lv_aload_n X.1 X.2.1 dX5_format_21 rfl (lv_at hl 0 rfl) ?_
  refine lv_iconst (v := oI 0) X.1 X.2.1 dX5_format_22 rfl ?_
  refine wput (z := 0) X hT hWσ_38 hS 3 26 218 vl3_o rfl rfl (by decide) rfl (by decide) in_X5 tyX5 tyX5_ok nmX5 q557 rfl rfl rZ_0.i (fv0 w rfl) rfl rfl dX5_format_23 (fun H locs hN hS => ?_)
  obtain ⟨σ_39, eσ_39⟩ : ∃ x, x = sI σ_38 218 o 0 := ⟨_, rfl⟩
  have hWσ_39 : Wo w σ_39 H := eσ_39 ▸ hN
  have h := h σ_39 eσ_39
  clear hN
  refine lv_aload_n X.1 X.2.1 dX5_format_26 rfl (lv_at hl 0 rfl) ?_
  refine wg (v := .ref (wad w 8 (o + 2))) X hT hWσ_39 3 7 199 vl3_o rfl rfl (by decide) rfl (by decide) in_X5 q533 rfl dX5_format_27 ?_
  refine wr_V (rV (As := []) (rest := []) X hT hWσ_39 hS (met_Row_clear l (w := w) hV (o + 2) _ σ_39 (by omega) h) (cwV 0 X.2.2.2.2 (lw_V q736 q737 q738 q132 q739) rfl rfl rfl (by decide +kernel) ⟨Nat.le_of_ble_eq_true rfl, Nat.le_of_ble_eq_true rfl⟩) vl8_o_2 (by decide) rfl rfl hl.1 rfl (by first | exact Nat.le_of_ble_eq_true rfl | simp [catK, catI, catR, catL]) dX5_format_30 ⟨Nat.le_refl _, Nat.le_refl _⟩) hS (fun σ_41 H locs rkσ_41 h hWσ_41 hS => ?_)
  have h := h rkσ_41
  refine lv_aload_n X.1 X.2.1 dX5_format_33 rfl (lv_at hl 0 rfl) ?_
  refine wg (v := .ref (wad w 8 (o + 2))) X hT hWσ_41 3 7 199 vl3_o rfl rfl (by decide) rfl (by decide) in_X5 q533 rfl dX5_format_34 ?_
  refine lv_iconst (v := oI 1) X.1 X.2.1 dX5_format_37 rfl ?_
  refine lv_bipush (v := oI 48) X.1 X.2.1 dX5_format_38 (by decide) ?_
  refine wr_R (rV (As := [.int (oI 1), .int (oI 48)]) (rest := []) X hT hWσ_41 hS (met_Row_begin l (w := w) hV (o + 2) 1 48 _ σ_41 (by omega) rZ_1.i ((rB_lit 48 (by decide)).i) h) (cwV 2 X.2.2.2.2 (lw_V q740 q741 q742 q132 q743) rfl rfl rfl (by decide +kernel) ⟨Nat.le_of_ble_eq_true rfl, Nat.le_of_ble_eq_true rfl⟩) vl8_o_2 (by decide) rfl rfl hl.1 rfl (by first | exact Nat.le_of_ble_eq_true rfl | simp [catK, catI, catR, catL]) dX5_format_40 ⟨Nat.le_refl _, Nat.le_refl _⟩) hS (fun σ_43 H locs rkσ_43 h hWσ_43 hS => ?_)
  have h := h rkσ_43
  refine lv_iconst (v := oI 0) X.1 X.2.1 dX5_format_43 rfl ?_
  refine lv_iconst (v := oI 1) X.1 X.2.1 dX5_format_44 rfl ?_
  refine wr_R (rV (As := [.int (oI 0), .int (oI 1)]) (rest := []) X hT hWσ_43 hS (met_Row_put l (w := w) hV (o + 2) 0 1 _ σ_43 (by omega) rZ_0.i rZ_1.i h) (cwV 2 X.2.2.2.2 (lw_V q747 q748 q749 q132 q750) rfl rfl rfl (by decide +kernel) ⟨Nat.le_of_ble_eq_true rfl, Nat.le_of_ble_eq_true rfl⟩) vl8_o_2 (by decide) rfl rfl hl.1 rfl (by first | exact Nat.le_of_ble_eq_true rfl | simp [catK, catI, catR, catL]) dX5_format_45 ⟨Nat.le_refl _, Nat.le_refl _⟩) hS (fun σ_45 H locs rkσ_45 h hWσ_45 hS => ?_)
  have h := h rkσ_45
  refine lv_iconst (v := oI 4) X.1 X.2.1 dX5_format_48 rfl ?_
  refine lv_iconst (v := oI 1) X.1 X.2.1 dX5_format_49 rfl ?_
  refine wr_R (rV (As := [.int (oI 4), .int (oI 1)]) (rest := []) X hT hWσ_45 hS (met_Row_put l (w := w) hV (o + 2) 4 1 _ σ_45 (by omega) ((rB_lit 4 (by decide)).i) rZ_1.i h) (cwV 2 X.2.2.2.2 (lw_V q747 q748 q749 q132 q750) rfl rfl rfl (by decide +kernel) ⟨Nat.le_of_ble_eq_true rfl, Nat.le_of_ble_eq_true rfl⟩) vl8_o_2 (by decide) rfl rfl hl.1 rfl (by first | exact Nat.le_of_ble_eq_true rfl | simp [catK, catI, catR, catL]) dX5_format_50 ⟨Nat.le_refl _, Nat.le_refl _⟩) hS (fun σ_47 H locs rkσ_47 h hWσ_47 hS => ?_)
  have h := h rkσ_47
  refine lv_pop X.1 X.2.1 dX5_format_53 rfl ?_
  refine lv_aload_n X.1 X.2.1 dX5_format_54 rfl (lv_at hl 0 rfl) ?_
  refine wg (v := .ref (wad w 8 (o + 2))) X hT hWσ_47 3 7 199 vl3_o rfl rfl (by decide) rfl (by decide) in_X5 q533 rfl dX5_format_55 ?_
  refine lv_aload_n X.1 X.2.1 dX5_format_58 rfl (lv_at hl 0 rfl) ?_
  refine wr_J (rV (As := []) (rest := [.ref (wad w 8 (o + 2))]) X hT hWσ_47 hS (met_Store_serial l (w := w) hV o _ σ_47 (by omega) h) (cwV 0 X.2.2.2.2 (lw_V q751 q752 q753 q136 q754) rfl rfl rfl (by decide +kernel) ⟨Nat.le_of_ble_eq_true rfl, Nat.le_of_ble_eq_true rfl⟩) vl3_o (by decide) rfl rfl hl.1 rfl (by first | exact Nat.le_of_ble_eq_true rfl | simp [catK, catI, catR, catL]) dX5_format_59 ⟨Nat.le_refl _, Nat.le_refl _⟩) hS (fun r_48 σ_49 H locs rr_48 rkσ_49 h hWσ_49 hS => ?_)
  have h := h rr_48 rkσ_49
  refine lv_iconst (v := oI 1) X.1 X.2.1 dX5_format_62 rfl ?_
  refine wr_V (rV (As := [.long (oL r_48), .int (oI 1)]) (rest := []) X hT hWσ_49 hS (met_Row_close l (w := w) hV (o + 2) r_48 1 _ σ_49 (by omega) rr_48 rZ_1 h) (cwV 2 X.2.2.2.2 (lw_V q755 q756 q757 q132 q758) rfl rfl rfl (by decide +kernel) ⟨Nat.le_of_ble_eq_true rfl, Nat.le_of_ble_eq_true rfl⟩) vl8_o_2 (by decide) rfl rfl hl.1 rfl (by first | exact Nat.le_of_ble_eq_true rfl | simp [catK, catI, catR, catL]) dX5_format_63 ⟨Nat.le_refl _, Nat.le_refl _⟩) hS (fun σ_51 H locs rkσ_51 h hWσ_51 hS => ?_)
  have h := h rkσ_51
  refine lv_aload_n X.1 X.2.1 dX5_format_66 rfl (lv_at hl 0 rfl) ?_
  refine wg (v := .ref (wad w 7 (o + 2))) X hT hWσ_51 3 4 196 vl3_o rfl rfl (by decide) rfl (by decide) in_X5 q529 rfl dX5_format_67 ?_
  refine lv_aload_n X.1 X.2.1 dX5_format_70 rfl (lv_at hl 0 rfl) ?_
  refine wg (v := .ref (wad w 5 o)) X hT hWσ_51 3 1 193 vl3_o rfl rfl (by decide) rfl (by decide) in_X5 q525 rfl dX5_format_71 ?_
  refine wr_I (rV (As := []) (rest := [.ref (wad w 7 (o + 2))]) X hT hWσ_51 hS (met_Space_fetch l (w := w) hV o _ σ_51 (by omega) h) (cwV 0 X.2.2.2.2 (lw_V q771 q772 q773 q138 q774) rfl rfl rfl (by decide +kernel) ⟨Nat.le_of_ble_eq_true rfl, Nat.le_of_ble_eq_true rfl⟩) vl5_o (by decide) rfl rfl hl.1 rfl (by first | exact Nat.le_of_ble_eq_true rfl | simp [catK, catI, catR, catL]) dX5_format_74 ⟨Nat.le_refl _, Nat.le_refl _⟩) hS (fun r_52 σ_53 H locs rr_52 rkσ_53 h hWσ_53 hS => ?_)
  have h := h rr_52 rkσ_53
  refine wr_V (rV (As := [.int (oI r_52)]) (rest := []) X hT hWσ_53 hS (met_Writer_open l (w := w) hV (o + 2) r_52 _ σ_53 (by omega) rr_52 h) (cwV 1 X.2.2.2.2 (lw_V q852 q853 q854 q141 q855) rfl rfl rfl (by decide +kernel) ⟨Nat.le_of_ble_eq_true rfl, Nat.le_of_ble_eq_true rfl⟩) vl7_o_2 (by decide) rfl rfl hl.1 rfl (by first | exact Nat.le_of_ble_eq_true rfl | simp [catK, catI, catR, catL]) dX5_format_77 ⟨Nat.le_refl _, Nat.le_refl _⟩) hS (fun σ_55 H locs rkσ_55 h hWσ_55 hS => ?_)
  have h := h rkσ_55
  refine lv_aload_n X.1 X.2.1 dX5_format_80 rfl (lv_at hl 0 rfl) ?_
  refine wg (v := .ref (wad w 7 (o + 2))) X hT hWσ_55 3 4 196 vl3_o rfl rfl (by decide) rfl (by decide) in_X5 q529 rfl dX5_format_81 ?_
  refine lv_aload_n X.1 X.2.1 dX5_format_84 rfl (lv_at hl 0 rfl) ?_
  refine wg (v := .ref (wad w 8 (o + 2))) X hT hWσ_55 3 7 199 vl3_o rfl rfl (by decide) rfl (by decide) in_X5 q533 rfl dX5_format_85 ?_
  refine wg (v := .ref (wad w 512 (o + 2))) X hT hWσ_55 8 0 512 vl8_o_2 rfl rfl (by decide) rfl (by decide) in_X2 q166 rfl dX5_format_88 ?_
  refine lv_iconst (v := oI 0) X.1 X.2.1 dX5_format_91 rfl ?_
  refine lv_aload_n X.1 X.2.1 dX5_format_92 rfl (lv_at hl 0 rfl) ?_
  refine wg (v := .ref (wad w 8 (o + 2))) X hT hWσ_55 3 7 199 vl3_o rfl rfl (by decide) rfl (by decide) in_X5 q533 rfl dX5_format_93 ?_
  refine wg (v := .int (oI (gI σ_55 514 (o + 2)))) X hT hWσ_55 8 2 514 vl8_o_2 rfl rfl (by decide) rfl (by decide) in_X2 q172 rfl dX5_format_96 ?_
  refine wr_I (rV (As := [.ref (wad w 512 (o + 2)), .int (oI 0), .int (oI (gI σ_55 514 (o + 2)))]) (rest := []) X hT hWσ_55 hS (met_Writer_put l (w := w) hV (o + 2) 512 (o + 2) 0 (gI σ_55 514 (o + 2)) _ σ_55 (by omega) vl512_o_2 (by decide) rfl rZ_0.i (hWσ_55.r.i 514 (o + 2) rfl) h) (cwV 3 X.2.2.2.2 (lw_V q856 q857 q858 q141 q859) rfl rfl rfl (by decide +kernel) ⟨Nat.le_of_ble_eq_true rfl, Nat.le_of_ble_eq_true rfl⟩) vl7_o_2 (by decide) rfl rfl hl.1 rfl (by first | exact Nat.le_of_ble_eq_true rfl | simp [catK, catI, catR, catL]) dX5_format_99 ⟨Nat.le_refl _, Nat.le_refl _⟩) hS (fun r_56 σ_57 H locs rr_56 rkσ_57 h hWσ_57 hS => ?_)
  have h := h rr_56 rkσ_57
  refine lv_istore_n (i := 1) (lv' := [(1, .int (oI r_56)), (0, .ref (wad w 3 o))]) X.1 X.2.1 dX5_format_102 rfl hl (by decide) (by first | rfl | simp [catK, catI, catR, catL]) (fun ls hl => ?_)
  refine lv_aload_n X.1 X.2.1 dX5_format_103 rfl (lv_at hl 1 rfl) ?_
  refine wg (v := .ref (wad w 6 o)) X hT hWσ_57 3 2 194 vl3_o rfl rfl (by decide) rfl (by decide) in_X5 q526 rfl dX5_format_104 ?_
  refine lv_iconst (v := oI 1) X.1 X.2.1 dX5_format_107 rfl ?_
  refine lv_iconst (v := oI 0) X.1 X.2.1 dX5_format_108 rfl ?_
  refine wr_J (rSN (As := [.int (oI 1), .int (oI 0)]) (rest := [.ref (wad w 6 o)]) X hT hWσ_57 hS (met_House_keyOf l (w := w) 1 0 _ σ_57 rZ_1.i rZ_0.i h) ⟨va_cnB 2 X.2.2.2.2 (lw_meth q895) rfl rfl rfl (hT.2.1 _ (List.mem_of_getElem? (i := 13) rfl)) (X.2.2.2.2 _ q131) (by decide +kernel) ⟨Nat.le_of_ble_eq_true rfl, Nat.le_of_ble_eq_true rfl⟩, X.2.2.2.2 _ q894, trivial⟩ rfl hl.1 rfl (by first | exact Nat.le_of_ble_eq_true rfl | simp [catK, catI, catR, catL]) dX5_format_109 ⟨Nat.le_refl _, Nat.le_refl _⟩) hS (fun r_58 σ_59 H locs rr_58 rkσ_59 h hWσ_59 hS => ?_)
  have h := h rr_58 rkσ_59
  refine lv_lconst (v := oL 0) X.1 X.2.1 dX5_format_112 (by decide) ?_
  refine lv_aload_n X.1 X.2.1 dX5_format_113 rfl (lv_at hl 1 rfl) ?_
  refine wg (v := .ref (wad w 7 (o + 2))) X hT hWσ_59 3 4 196 vl3_o rfl rfl (by decide) rfl (by decide) in_X5 q529 rfl dX5_format_114 ?_
  refine wg (v := .int (oI (gI σ_59 451 (o + 2)))) X hT hWσ_59 7 3 451 vl7_o_2 rfl rfl (by decide) rfl (by decide) in_X10 q509 rfl dX5_format_117 ?_
  refine lv_iload_n X.1 X.2.1 dX5_format_120 rfl (lv_at hl 0 rfl) ?_
  refine lv_aload_n X.1 X.2.1 dX5_format_121 rfl (lv_at hl 1 rfl) ?_
  refine wg (v := .ref (wad w 8 (o + 2))) X hT hWσ_59 3 7 199 vl3_o rfl rfl (by decide) rfl (by decide) in_X5 q533 rfl dX5_format_122 ?_
  refine wg (v := .int (oI (gI σ_59 514 (o + 2)))) X hT hWσ_59 8 2 514 vl8_o_2 rfl rfl (by decide) rfl (by decide) in_X2 q172 rfl dX5_format_125 ?_
  refine wr_V (rV (As := [.long (oL r_58), .long (oL 0), .int (oI (gI σ_59 451 (o + 2))), .int (oI r_56), .int (oI (gI σ_59 514 (o + 2)))]) (rest := []) X hT hWσ_59 hS (met_Index_put l (w := w) hV o r_58 0 (gI σ_59 451 (o + 2)) r_56 (gI σ_59 514 (o + 2)) _ σ_59 (by omega) rr_58 (rJ_lit 0 (by decide)) (hWσ_59.r.i 451 (o + 2) rfl) rr_56 (hWσ_59.r.i 514 (o + 2) rfl) h) (cwV 5 X.2.2.2.2 (lw_V q897 q898 q899 q139 q900) rfl rfl rfl (by decide +kernel) ⟨Nat.le_of_ble_eq_true rfl, Nat.le_of_ble_eq_true rfl⟩) vl6_o (by decide) rfl rfl hl.1 rfl (by first | exact Nat.le_of_ble_eq_true rfl | simp [catK, catI, catR, catL]) dX5_format_128 ⟨Nat.le_refl _, Nat.le_refl _⟩) hS (fun σ_61 H locs rkσ_61 h hWσ_61 hS => ?_)
  have h := h rkσ_61
  refine lv_aload_n X.1 X.2.1 dX5_format_131 rfl (lv_at hl 1 rfl) ?_
  refine lv_iconst (v := oI 2) X.1 X.2.1 dX5_format_132 rfl ?_
  refine wput (z := 2) X hT hWσ_61 hS 3 16 208 vl3_o rfl rfl (by decide) rfl (by decide) in_X5 tyX5 tyX5_ok nmX5 q546 rfl rfl ((rB_lit 2 (by decide)).i) (fv0 w rfl) rfl rfl dX5_format_133 (fun H locs hN hS => ?_)
  obtain ⟨σ_62, eσ_62⟩ : ∃ x, x = sI σ_61 208 o 2 := ⟨_, rfl⟩
  have hWσ_62 : Wo w σ_62 H := eσ_62 ▸ hN
  have h := h σ_62 eσ_62
  clear hN
  refine lv_aload_n X.1 X.2.1 dX5_format_136 rfl (lv_at hl 1 rfl) ?_
  refine wr_V (rV (As := []) (rest := []) X hT hWσ_62 hS (met_Store_commitAll l (w := w) hV o _ σ_62 (by omega) h) (cwV 0 X.2.2.2.2 (lw_V q959 q961 qs19 q136 q962) rfl rfl rfl (by decide +kernel) ⟨Nat.le_of_ble_eq_true rfl, Nat.le_of_ble_eq_true rfl⟩) vl3_o (by decide) rfl rfl hl.1 rfl (by first | exact Nat.le_of_ble_eq_true rfl | simp [catK, catI, catR, catL]) dX5_format_137 ⟨Nat.le_refl _, Nat.le_refl _⟩) hS (fun σ_64 H locs rkσ_64 h hWσ_64 hS => ?_)
  have h := h rkσ_64
  exact wret_V X hr hlk hWσ_64 hS h dX5_format_140
/-! Store.readPage(II)V -/
set_option maxHeartbeats 4000000 in
set_option maxRecDepth 100000 in
theorem met_Store_readPage (l : Launch) {w : Wp} (hV : Hvl w) (o : Int) (x1 : Int) (x2 : Int) (Q : St → Prop) (σ : St) (ho : 0 ≤ o ∧ o < 2) (rx1 : rI x1) (rx2 : rI x2) (h : wp_Store_readPage (wc w) (wtv w) o x1 x2 Q σ) : Met l yX5_readPage (ws_ yX5_readPage cX5_readPage 3 none) rm_Store_readPage (PcW w σ [.ref (wad w 3 o), .int (oI x1), .int (oI x2)]) (QcV w Q) 0 0 (wA w) := by
  refine Met.ofW (cc := cX5_readPage) (maxL := 3) (ret := none) (by decide) rfl ?_
  intro p e st m args below meth c s₁ B hml hv
  obtain ⟨hargs, hW, hT⟩ := hv
  have X : CallFix p m c cX5_readPage 3 st _ lw_all RX5 := ⟨B.exec, B.bytes, hml, findClass_of_methodNamed B.named, fun w h => atoms_spec (ws := ws_ yX5_readPage cX5_readPage 3 none) B.pre w (List.mem_cons_of_mem _ h)⟩
  have hr := B.returns
  have hlk := B.notSynchronized
  have hS : va_S (wA w) st.heap st.heap [] := va_S.rf
  have vl201_o : vl w 201 o := hV.hv 201 rfl ⟨by omega, by show _ < (2 : Int); omega⟩
  have vl3_o : vl w 3 o := hV.hv 3 rfl ⟨by omega, by show _ < (2 : Int); omega⟩
  have vl4_o : vl w 4 o := hV.hv 4 rfl ⟨by omega, by show _ < (2 : Int); omega⟩
  have vl7_o_2 : vl w 7 (o + 2) := hV.hv 7 rfl ⟨by omega, by show _ < (6 : Int); omega⟩
  have vl7_o_4 : vl w 7 (o + 4) := hV.hv 7 rfl ⟨by omega, by show _ < (6 : Int); omega⟩
  have vl7_o : vl w 7 o := hV.hv 7 rfl ⟨by omega, by show _ < (6 : Int); omega⟩
  have hl := lv_entry ([.ref (wad w 3 o), .int (oI x1), .int (oI x2)]) (n := 3) (Nat.le_of_ble_eq_true rfl)
  have hfr := lg_entry_eq m ([.ref (wad w 3 o), .int (oI x1), .int (oI x2)]) 3
  rw [← hargs] at hfr
  rw [hfr]
  generalize (lg_sl ([.ref (wad w 3 o), .int (oI x1), .int (oI x2)]) ++ List.replicate (3 - (lg_sl ([.ref (wad w 3 o), .int (oI x1), .int (oI x2)])).length) Slot.unset).toArray = ls at hl ⊢
  have hl : lv_has ls 3 [(0, .ref (wad w 3 o)), (1, .int (oI x1)), (2, .int (oI x2))] := hl
  unfold wp_Store_readPage at h
  refine lv_aload_n X.1 X.2.1 dX5_readPage_0 rfl (lv_at hl 0 rfl) ?_
  refine wg (v := .ref (wad w 7 o)) X hT hW 3 3 195 vl3_o rfl rfl (by decide) rfl (by decide) in_X5 q528 rfl dX5_readPage_1 ?_
  refine lv_iload_n X.1 X.2.1 dX5_readPage_4 rfl (lv_at hl 1 rfl) ?_
  refine lv_iload_n X.1 X.2.1 dX5_readPage_5 rfl (lv_at hl 2 rfl) ?_
  refine lv_aload_n X.1 X.2.1 dX5_readPage_6 rfl (lv_at hl 0 rfl) ?_
  refine wg (v := .ref (wad w 201 o)) X hT hW 3 9 201 vl3_o rfl rfl (by decide) rfl (by decide) in_X5 q535 rfl dX5_readPage_7 ?_
  refine lv_iconst (v := oI 0) X.1 X.2.1 dX5_readPage_10 rfl ?_
  refine wr_Z (rV (As := [.int (oI x1), .int (oI x2), .ref (wad w 201 o), .int (oI 0)]) (rest := []) X hT hW hS (met_Writer_reads l (w := w) hV o x1 x2 201 o 0 _ σ (by omega) rx1 rx2 vl201_o (by decide) rfl rZ_0.i h) (cwV 4 X.2.2.2.2 (lw_V q1194 q1195 q1196 q141 q1197) rfl rfl rfl (by decide +kernel) ⟨Nat.le_of_ble_eq_true rfl, Nat.le_of_ble_eq_true rfl⟩) vl7_o (by decide) rfl rfl hl.1 rfl (by first | exact Nat.le_of_ble_eq_true rfl | simp [catK, catI, catR, catL]) dX5_readPage_11 ⟨Nat.le_refl _, Nat.le_refl _⟩) hS (fun r_9 σ_10 H locs rr_9 rkσ_10 h hWσ_10 hS => ?_)
  have h := h rr_9 rkσ_10
  refine w_if_ne (tgt := 65) X rr_9.i dX5_readPage_14 (by decide) (fun hc => ?_) (fun hc => ?_)
  · have h := h.1 hc
    exact wret_V X hr hlk hWσ_10 hS h dX5_readPage_65
  · have h := h.2 hc
    refine lv_aload_n X.1 X.2.1 dX5_readPage_17 rfl (lv_at hl 0 rfl) ?_
    refine wg (v := .ref (wad w 7 (o + 2))) X hT hWσ_10 3 4 196 vl3_o rfl rfl (by decide) rfl (by decide) in_X5 q529 rfl dX5_readPage_18 ?_
    refine lv_iload_n X.1 X.2.1 dX5_readPage_21 rfl (lv_at hl 1 rfl) ?_
    refine lv_iload_n X.1 X.2.1 dX5_readPage_22 rfl (lv_at hl 2 rfl) ?_
    refine lv_aload_n X.1 X.2.1 dX5_readPage_23 rfl (lv_at hl 0 rfl) ?_
    refine wg (v := .ref (wad w 201 o)) X hT hWσ_10 3 9 201 vl3_o rfl rfl (by decide) rfl (by decide) in_X5 q535 rfl dX5_readPage_24 ?_
    refine lv_iconst (v := oI 0) X.1 X.2.1 dX5_readPage_27 rfl ?_
    refine wr_Z (rV (As := [.int (oI x1), .int (oI x2), .ref (wad w 201 o), .int (oI 0)]) (rest := []) X hT hWσ_10 hS (met_Writer_reads l (w := w) hV (o + 2) x1 x2 201 o 0 _ σ_10 (by omega) rx1 rx2 vl201_o (by decide) rfl rZ_0.i h) (cwV 4 X.2.2.2.2 (lw_V q1194 q1195 q1196 q141 q1197) rfl rfl rfl (by decide +kernel) ⟨Nat.le_of_ble_eq_true rfl, Nat.le_of_ble_eq_true rfl⟩) vl7_o_2 (by decide) rfl rfl hl.1 rfl (by first | exact Nat.le_of_ble_eq_true rfl | simp [catK, catI, catR, catL]) dX5_readPage_28 ⟨Nat.le_refl _, Nat.le_refl _⟩) hS (fun r_11 σ_12 H locs rr_11 rkσ_12 h hWσ_12 hS => ?_)
    have h := h rr_11 rkσ_12
    refine w_if_ne (tgt := 65) X rr_11.i dX5_readPage_31 (by decide) (fun hc => ?_) (fun hc => ?_)
    · have h := h.1 hc
      exact wret_V X hr hlk hWσ_12 hS h dX5_readPage_65
    · have h := h.2 hc
      refine lv_aload_n X.1 X.2.1 dX5_readPage_34 rfl (lv_at hl 0 rfl) ?_
      refine wg (v := .ref (wad w 7 (o + 4))) X hT hWσ_12 3 5 197 vl3_o rfl rfl (by decide) rfl (by decide) in_X5 q530 rfl dX5_readPage_35 ?_
      refine lv_iload_n X.1 X.2.1 dX5_readPage_38 rfl (lv_at hl 1 rfl) ?_
      refine lv_iload_n X.1 X.2.1 dX5_readPage_39 rfl (lv_at hl 2 rfl) ?_
      refine lv_aload_n X.1 X.2.1 dX5_readPage_40 rfl (lv_at hl 0 rfl) ?_
      refine wg (v := .ref (wad w 201 o)) X hT hWσ_12 3 9 201 vl3_o rfl rfl (by decide) rfl (by decide) in_X5 q535 rfl dX5_readPage_41 ?_
      refine lv_iconst (v := oI 0) X.1 X.2.1 dX5_readPage_44 rfl ?_
      refine wr_Z (rV (As := [.int (oI x1), .int (oI x2), .ref (wad w 201 o), .int (oI 0)]) (rest := []) X hT hWσ_12 hS (met_Writer_reads l (w := w) hV (o + 4) x1 x2 201 o 0 _ σ_12 (by omega) rx1 rx2 vl201_o (by decide) rfl rZ_0.i h) (cwV 4 X.2.2.2.2 (lw_V q1194 q1195 q1196 q141 q1197) rfl rfl rfl (by decide +kernel) ⟨Nat.le_of_ble_eq_true rfl, Nat.le_of_ble_eq_true rfl⟩) vl7_o_4 (by decide) rfl rfl hl.1 rfl (by first | exact Nat.le_of_ble_eq_true rfl | simp [catK, catI, catR, catL]) dX5_readPage_45 ⟨Nat.le_refl _, Nat.le_refl _⟩) hS (fun r_13 σ_14 H locs rr_13 rkσ_14 h hWσ_14 hS => ?_)
      have h := h rr_13 rkσ_14
      refine w_if_ne (tgt := 65) X rr_13.i dX5_readPage_48 (by decide) (fun hc => ?_) (fun hc => ?_)
      · have h := h.1 hc
        exact wret_V X hr hlk hWσ_14 hS h dX5_readPage_65
      · have h := h.2 hc
        refine lv_aload_n X.1 X.2.1 dX5_readPage_51 rfl (lv_at hl 0 rfl) ?_
        refine wg (v := .ref (wad w 4 o)) X hT hWσ_14 3 0 192 vl3_o rfl rfl (by decide) rfl (by decide) in_X5 q523 rfl dX5_readPage_52 ?_
        refine lv_iload_n X.1 X.2.1 dX5_readPage_55 rfl (lv_at hl 1 rfl) ?_
        refine lv_iload_n X.1 X.2.1 dX5_readPage_56 rfl (lv_at hl 2 rfl) ?_
        refine lv_aload_n X.1 X.2.1 dX5_readPage_57 rfl (lv_at hl 0 rfl) ?_
        refine wg (v := .ref (wad w 201 o)) X hT hWσ_14 3 9 201 vl3_o rfl rfl (by decide) rfl (by decide) in_X5 q535 rfl dX5_readPage_58 ?_
        refine lv_iconst (v := oI 0) X.1 X.2.1 dX5_readPage_61 rfl ?_
        refine wr_V (rV (As := [.int (oI x1), .int (oI x2), .ref (wad w 201 o), .int (oI 0)]) (rest := []) X hT hWσ_14 hS (met_Blocks_read l (w := w) hV o x1 x2 201 o 0 _ σ_14 (by omega) rx1 rx2 vl201_o (by decide) rfl rZ_0.i h) (cwV 4 X.2.2.2.2 (lw_V q1199 q1200 q1201 q137 q1202) rfl rfl rfl (by decide +kernel) ⟨Nat.le_of_ble_eq_true rfl, Nat.le_of_ble_eq_true rfl⟩) vl4_o (by decide) rfl rfl hl.1 rfl (by first | exact Nat.le_of_ble_eq_true rfl | simp [catK, catI, catR, catL]) dX5_readPage_62 ⟨Nat.le_refl _, Nat.le_refl _⟩) hS (fun σ_16 H locs rkσ_16 h hWσ_16 hS => ?_)
        have h := h rkσ_16
        exact wret_V X hr hlk hWσ_16 hS h dX5_readPage_65
/-! Store.read(IIILNandHouse$Row;)V -/
set_option maxHeartbeats 4000000 in
set_option maxRecDepth 100000 in
theorem wk_Store_read_L8B {p : Program} {l : Launch} {e : Env} {st : State} {m : MethodId} {args : Array Value} {below : List Frame} {meth : Method} {c : Code} {w : Wp} {o : Int} {x1 : Int} {x2 : Int} {x3 : Int} {x4 : Int} {Q : St → Prop} (X : CallFix p m c cX5_read 8 st args lw_all RX5) (hr : meth.sig.returnType = none) (hlk : meth.locks = false) (hT : Tb w st) (hV : Hvl w) (ho : 0 ≤ o ∧ o < 2) (rx1 : rI x1) (rx2 : rI x2) (rx3 : rI x3) (hx4 : 0 ≤ x4 ∧ x4 < 8) (K8 : Int → St → Prop) (hK8 : ∀ (y5 : Int) (σ : St) (H : Heap) (locs : List Loc) (ls : Array Slot), rI y5 → lv_has ls 8 [(0, .ref (wad w 3 o)), (1, .int (oI x1)), (2, .int (oI x2)), (3, .int (oI x3)), (4, .ref (wad w 8 x4)), (5, .int (oI y5))] → Wo w σ H → va_S (wA w) st.heap H locs → K8 y5 σ → W p l e (headSpec (ws_ yX5_read cX5_read 8 none) rm_Store_read).room st m args below meth c H locs 0 0 (MQ below (QcV w Q) args st 0 0 (wA w)) (F0 m 8 ls [])) : ∀ (y5 : Int) (σ : St) (H : Heap) (locs : List Loc) (ls : Array Slot), rI y5 → lv_has ls 8 [(0, .ref (wad w 3 o)), (1, .int (oI x1)), (2, .int (oI x2)), (3, .int (oI x3)), (4, .ref (wad w 8 x4)), (5, .int (oI y5))] → Wo w σ H → va_S (wA w) st.heap H locs → wp_Store_read_L8 (wc w) (wtv w) o x1 x2 x3 x4 Q K8 y5 σ → W p l e (headSpec (ws_ yX5_read cX5_read 8 none) rm_Store_read).room st m args below meth c H locs 0 0 (MQ below (QcV w Q) args st 0 0 (wA w)) (F0 m 8 ls []) := by
  have vl201_o : vl w 201 o := hV.hv 201 rfl ⟨by omega, by show _ < (2 : Int); omega⟩
  have vl3_o : vl w 3 o := hV.hv 3 rfl ⟨by omega, by show _ < (2 : Int); omega⟩
  have vl512_x4 : vl w 512 x4 := hV.hv 512 rfl ⟨by omega, by show _ < (8 : Int); omega⟩
  have vl8_x4 : vl w 8 x4 := hV.hv 8 rfl ⟨by omega, by show _ < (8 : Int); omega⟩
  intro y5 σ H locs ls ry5 hl hW hS h
  unfold wp_Store_read_L8 at h
  refine lv_iload X.1 X.2.1 dX5_read_8 (lv_at hl 5 rfl) ?_
  refine lv_iload_n X.1 X.2.1 dX5_read_10 rfl (lv_at hl 3 rfl) ?_
  refine w_icmp_ge (tgt := 80) X ry5 rx3 dX5_read_11 (by decide) (fun hc => ?_) (fun hc => ?_)
  · have h := h.1 hc
    refine lv_aload X.1 X.2.1 dX5_read_80 (lv_at hl 4 rfl) ?_
    refine lv_iload_n X.1 X.2.1 dX5_read_82 rfl (lv_at hl 3 rfl) ?_
    refine wput (z := x3) X hT hW hS 8 2 514 vl8_x4 rfl rfl (by decide) rfl (by decide) in_X2 tyX2 tyX2_ok nmX2 q172 rfl rfl rx3 (fv0 w rfl) rfl rfl dX5_read_83 (fun H locs hN hS => ?_)
    obtain ⟨σ_19, eσ_19⟩ : ∃ x, x = sI σ 514 x4 x3 := ⟨_, rfl⟩
    have hWσ_19 : Wo w σ_19 H := eσ_19 ▸ hN
    have h := h σ_19 eσ_19
    clear hN
    exact wret_V X hr hlk hWσ_19 hS h dX5_read_86
  · have h := h.2 hc
    refine lv_iload_n X.1 X.2.1 dX5_read_14 rfl (lv_at hl 2 rfl) ?_
    refine lv_iload X.1 X.2.1 dX5_read_15 (lv_at hl 5 rfl) ?_
    refine w_iadd X dX5_read_17 ?_
    refine lv_sipush (v := oI 128) X.1 X.2.1 dX5_read_18 (by decide) ?_
    refine w_irem X (w32_r _) (rI_lit 128 (by decide)) (by decide) dX5_read_21 ?_
    refine w_top (fun y6_20 ey6_20 => ?_)
    have h := h y6_20 ey6_20
    have ry6_20 : rI y6_20 := by rw [ey6_20]; exact (jrm_r _ _)
    refine lv_istore (i := 6) (lv' := [(6, .int (oI y6_20)), (0, .ref (wad w 3 o)), (1, .int (oI x1)), (2, .int (oI x2)), (3, .int (oI x3)), (4, .ref (wad w 8 x4)), (5, .int (oI y5))]) X.1 X.2.1 dX5_read_22 hl (by decide) (by first | rfl | simp [catK, catI, catR, catL]) (fun ls hl => ?_)
    refine lv_iload_n X.1 X.2.1 dX5_read_24 rfl (lv_at hl 4 rfl) ?_
    refine lv_iload X.1 X.2.1 dX5_read_25 (lv_at hl 6 rfl) ?_
    refine w_isub X dX5_read_27 ?_
    refine lv_sipush (v := oI 128) X.1 X.2.1 dX5_read_28 (by decide) ?_
    refine lv_iload X.1 X.2.1 dX5_read_31 (lv_at hl 0 rfl) ?_
    refine w_isub X dX5_read_33 ?_
    refine w_mmin X (w32_r _) (w32_r _) hl.1 q1187 q1188 q149 q1189 (Nat.le_of_ble_eq_true rfl) (Nat.le_of_ble_eq_true rfl) (Nat.le_refl _) (Nat.le_refl _) dX5_read_34 ?_
    refine w_top (fun y7_21 ey7_21 => ?_)
    have h := h y7_21 ey7_21
    have ry7_21 : rI y7_21 := by rw [ey7_21]; exact (min_rI (w32_r _) (w32_r _))
    refine lv_istore (i := 7) (lv' := [(7, .int (oI y7_21)), (6, .int (oI y6_20)), (0, .ref (wad w 3 o)), (1, .int (oI x1)), (2, .int (oI x2)), (3, .int (oI x3)), (4, .ref (wad w 8 x4)), (5, .int (oI y5))]) X.1 X.2.1 dX5_read_37 hl (by decide) (by first | rfl | simp [catK, catI, catR, catL]) (fun ls hl => ?_)
    refine lv_aload_n X.1 X.2.1 dX5_read_39 rfl (lv_at hl 2 rfl) ?_
    refine lv_iload_n X.1 X.2.1 dX5_read_40 rfl (lv_at hl 3 rfl) ?_
    refine lv_iload_n X.1 X.2.1 dX5_read_41 rfl (lv_at hl 4 rfl) ?_
    refine lv_iload X.1 X.2.1 dX5_read_42 (lv_at hl 7 rfl) ?_
    refine w_iadd X dX5_read_44 ?_
    refine lv_sipush (v := oI 128) X.1 X.2.1 dX5_read_45 (by decide) ?_
    refine w_idiv X (w32_r _) (rI_lit 128 (by decide)) (by decide) dX5_read_48 ?_
    refine wr_V (rV (As := [.int (oI x1), .int (oI (jdv (w32 (x2 + y5)) 128))]) (rest := []) X hT hW hS (met_Store_readPage l (w := w) hV o x1 (jdv (w32 (x2 + y5)) 128) _ σ (by omega) rx1 (jdv_r _ _) h) (cwV 2 X.2.2.2.2 (lw_V q1190 q1192 qs33 q136 q1193) rfl rfl rfl (by decide +kernel) ⟨Nat.le_of_ble_eq_true rfl, Nat.le_of_ble_eq_true rfl⟩) vl3_o (by decide) rfl rfl hl.1 rfl (by first | exact Nat.le_of_ble_eq_true rfl | simp [catK, catI, catR, catL]) dX5_read_49 ⟨Nat.le_refl _, Nat.le_refl _⟩) hS (fun σ_23 H locs rkσ_23 h hWσ_23 hS => ?_)
    have h := h rkσ_23
    refine lv_aload_n X.1 X.2.1 dX5_read_52 rfl (lv_at hl 2 rfl) ?_
    refine wg (v := .ref (wad w 201 o)) X hT hWσ_23 3 9 201 vl3_o rfl rfl (by decide) rfl (by decide) in_X5 q535 rfl dX5_read_53 ?_
    refine lv_iload X.1 X.2.1 dX5_read_56 (lv_at hl 1 rfl) ?_
    refine lv_aload X.1 X.2.1 dX5_read_58 (lv_at hl 6 rfl) ?_
    refine wg (v := .ref (wad w 512 x4)) X hT hWσ_23 8 0 512 vl8_x4 rfl rfl (by decide) rfl (by decide) in_X2 q166 rfl dX5_read_60 ?_
    refine lv_iload X.1 X.2.1 dX5_read_63 (lv_at hl 7 rfl) ?_
    refine lv_iload X.1 X.2.1 dX5_read_65 (lv_at hl 0 rfl) ?_
    obtain ⟨bi, h⟩ := h
    refine w_copy (nf := 128) (ng := (rowL x4)) (sp := y6_20) (dp := y5) (n := y7_21) X hT hWσ_23 hS hl.1 201 512 vl201_o vl512_x4 (by decide) (by decide) rfl rfl rfl rfl bi q1205 q699 q698 q142 (Nat.le_of_ble_eq_true rfl) (Nat.le_of_ble_eq_true rfl) dX5_read_67 (fun H locs hN hS => ?_)
    obtain ⟨σ_24, eσ_24⟩ : ∃ x, x = sAr σ_23 512 x4 (cpy (gA σ_23 201 o) (gA σ_23 512 x4) y6_20 y5 y7_21) := ⟨_, rfl⟩
    have hWσ_24 : Wo w σ_24 H := eσ_24 ▸ hN
    have h := h σ_24 eσ_24
    clear hN
    refine lv_iload X.1 X.2.1 dX5_read_70 (lv_at hl 7 rfl) ?_
    refine lv_iload X.1 X.2.1 dX5_read_72 (lv_at hl 0 rfl) ?_
    refine w_iadd X dX5_read_74 ?_
    refine w_top (fun y5_25 ey5_25 => ?_)
    have h := h y5_25 ey5_25
    have ry5_25 : rI y5_25 := by rw [ey5_25]; exact (w32_r _)
    refine lv_istore (i := 5) (lv' := [(5, .int (oI y5_25)), (7, .int (oI y7_21)), (6, .int (oI y6_20)), (0, .ref (wad w 3 o)), (1, .int (oI x1)), (2, .int (oI x2)), (3, .int (oI x3)), (4, .ref (wad w 8 x4))]) X.1 X.2.1 dX5_read_75 hl (by decide) (by first | rfl | simp [catK, catI, catR, catL]) (fun ls hl => ?_)
    refine lv_goto (tgt := 8) X.1 X.2.1 dX5_read_77 (by decide) ?_
    exact hK8 y5_25 σ_24 _ _ _ ry5_25 (lv_sub hl [3, 4, 5, 6, 7, 0] rfl) hWσ_24 hS h
theorem wk_Store_read_L8 {p : Program} {l : Launch} {e : Env} {st : State} {m : MethodId} {args : Array Value} {below : List Frame} {meth : Method} {c : Code} {w : Wp} {o : Int} {x1 : Int} {x2 : Int} {x3 : Int} {x4 : Int} {Q : St → Prop} (X : CallFix p m c cX5_read 8 st args lw_all RX5) (hr : meth.sig.returnType = none) (hlk : meth.locks = false) (hT : Tb w st) (hV : Hvl w) (ho : 0 ≤ o ∧ o < 2) (rx1 : rI x1) (rx2 : rI x2) (rx3 : rI x3) (hx4 : 0 ≤ x4 ∧ x4 < 8) : ∀ (y5 : Int) (σ : St) (H : Heap) (locs : List Loc) (ls : Array Slot), rI y5 → lv_has ls 8 [(0, .ref (wad w 3 o)), (1, .int (oI x1)), (2, .int (oI x2)), (3, .int (oI x3)), (4, .ref (wad w 8 x4)), (5, .int (oI y5))] → Wo w σ H → va_S (wA w) st.heap H locs → lQ1 (wp_Store_read_L8 (wc w) (wtv w) o x1 x2 x3 x4 Q) y5 σ → W p l e (headSpec (ws_ yX5_read cX5_read 8 none) rm_Store_read).room st m args below meth c H locs 0 0 (MQ below (QcV w Q) args st 0 0 (wA w)) (F0 m 8 ls []) := by
  intro y5 σ H locs ls ry5 hl hW hS h
  obtain ⟨fu, h⟩ := h
  induction fu generalizing y5 σ H locs ls with
  | zero => exact h.elim
  | succ fu ih =>
    exact wk_Store_read_L8B X hr hlk hT hV ho rx1 rx2 rx3 hx4 (lq1 (wp_Store_read_L8 (wc w) (wtv w) o x1 x2 x3 x4 Q) fu) (fun y5 σ H locs ls ry5 hl hW hS h => ih y5 σ H locs ls ry5 hl hW hS h) y5 σ H locs ls ry5 hl hW hS h
set_option maxHeartbeats 4000000 in
set_option maxRecDepth 100000 in
theorem met_Store_read (l : Launch) {w : Wp} (hV : Hvl w) (o : Int) (x1 : Int) (x2 : Int) (x3 : Int) (x4 : Int) (Q : St → Prop) (σ : St) (ho : 0 ≤ o ∧ o < 2) (rx1 : rI x1) (rx2 : rI x2) (rx3 : rI x3) (hx4 : 0 ≤ x4 ∧ x4 < 8) (h : wp_Store_read (wc w) (wtv w) o x1 x2 x3 x4 Q σ) : Met l yX5_read (ws_ yX5_read cX5_read 8 none) rm_Store_read (PcW w σ [.ref (wad w 3 o), .int (oI x1), .int (oI x2), .int (oI x3), .ref (wad w 8 x4)]) (QcV w Q) 0 0 (wA w) := by
  refine Met.ofW (cc := cX5_read) (maxL := 8) (ret := none) (by decide) rfl ?_
  intro p e st m args below meth c s₁ B hml hv
  obtain ⟨hargs, hW, hT⟩ := hv
  have X : CallFix p m c cX5_read 8 st _ lw_all RX5 := ⟨B.exec, B.bytes, hml, findClass_of_methodNamed B.named, fun w h => atoms_spec (ws := ws_ yX5_read cX5_read 8 none) B.pre w (List.mem_cons_of_mem _ h)⟩
  have hr := B.returns
  have hlk := B.notSynchronized
  have hS : va_S (wA w) st.heap st.heap [] := va_S.rf
  have vl3_o : vl w 3 o := hV.hv 3 rfl ⟨by omega, by show _ < (2 : Int); omega⟩
  have vl8_x4 : vl w 8 x4 := hV.hv 8 rfl ⟨by omega, by show _ < (8 : Int); omega⟩
  have hl := lv_entry ([.ref (wad w 3 o), .int (oI x1), .int (oI x2), .int (oI x3), .ref (wad w 8 x4)]) (n := 8) (Nat.le_of_ble_eq_true rfl)
  have hfr := lg_entry_eq m ([.ref (wad w 3 o), .int (oI x1), .int (oI x2), .int (oI x3), .ref (wad w 8 x4)]) 8
  rw [← hargs] at hfr
  rw [hfr]
  generalize (lg_sl ([.ref (wad w 3 o), .int (oI x1), .int (oI x2), .int (oI x3), .ref (wad w 8 x4)]) ++ List.replicate (8 - (lg_sl ([.ref (wad w 3 o), .int (oI x1), .int (oI x2), .int (oI x3), .ref (wad w 8 x4)])).length) Slot.unset).toArray = ls at hl ⊢
  have hl : lv_has ls 8 [(0, .ref (wad w 3 o)), (1, .int (oI x1)), (2, .int (oI x2)), (3, .int (oI x3)), (4, .ref (wad w 8 x4))] := hl
  unfold wp_Store_read at h
  refine lv_aload X.1 X.2.1 dX5_read_0 (lv_at hl 4 rfl) ?_
  refine wr_V (rV (As := []) (rest := []) X hT hW hS (met_Row_clear l (w := w) hV x4 _ σ (by omega) h) (cwV 0 X.2.2.2.2 (lw_V q736 q737 q738 q132 q739) rfl rfl rfl (by decide +kernel) ⟨Nat.le_of_ble_eq_true rfl, Nat.le_of_ble_eq_true rfl⟩) vl8_x4 (by decide) rfl rfl hl.1 rfl (by first | exact Nat.le_of_ble_eq_true rfl | simp [catK, catI, catR, catL]) dX5_read_2 ⟨Nat.le_refl _, Nat.le_refl _⟩) hS (fun σ_27 H locs rkσ_27 h hWσ_27 hS => ?_)
  have h := h rkσ_27
  refine lv_iconst (v := oI 0) X.1 X.2.1 dX5_read_5 rfl ?_
  refine lv_istore (i := 5) (lv' := [(5, .int (oI 0)), (0, .ref (wad w 3 o)), (1, .int (oI x1)), (2, .int (oI x2)), (3, .int (oI x3)), (4, .ref (wad w 8 x4))]) X.1 X.2.1 dX5_read_6 hl (by decide) (by first | rfl | simp [catK, catI, catR, catL]) (fun ls hl => ?_)
  exact wk_Store_read_L8 X hr hlk hT hV ho rx1 rx2 rx3 hx4 0 σ_27 _ _ _ rZ_0.i (lv_sub hl [1, 2, 3, 4, 5, 0] rfl) hWσ_27 hS h
/-! Store.sync()V -/
set_option maxHeartbeats 4000000 in
set_option maxRecDepth 100000 in
theorem met_Store_sync (l : Launch) {w : Wp} (hV : Hvl w) (o : Int) (Q : St → Prop) (σ : St) (ho : 0 ≤ o ∧ o < 2) (h : wp_Store_sync (wc w) (wtv w) o Q σ) : Met l yX5_sync (ws_ yX5_sync cX5_sync 1 none) rm_Store_sync (PcW w σ [.ref (wad w 3 o)]) (QcV w Q) 0 0 (wA w) := by
  refine Met.ofW (cc := cX5_sync) (maxL := 1) (ret := none) (by decide) rfl ?_
  intro p e st m args below meth c s₁ B hml hv
  obtain ⟨hargs, hW, hT⟩ := hv
  have X : CallFix p m c cX5_sync 1 st _ lw_all RX5 := ⟨B.exec, B.bytes, hml, findClass_of_methodNamed B.named, fun w h => atoms_spec (ws := ws_ yX5_sync cX5_sync 1 none) B.pre w (List.mem_cons_of_mem _ h)⟩
  have hr := B.returns
  have hlk := B.notSynchronized
  have hS : va_S (wA w) st.heap st.heap [] := va_S.rf
  have vl3_o : vl w 3 o := hV.hv 3 rfl ⟨by omega, by show _ < (2 : Int); omega⟩
  have vl7_o : vl w 7 o := hV.hv 7 rfl ⟨by omega, by show _ < (6 : Int); omega⟩
  have hl := lv_entry ([.ref (wad w 3 o)]) (n := 1) (Nat.le_of_ble_eq_true rfl)
  have hfr := lg_entry_eq m ([.ref (wad w 3 o)]) 1
  rw [← hargs] at hfr
  rw [hfr]
  generalize (lg_sl ([.ref (wad w 3 o)]) ++ List.replicate (1 - (lg_sl ([.ref (wad w 3 o)])).length) Slot.unset).toArray = ls at hl ⊢
  have hl : lv_has ls 1 [(0, .ref (wad w 3 o))] := hl
  unfold wp_Store_sync at h
  refine lv_aload_n X.1 X.2.1 dX5_sync_0 rfl (lv_at hl 0 rfl) ?_
  refine wg (v := .ref (wad w 7 o)) X hT hW 3 3 195 vl3_o rfl rfl (by decide) rfl (by decide) in_X5 q528 rfl dX5_sync_1 ?_
  refine wr_V (rV (As := []) (rest := []) X hT hW hS (met_Writer_flush l (w := w) hV o _ σ (by omega) h) (cwV 0 X.2.2.2.2 (lw_V q1011 q996 q997 q141 q998) rfl rfl rfl (by decide +kernel) ⟨Nat.le_of_ble_eq_true rfl, Nat.le_of_ble_eq_true rfl⟩) vl7_o (by decide) rfl rfl hl.1 rfl (by first | exact Nat.le_of_ble_eq_true rfl | simp [catK, catI, catR, catL]) dX5_sync_4 ⟨Nat.le_refl _, Nat.le_refl _⟩) hS (fun σ_5 H locs rkσ_5 h hWσ_5 hS => ?_)
  have h := h rkσ_5
  refine lv_aload_n X.1 X.2.1 dX5_sync_7 rfl (lv_at hl 0 rfl) ?_
  refine lv_iconst (v := oI 0) X.1 X.2.1 dX5_sync_8 rfl ?_
  refine wput (z := 0) X hT hWσ_5 hS 3 13 205 vl3_o rfl rfl (by decide) rfl (by decide) in_X5 tyX5 tyX5_ok nmX5 q540 rfl rfl rZ_0.i (fv0 w rfl) rfl rfl dX5_sync_9 (fun H locs hN hS => ?_)
  obtain ⟨σ_6, eσ_6⟩ : ∃ x, x = sI σ_5 205 o 0 := ⟨_, rfl⟩
  have hWσ_6 : Wo w σ_6 H := eσ_6 ▸ hN
  have h := h σ_6 eσ_6
  clear hN
  exact wret_V X hr hlk hWσ_6 hS h dX5_sync_12
/-! Store.isShort()Z -/
set_option maxHeartbeats 4000000 in
set_option maxRecDepth 100000 in
theorem wk_Store_isShort_b34 {p : Program} {l : Launch} {e : Env} {st : State} {m : MethodId} {args : Array Value} {below : List Frame} {meth : Method} {c : Code} {w : Wp} {o : Int} {Q : Int → St → Prop} (X : CallFix p m c cX5_isShort 1 st args lw_all RX5) (hr : meth.sig.returnType = (some .boolean)) (hlk : meth.locks = false) (hT : Tb w st) (hV : Hvl w) (ho : 0 ≤ o ∧ o < 2) : ∀ (σ : St) (H : Heap) (locs : List Loc) (ls : Array Slot), lv_has ls 1 [] → Wo w σ H → va_S (wA w) st.heap H locs → wp_Store_isShort_b34 (wc w) (wtv w) o Q σ → W p l e (headSpec (ws_ yX5_isShort cX5_isShort 1 (some .boolean)) rm_Store_isShort).room st m args below meth c H locs 0 0 (MQ below (QcZ w Q) args st 0 0 (wA w)) (F0 m 34 ls []) := by

  intro σ H locs ls hl hW hS h
  unfold wp_Store_isShort_b34 at h
  refine lv_iconst (v := oI 1) X.1 X.2.1 dX5_isShort_34 rfl ?_
  refine lv_goto (tgt := 39) X.1 X.2.1 dX5_isShort_35 (by decide) ?_
  exact wret_Z X hr hlk hW hS rZ_1 h dX5_isShort_39
set_option maxHeartbeats 4000000 in
set_option maxRecDepth 100000 in
theorem met_Store_isShort (l : Launch) {w : Wp} (hV : Hvl w) (o : Int) (Q : Int → St → Prop) (σ : St) (ho : 0 ≤ o ∧ o < 2) (h : wp_Store_isShort (wc w) (wtv w) o Q σ) : Met l yX5_isShort (ws_ yX5_isShort cX5_isShort 1 (some .boolean)) rm_Store_isShort (PcW w σ [.ref (wad w 3 o)]) (QcZ w Q) 0 0 (wA w) := by
  refine Met.ofW (cc := cX5_isShort) (maxL := 1) (ret := (some .boolean)) (by decide) rfl ?_
  intro p e st m args below meth c s₁ B hml hv
  obtain ⟨hargs, hW, hT⟩ := hv
  have X : CallFix p m c cX5_isShort 1 st _ lw_all RX5 := ⟨B.exec, B.bytes, hml, findClass_of_methodNamed B.named, fun w h => atoms_spec (ws := ws_ yX5_isShort cX5_isShort 1 (some .boolean)) B.pre w (List.mem_cons_of_mem _ h)⟩
  have hr := B.returns
  have hlk := B.notSynchronized
  have hS : va_S (wA w) st.heap st.heap [] := va_S.rf
  have vl3_o : vl w 3 o := hV.hv 3 rfl ⟨by omega, by show _ < (2 : Int); omega⟩
  have vl5_o : vl w 5 o := hV.hv 5 rfl ⟨by omega, by show _ < (2 : Int); omega⟩
  have hl := lv_entry ([.ref (wad w 3 o)]) (n := 1) (Nat.le_of_ble_eq_true rfl)
  have hfr := lg_entry_eq m ([.ref (wad w 3 o)]) 1
  rw [← hargs] at hfr
  rw [hfr]
  generalize (lg_sl ([.ref (wad w 3 o)]) ++ List.replicate (1 - (lg_sl ([.ref (wad w 3 o)])).length) Slot.unset).toArray = ls at hl ⊢
  have hl : lv_has ls 1 [(0, .ref (wad w 3 o))] := hl
  unfold wp_Store_isShort at h
  refine lv_aload_n X.1 X.2.1 dX5_isShort_0 rfl (lv_at hl 0 rfl) ?_
  refine wg (v := .ref (wad w 5 o)) X hT hW 3 1 193 vl3_o rfl rfl (by decide) rfl (by decide) in_X5 q525 rfl dX5_isShort_1 ?_
  refine wr_I (rV (As := []) (rest := []) X hT hW hS (met_Space_empty l (w := w) hV o _ σ (by omega) h) (cwV 0 X.2.2.2.2 (lw_V q1037 q1038 q1039 q138 q1040) rfl rfl rfl (by decide +kernel) ⟨Nat.le_of_ble_eq_true rfl, Nat.le_of_ble_eq_true rfl⟩) vl5_o (by decide) rfl rfl hl.1 rfl (by first | exact Nat.le_of_ble_eq_true rfl | simp [catK, catI, catR, catL]) dX5_isShort_4 ⟨Nat.le_refl _, Nat.le_refl _⟩) hS (fun r_5 σ_6 H locs rr_5 rkσ_6 h hWσ_6 hS => ?_)
  have h := h rr_5 rkσ_6
  refine lv_aload_n X.1 X.2.1 dX5_isShort_7 rfl (lv_at hl 0 rfl) ?_
  refine wg (v := .int (oI (whl (wc w)))) X hT hWσ_6 3 34 226 vl3_o rfl rfl (by decide) rfl (by decide) in_X5 q566 rfl dX5_isShort_8 ?_
  refine lv_iconst (v := oI 2) X.1 X.2.1 dX5_isShort_11 rfl ?_
  refine w_iadd X dX5_isShort_12 ?_
  refine w_icmp_lt (tgt := 34) X rr_5 (w32_r _) dX5_isShort_13 (by decide) (fun hc => ?_) (fun hc => ?_)
  · have h := h.1 hc
    exact wk_Store_isShort_b34 X hr hlk hT hV ho σ_6 _ _ _ (lv_sub hl [] rfl) hWσ_6 hS h
  · have h := h.2 hc
    refine lv_aload_n X.1 X.2.1 dX5_isShort_16 rfl (lv_at hl 0 rfl) ?_
    refine wg (v := .ref (wad w 5 o)) X hT hWσ_6 3 1 193 vl3_o rfl rfl (by decide) rfl (by decide) in_X5 q525 rfl dX5_isShort_17 ?_
    refine wr_I (rV (As := []) (rest := []) X hT hWσ_6 hS (met_Space_roomy l (w := w) hV o _ σ_6 (by omega) h) (cwV 0 X.2.2.2.2 (lw_V q1277 q1278 q1279 q138 q1280) rfl rfl rfl (by decide +kernel) ⟨Nat.le_of_ble_eq_true rfl, Nat.le_of_ble_eq_true rfl⟩) vl5_o (by decide) rfl rfl hl.1 rfl (by first | exact Nat.le_of_ble_eq_true rfl | simp [catK, catI, catR, catL]) dX5_isShort_20 ⟨Nat.le_refl _, Nat.le_refl _⟩) hS (fun r_7 σ_8 H locs rr_7 rkσ_8 h hWσ_8 hS => ?_)
    have h := h rr_7 rkσ_8
    refine lv_iconst (v := oI 2) X.1 X.2.1 dX5_isShort_23 rfl ?_
    refine lv_aload_n X.1 X.2.1 dX5_isShort_24 rfl (lv_at hl 0 rfl) ?_
    refine wg (v := .int (oI (whl (wc w)))) X hT hWσ_8 3 34 226 vl3_o rfl rfl (by decide) rfl (by decide) in_X5 q566 rfl dX5_isShort_25 ?_
    refine w_imul X dX5_isShort_28 ?_
    refine lv_iconst (v := oI 4) X.1 X.2.1 dX5_isShort_29 rfl ?_
    refine w_iadd X dX5_isShort_30 ?_
    refine w_icmp_ge (tgt := 38) X rr_7 (w32_r _) dX5_isShort_31 (by decide) (fun hc => ?_) (fun hc => ?_)
    · have h := h.1 hc
      refine lv_iconst (v := oI 0) X.1 X.2.1 dX5_isShort_38 rfl ?_
      exact wret_Z X hr hlk hWσ_8 hS rZ_0 h dX5_isShort_39
    · have h := h.2 hc
      exact wk_Store_isShort_b34 X hr hlk hT hV ho σ_8 _ _ _ (lv_sub hl [] rfl) hWσ_8 hS h
/-! Store.pick(Z)Z -/
set_option maxHeartbeats 4000000 in
set_option maxRecDepth 100000 in
theorem wk_Store_pick_b76 {p : Program} {l : Launch} {e : Env} {st : State} {m : MethodId} {args : Array Value} {below : List Frame} {meth : Method} {c : Code} {w : Wp} {o : Int} {x1 : Int} {Q : Int → St → Prop} (X : CallFix p m c cX5_pick 4 st args lw_all RX5) (hr : meth.sig.returnType = (some .boolean)) (hlk : meth.locks = false) (hT : Tb w st) (hV : Hvl w) (ho : 0 ≤ o ∧ o < 2) (rx1 : rZ x1) (K78 : Int → Int → St → Prop) (hK78 : ∀ (y2 y3 : Int) (σ : St) (H : Heap) (locs : List Loc) (ls : Array Slot), rI y2 → rI y3 → lv_has ls 4 [(0, .ref (wad w 3 o)), (1, .int (oI x1)), (2, .int (oI y2)), (3, .int (oI y3))] → Wo w σ H → va_S (wA w) st.heap H locs → K78 y2 y3 σ → W p l e (headSpec (ws_ yX5_pick cX5_pick 4 (some .boolean)) rm_Store_pick).room st m args below meth c H locs 0 0 (MQ below (QcZ w Q) args st 0 0 (wA w)) (F0 m 78 ls [])) : ∀ (y3 : Int) (σ : St) (H : Heap) (locs : List Loc) (ls : Array Slot), rI y3 → lv_has ls 4 [(0, .ref (wad w 3 o)), (1, .int (oI x1)), (3, .int (oI y3))] → Wo w σ H → va_S (wA w) st.heap H locs → wp_Store_pick_b76 (wc w) (wtv w) o x1 Q K78 y3 σ → W p l e (headSpec (ws_ yX5_pick cX5_pick 4 (some .boolean)) rm_Store_pick).room st m args below meth c H locs 0 0 (MQ below (QcZ w Q) args st 0 0 (wA w)) (F0 m 76 ls []) := by

  intro y3 σ H locs ls ry3 hl hW hS h
  unfold wp_Store_pick_b76 at h
  refine lv_iload_n X.1 X.2.1 dX5_pick_76 rfl (lv_at hl 2 rfl) ?_
  refine lv_istore_n (i := 2) (lv' := [(2, .int (oI y3)), (0, .ref (wad w 3 o)), (1, .int (oI x1)), (3, .int (oI y3))]) X.1 X.2.1 dX5_pick_77 rfl hl (by decide) (by first | rfl | simp [catK, catI, catR, catL]) (fun ls hl => ?_)
  exact hK78 y3 y3 σ _ _ _ ry3 ry3 (lv_sub hl [1, 2, 0, 3] rfl) hW hS h
set_option maxHeartbeats 4000000 in
set_option maxRecDepth 100000 in
theorem wk_Store_pick_b50 {p : Program} {l : Launch} {e : Env} {st : State} {m : MethodId} {args : Array Value} {below : List Frame} {meth : Method} {c : Code} {w : Wp} {o : Int} {x1 : Int} {Q : Int → St → Prop} (X : CallFix p m c cX5_pick 4 st args lw_all RX5) (hr : meth.sig.returnType = (some .boolean)) (hlk : meth.locks = false) (hT : Tb w st) (hV : Hvl w) (ho : 0 ≤ o ∧ o < 2) (rx1 : rZ x1) (K78 : Int → Int → St → Prop) (hK78 : ∀ (y2 y3 : Int) (σ : St) (H : Heap) (locs : List Loc) (ls : Array Slot), rI y2 → rI y3 → lv_has ls 4 [(0, .ref (wad w 3 o)), (1, .int (oI x1)), (2, .int (oI y2)), (3, .int (oI y3))] → Wo w σ H → va_S (wA w) st.heap H locs → K78 y2 y3 σ → W p l e (headSpec (ws_ yX5_pick cX5_pick 4 (some .boolean)) rm_Store_pick).room st m args below meth c H locs 0 0 (MQ below (QcZ w Q) args st 0 0 (wA w)) (F0 m 78 ls [])) : ∀ (y2 y3 : Int) (σ : St) (H : Heap) (locs : List Loc) (ls : Array Slot), rI y2 → rI y3 → lv_has ls 4 [(0, .ref (wad w 3 o)), (1, .int (oI x1)), (2, .int (oI y2)), (3, .int (oI y3))] → Wo w σ H → va_S (wA w) st.heap H locs → wp_Store_pick_b50 (wc w) (wtv w) o x1 Q K78 y2 y3 σ → W p l e (headSpec (ws_ yX5_pick cX5_pick 4 (some .boolean)) rm_Store_pick).room st m args below meth c H locs 0 0 (MQ below (QcZ w Q) args st 0 0 (wA w)) (F0 m 50 ls []) := by
  have vl3_o : vl w 3 o := hV.hv 3 rfl ⟨by omega, by show _ < (2 : Int); omega⟩
  have vl324_o : vl w 324 o := hV.hv 324 rfl ⟨by omega, by show _ < (2 : Int); omega⟩
  have vl5_o : vl w 5 o := hV.hv 5 rfl ⟨by omega, by show _ < (2 : Int); omega⟩
  intro y2 y3 σ H locs ls ry2 ry3 hl hW hS h
  unfold wp_Store_pick_b50 at h
  refine lv_iload_n X.1 X.2.1 dX5_pick_50 rfl (lv_at hl 2 rfl) ?_
  refine lv_iconst (v := oI (-1)) X.1 X.2.1 dX5_pick_51 rfl ?_
  refine w_icmp_eq (tgt := 76) X ry2 ((rB_lit (-1) (by decide)).i) dX5_pick_52 (by decide) (fun hc => ?_) (fun hc => ?_)
  · have h := h.1 hc
    exact wk_Store_pick_b76 X hr hlk hT hV ho rx1 K78 hK78 y3 σ _ _ _ ry3 (lv_sub hl [0, 1, 3] rfl) hW hS h
  · have h := h.2 hc
    refine lv_aload_n X.1 X.2.1 dX5_pick_55 rfl (lv_at hl 0 rfl) ?_
    refine wg (v := .ref (wad w 5 o)) X hT hW 3 1 193 vl3_o rfl rfl (by decide) rfl (by decide) in_X5 q525 rfl dX5_pick_56 ?_
    refine wg (v := .ref (wad w 324 o)) X hT hW 5 4 324 vl5_o rfl rfl (by decide) rfl (by decide) in_X7 q347 rfl dX5_pick_59 ?_
    refine lv_iload_n X.1 X.2.1 dX5_pick_62 rfl (lv_at hl 3 rfl) ?_
    obtain ⟨bi, h⟩ := h
    refine w_iald (n := ((wc w).1 - 6)) X hT hW 324 vl324_o (by decide) rfl rfl bi dX5_pick_63 ?_
    refine lv_aload_n X.1 X.2.1 dX5_pick_64 rfl (lv_at hl 0 rfl) ?_
    refine wg (v := .ref (wad w 5 o)) X hT hW 3 1 193 vl3_o rfl rfl (by decide) rfl (by decide) in_X5 q525 rfl dX5_pick_65 ?_
    refine wg (v := .ref (wad w 324 o)) X hT hW 5 4 324 vl5_o rfl rfl (by decide) rfl (by decide) in_X7 q347 rfl dX5_pick_68 ?_
    refine lv_iload_n X.1 X.2.1 dX5_pick_71 rfl (lv_at hl 2 rfl) ?_
    obtain ⟨bi, h⟩ := h
    refine w_iald (n := ((wc w).1 - 6)) X hT hW 324 vl324_o (by decide) rfl rfl bi dX5_pick_72 ?_
    refine w_icmp_ge (tgt := 78) X (hW.r.ai 324 o y3 rfl) (hW.r.ai 324 o y2 rfl) dX5_pick_73 (by decide) (fun hc => ?_) (fun hc => ?_)
    · have h := h.1 hc
      exact hK78 y2 y3 σ _ _ _ ry2 ry3 (lv_sub hl [0, 1, 2, 3] rfl) hW hS h
    · have h := h.2 hc
      exact wk_Store_pick_b76 X hr hlk hT hV ho rx1 K78 hK78 y3 σ _ _ _ ry3 (lv_sub hl [0, 1, 3] rfl) hW hS h
set_option maxHeartbeats 4000000 in
set_option maxRecDepth 100000 in
theorem wk_Store_pick_b78 {p : Program} {l : Launch} {e : Env} {st : State} {m : MethodId} {args : Array Value} {below : List Frame} {meth : Method} {c : Code} {w : Wp} {o : Int} {x1 : Int} {Q : Int → St → Prop} (X : CallFix p m c cX5_pick 4 st args lw_all RX5) (hr : meth.sig.returnType = (some .boolean)) (hlk : meth.locks = false) (hT : Tb w st) (hV : Hvl w) (ho : 0 ≤ o ∧ o < 2) (rx1 : rZ x1) (K10 : Int → Int → St → Prop) (hK10 : ∀ (y2 y3 : Int) (σ : St) (H : Heap) (locs : List Loc) (ls : Array Slot), rI y2 → rI y3 → lv_has ls 4 [(0, .ref (wad w 3 o)), (1, .int (oI x1)), (2, .int (oI y2)), (3, .int (oI y3))] → Wo w σ H → va_S (wA w) st.heap H locs → K10 y2 y3 σ → W p l e (headSpec (ws_ yX5_pick cX5_pick 4 (some .boolean)) rm_Store_pick).room st m args below meth c H locs 0 0 (MQ below (QcZ w Q) args st 0 0 (wA w)) (F0 m 10 ls [])) : ∀ (y2 y3 : Int) (σ : St) (H : Heap) (locs : List Loc) (ls : Array Slot), rI y2 → rI y3 → lv_has ls 4 [(0, .ref (wad w 3 o)), (1, .int (oI x1)), (2, .int (oI y2)), (3, .int (oI y3))] → Wo w σ H → va_S (wA w) st.heap H locs → wp_Store_pick_b78 (wc w) (wtv w) o x1 Q K10 y2 y3 σ → W p l e (headSpec (ws_ yX5_pick cX5_pick 4 (some .boolean)) rm_Store_pick).room st m args below meth c H locs 0 0 (MQ below (QcZ w Q) args st 0 0 (wA w)) (F0 m 78 ls []) := by

  intro y2 y3 σ H locs ls ry2 ry3 hl hW hS h
  unfold wp_Store_pick_b78 at h
  obtain ⟨y3_21, ey3_21⟩ : ∃ y : Int, y = w32 (y3 + 1) := ⟨_, rfl⟩
  have h := h y3_21 ey3_21
  have ry3_21 : rI y3_21 := by rw [ey3_21]; exact w32_r _
  refine lv_iinc (v := oI y3_21) (lv' := [(3, .int (oI y3_21)), (0, .ref (wad w 3 o)), (1, .int (oI x1)), (2, .int (oI y2))]) X.1 X.2.1 dX5_pick_78 hl (k := 3) rfl (by rw [ey3_21]; exact oI_add _ _) (by decide) (by first | rfl | simp [catK, catI, catR, catL]) (fun ls hl => ?_)
  refine lv_goto (tgt := 10) X.1 X.2.1 dX5_pick_81 (by decide) ?_
  exact hK10 y2 y3_21 σ _ _ _ ry2 ry3_21 (lv_sub hl [1, 2, 3, 0] rfl) hW hS h
set_option maxHeartbeats 4000000 in
set_option maxRecDepth 100000 in
theorem wk_Store_pick_L10B {p : Program} {l : Launch} {e : Env} {st : State} {m : MethodId} {args : Array Value} {below : List Frame} {meth : Method} {c : Code} {w : Wp} {o : Int} {x1 : Int} {Q : Int → St → Prop} (X : CallFix p m c cX5_pick 4 st args lw_all RX5) (hr : meth.sig.returnType = (some .boolean)) (hlk : meth.locks = false) (hT : Tb w st) (hV : Hvl w) (ho : 0 ≤ o ∧ o < 2) (rx1 : rZ x1) (K10 : Int → Int → St → Prop) (hK10 : ∀ (y2 y3 : Int) (σ : St) (H : Heap) (locs : List Loc) (ls : Array Slot), rI y2 → rI y3 → lv_has ls 4 [(0, .ref (wad w 3 o)), (1, .int (oI x1)), (2, .int (oI y2)), (3, .int (oI y3))] → Wo w σ H → va_S (wA w) st.heap H locs → K10 y2 y3 σ → W p l e (headSpec (ws_ yX5_pick cX5_pick 4 (some .boolean)) rm_Store_pick).room st m args below meth c H locs 0 0 (MQ below (QcZ w Q) args st 0 0 (wA w)) (F0 m 10 ls [])) : ∀ (y2 y3 : Int) (σ : St) (H : Heap) (locs : List Loc) (ls : Array Slot), rI y2 → rI y3 → lv_has ls 4 [(0, .ref (wad w 3 o)), (1, .int (oI x1)), (2, .int (oI y2)), (3, .int (oI y3))] → Wo w σ H → va_S (wA w) st.heap H locs → wp_Store_pick_L10 (wc w) (wtv w) o x1 Q K10 y2 y3 σ → W p l e (headSpec (ws_ yX5_pick cX5_pick 4 (some .boolean)) rm_Store_pick).room st m args below meth c H locs 0 0 (MQ below (QcZ w Q) args st 0 0 (wA w)) (F0 m 10 ls []) := by
  have vl3_o : vl w 3 o := hV.hv 3 rfl ⟨by omega, by show _ < (2 : Int); omega⟩
  have vl323_o : vl w 323 o := hV.hv 323 rfl ⟨by omega, by show _ < (2 : Int); omega⟩
  have vl324_o : vl w 324 o := hV.hv 324 rfl ⟨by omega, by show _ < (2 : Int); omega⟩
  have vl325_o : vl w 325 o := hV.hv 325 rfl ⟨by omega, by show _ < (2 : Int); omega⟩
  have vl4_o : vl w 4 o := hV.hv 4 rfl ⟨by omega, by show _ < (2 : Int); omega⟩
  have vl5_o : vl w 5 o := hV.hv 5 rfl ⟨by omega, by show _ < (2 : Int); omega⟩
  intro y2 y3 σ H locs ls ry2 ry3 hl hW hS h
  unfold wp_Store_pick_L10 at h
  refine lv_iload_n X.1 X.2.1 dX5_pick_10 rfl (lv_at hl 3 rfl) ?_
  refine lv_aload_n X.1 X.2.1 dX5_pick_11 rfl (lv_at hl 0 rfl) ?_
  refine wg (v := .ref (wad w 4 o)) X hT hW 3 0 192 vl3_o rfl rfl (by decide) rfl (by decide) in_X5 q523 rfl dX5_pick_12 ?_
  refine wg (v := .int (oI ((wc w).1 - 6))) X hT hW 4 1 257 vl4_o rfl rfl (by decide) rfl (by decide) in_X6 q272 rfl dX5_pick_15 ?_
  refine w_icmp_ge (tgt := 84) X ry3 (cin_r hT.c 257) dX5_pick_18 (by decide) (fun hc => ?_) (fun hc => ?_)
  · have h := h.1 hc
    refine lv_iload_n X.1 X.2.1 dX5_pick_84 rfl (lv_at hl 2 rfl) ?_
    refine lv_iconst (v := oI (-1)) X.1 X.2.1 dX5_pick_85 rfl ?_
    refine w_icmp_eq (tgt := 112) X ry2 ((rB_lit (-1) (by decide)).i) dX5_pick_86 (by decide) (fun hc => ?_) (fun hc => ?_)
    · have h := h.1 hc
      refine lv_iconst (v := oI 0) X.1 X.2.1 dX5_pick_112 rfl ?_
      exact wret_Z X hr hlk hW hS rZ_0 h dX5_pick_113
    · have h := h.2 hc
      refine lv_aload_n X.1 X.2.1 dX5_pick_89 rfl (lv_at hl 0 rfl) ?_
      refine wg (v := .ref (wad w 5 o)) X hT hW 3 1 193 vl3_o rfl rfl (by decide) rfl (by decide) in_X5 q525 rfl dX5_pick_90 ?_
      refine wg (v := .ref (wad w 324 o)) X hT hW 5 4 324 vl5_o rfl rfl (by decide) rfl (by decide) in_X7 q347 rfl dX5_pick_93 ?_
      refine lv_iload_n X.1 X.2.1 dX5_pick_96 rfl (lv_at hl 2 rfl) ?_
      obtain ⟨bi, h⟩ := h
      refine w_iald (n := ((wc w).1 - 6)) X hT hW 324 vl324_o (by decide) rfl rfl bi dX5_pick_97 ?_
      refine lv_aload_n X.1 X.2.1 dX5_pick_98 rfl (lv_at hl 0 rfl) ?_
      refine wg (v := .ref (wad w 5 o)) X hT hW 3 1 193 vl3_o rfl rfl (by decide) rfl (by decide) in_X5 q525 rfl dX5_pick_99 ?_
      refine wg (v := .int (oI (((wc w).2.1 - 2) * 128))) X hT hW 5 2 322 vl5_o rfl rfl (by decide) rfl (by decide) in_X7 q340 rfl dX5_pick_102 ?_
      refine lv_sipush (v := oI 256) X.1 X.2.1 dX5_pick_105 (by decide) ?_
      refine w_isub X dX5_pick_108 ?_
      refine w_icmp_le (tgt := 114) X (hW.r.ai 324 o y2 rfl) (w32_r _) dX5_pick_109 (by decide) (fun hc => ?_) (fun hc => ?_)
      · have h := h.1 hc
        refine lv_aload_n X.1 X.2.1 dX5_pick_114 rfl (lv_at hl 0 rfl) ?_
        refine lv_iload_n X.1 X.2.1 dX5_pick_115 rfl (lv_at hl 2 rfl) ?_
        refine wput (z := y2) X hT hW hS 3 31 223 vl3_o rfl rfl (by decide) rfl (by decide) in_X5 tyX5 tyX5_ok nmX5 q563 rfl rfl ry2 (fv0 w rfl) rfl rfl dX5_pick_116 (fun H locs hN hS => ?_)
        obtain ⟨σ_22, eσ_22⟩ : ∃ x, x = sI σ 223 o y2 := ⟨_, rfl⟩
        have hWσ_22 : Wo w σ_22 H := eσ_22 ▸ hN
        have h := h σ_22 eσ_22
        clear hN
        refine lv_aload_n X.1 X.2.1 dX5_pick_119 rfl (lv_at hl 0 rfl) ?_
        refine lv_iconst (v := oI 0) X.1 X.2.1 dX5_pick_120 rfl ?_
        refine wput (z := 0) X hT hWσ_22 hS 3 32 224 vl3_o rfl rfl (by decide) rfl (by decide) in_X5 tyX5 tyX5_ok nmX5 q564 rfl rfl rZ_0.i (fv0 w rfl) rfl rfl dX5_pick_121 (fun H locs hN hS => ?_)
        obtain ⟨σ_23, eσ_23⟩ : ∃ x, x = sI σ_22 224 o 0 := ⟨_, rfl⟩
        have hWσ_23 : Wo w σ_23 H := eσ_23 ▸ hN
        have h := h σ_23 eσ_23
        clear hN
        refine lv_aload_n X.1 X.2.1 dX5_pick_124 rfl (lv_at hl 0 rfl) ?_
        refine lv_iconst (v := oI 0) X.1 X.2.1 dX5_pick_125 rfl ?_
        refine wput (z := 0) X hT hWσ_23 hS 3 33 225 vl3_o rfl rfl (by decide) rfl (by decide) in_X5 tyX5 tyX5_ok nmX5 q565 rfl rfl rZ_0 (fv3 w rfl) (nrZ rZ_0) (ftZ rZ_0) dX5_pick_126 (fun H locs hN hS => ?_)
        obtain ⟨σ_24, eσ_24⟩ : ∃ x, x = sI σ_23 225 o 0 := ⟨_, rfl⟩
        have hWσ_24 : Wo w σ_24 H := eσ_24 ▸ hN
        have h := h σ_24 eσ_24
        clear hN
        refine lv_iconst (v := oI 1) X.1 X.2.1 dX5_pick_129 rfl ?_
        exact wret_Z X hr hlk hWσ_24 hS rZ_1 h dX5_pick_130
      · have h := h.2 hc
        refine lv_iconst (v := oI 0) X.1 X.2.1 dX5_pick_112 rfl ?_
        exact wret_Z X hr hlk hW hS rZ_0 h dX5_pick_113
  · have h := h.2 hc
    refine lv_aload_n X.1 X.2.1 dX5_pick_21 rfl (lv_at hl 0 rfl) ?_
    refine wg (v := .ref (wad w 5 o)) X hT hW 3 1 193 vl3_o rfl rfl (by decide) rfl (by decide) in_X5 q525 rfl dX5_pick_22 ?_
    refine wg (v := .ref (wad w 323 o)) X hT hW 5 3 323 vl5_o rfl rfl (by decide) rfl (by decide) in_X7 q344 rfl dX5_pick_25 ?_
    refine lv_iload_n X.1 X.2.1 dX5_pick_28 rfl (lv_at hl 3 rfl) ?_
    obtain ⟨bi, h⟩ := h
    refine w_iald (n := ((wc w).1 - 6)) X hT hW 323 vl323_o (by decide) rfl rfl bi dX5_pick_29 ?_
    refine lv_iconst (v := oI 1) X.1 X.2.1 dX5_pick_30 rfl ?_
    refine w_icmp_ne (tgt := 78) X (hW.r.ai 323 o y3 rfl) rZ_1.i dX5_pick_31 (by decide) (fun hc => ?_) (fun hc => ?_)
    · have h := h.1 hc
      exact wk_Store_pick_b78 X hr hlk hT hV ho rx1 K10 hK10 y2 y3 σ _ _ _ ry2 ry3 (lv_sub hl [0, 1, 2, 3] rfl) hW hS h
    · have h := h.2 hc
      refine lv_iload_n X.1 X.2.1 dX5_pick_34 rfl (lv_at hl 1 rfl) ?_
      refine w_if_ne (tgt := 50) X rx1.i dX5_pick_35 (by decide) (fun hc => ?_) (fun hc => ?_)
      · have h := h.1 hc
        exact wk_Store_pick_b50 X hr hlk hT hV ho rx1 (wp_Store_pick_b78 (wc w) (wtv w) o x1 Q K10) (wk_Store_pick_b78 X hr hlk hT hV ho rx1 K10 hK10) y2 y3 σ _ _ _ ry2 ry3 (lv_sub hl [0, 1, 2, 3] rfl) hW hS h
      · have h := h.2 hc
        refine lv_aload_n X.1 X.2.1 dX5_pick_38 rfl (lv_at hl 0 rfl) ?_
        refine wg (v := .ref (wad w 5 o)) X hT hW 3 1 193 vl3_o rfl rfl (by decide) rfl (by decide) in_X5 q525 rfl dX5_pick_39 ?_
        refine wg (v := .ref (wad w 325 o)) X hT hW 5 5 325 vl5_o rfl rfl (by decide) rfl (by decide) in_X7 q349 rfl dX5_pick_42 ?_
        refine lv_iload_n X.1 X.2.1 dX5_pick_45 rfl (lv_at hl 3 rfl) ?_
        obtain ⟨bi, h⟩ := h
        refine w_zald (n := ((wc w).1 - 6)) X hT hW 325 vl325_o (by decide) rfl rfl bi dX5_pick_46 ?_
        refine w_if_ne (tgt := 78) X ((hW.r.az 325 o y3 rfl).i) dX5_pick_47 (by decide) (fun hc => ?_) (fun hc => ?_)
        · have h := h.1 hc
          exact wk_Store_pick_b78 X hr hlk hT hV ho rx1 K10 hK10 y2 y3 σ _ _ _ ry2 ry3 (lv_sub hl [0, 1, 2, 3] rfl) hW hS h
        · have h := h.2 hc
          exact wk_Store_pick_b50 X hr hlk hT hV ho rx1 (wp_Store_pick_b78 (wc w) (wtv w) o x1 Q K10) (wk_Store_pick_b78 X hr hlk hT hV ho rx1 K10 hK10) y2 y3 σ _ _ _ ry2 ry3 (lv_sub hl [0, 1, 2, 3] rfl) hW hS h
theorem wk_Store_pick_L10 {p : Program} {l : Launch} {e : Env} {st : State} {m : MethodId} {args : Array Value} {below : List Frame} {meth : Method} {c : Code} {w : Wp} {o : Int} {x1 : Int} {Q : Int → St → Prop} (X : CallFix p m c cX5_pick 4 st args lw_all RX5) (hr : meth.sig.returnType = (some .boolean)) (hlk : meth.locks = false) (hT : Tb w st) (hV : Hvl w) (ho : 0 ≤ o ∧ o < 2) (rx1 : rZ x1) : ∀ (y2 y3 : Int) (σ : St) (H : Heap) (locs : List Loc) (ls : Array Slot), rI y2 → rI y3 → lv_has ls 4 [(0, .ref (wad w 3 o)), (1, .int (oI x1)), (2, .int (oI y2)), (3, .int (oI y3))] → Wo w σ H → va_S (wA w) st.heap H locs → lQ2 (wp_Store_pick_L10 (wc w) (wtv w) o x1 Q) y2 y3 σ → W p l e (headSpec (ws_ yX5_pick cX5_pick 4 (some .boolean)) rm_Store_pick).room st m args below meth c H locs 0 0 (MQ below (QcZ w Q) args st 0 0 (wA w)) (F0 m 10 ls []) := by
  intro y2 y3 σ H locs ls ry2 ry3 hl hW hS h
  obtain ⟨fu, h⟩ := h
  induction fu generalizing y2 y3 σ H locs ls with
  | zero => exact h.elim
  | succ fu ih =>
    exact wk_Store_pick_L10B X hr hlk hT hV ho rx1 (lq2 (wp_Store_pick_L10 (wc w) (wtv w) o x1 Q) fu) (fun y2 y3 σ H locs ls ry2 ry3 hl hW hS h => ih y2 y3 σ H locs ls ry2 ry3 hl hW hS h) y2 y3 σ H locs ls ry2 ry3 hl hW hS h
set_option maxHeartbeats 4000000 in
set_option maxRecDepth 100000 in
theorem met_Store_pick (l : Launch) {w : Wp} (hV : Hvl w) (o : Int) (x1 : Int) (Q : Int → St → Prop) (σ : St) (ho : 0 ≤ o ∧ o < 2) (rx1 : rZ x1) (h : wp_Store_pick (wc w) (wtv w) o x1 Q σ) : Met l yX5_pick (ws_ yX5_pick cX5_pick 4 (some .boolean)) rm_Store_pick (PcW w σ [.ref (wad w 3 o), .int (oI x1)]) (QcZ w Q) 0 0 (wA w) := by
  refine Met.ofW (cc := cX5_pick) (maxL := 4) (ret := (some .boolean)) (by decide) rfl ?_
  intro p e st m args below meth c s₁ B hml hv
  obtain ⟨hargs, hW, hT⟩ := hv
  have X : CallFix p m c cX5_pick 4 st _ lw_all RX5 := ⟨B.exec, B.bytes, hml, findClass_of_methodNamed B.named, fun w h => atoms_spec (ws := ws_ yX5_pick cX5_pick 4 (some .boolean)) B.pre w (List.mem_cons_of_mem _ h)⟩
  have hr := B.returns
  have hlk := B.notSynchronized
  have hS : va_S (wA w) st.heap st.heap [] := va_S.rf
  have vl3_o : vl w 3 o := hV.hv 3 rfl ⟨by omega, by show _ < (2 : Int); omega⟩
  have vl5_o : vl w 5 o := hV.hv 5 rfl ⟨by omega, by show _ < (2 : Int); omega⟩
  have hl := lv_entry ([.ref (wad w 3 o), .int (oI x1)]) (n := 4) (Nat.le_of_ble_eq_true rfl)
  have hfr := lg_entry_eq m ([.ref (wad w 3 o), .int (oI x1)]) 4
  rw [← hargs] at hfr
  rw [hfr]
  generalize (lg_sl ([.ref (wad w 3 o), .int (oI x1)]) ++ List.replicate (4 - (lg_sl ([.ref (wad w 3 o), .int (oI x1)])).length) Slot.unset).toArray = ls at hl ⊢
  have hl : lv_has ls 4 [(0, .ref (wad w 3 o)), (1, .int (oI x1))] := hl
  unfold wp_Store_pick at h
  refine lv_iconst (v := oI (-1)) X.1 X.2.1 dX5_pick_0 rfl ?_
  refine lv_istore_n (i := 2) (lv' := [(2, .int (oI (-1))), (0, .ref (wad w 3 o)), (1, .int (oI x1))]) X.1 X.2.1 dX5_pick_1 rfl hl (by decide) (by first | rfl | simp [catK, catI, catR, catL]) (fun ls hl => ?_)
  refine lv_aload_n X.1 X.2.1 dX5_pick_2 rfl (lv_at hl 1 rfl) ?_
  refine wg (v := .ref (wad w 5 o)) X hT hW 3 1 193 vl3_o rfl rfl (by decide) rfl (by decide) in_X5 q525 rfl dX5_pick_3 ?_
  refine wg (v := .int (oI (4 + (wc w).2.2))) X hT hW 5 1 321 vl5_o rfl rfl (by decide) rfl (by decide) in_X7 q338 rfl dX5_pick_6 ?_
  refine w_top (fun y3_25 ey3_25 => ?_)
  have h := h y3_25 ey3_25
  have ry3_25 : rI y3_25 := by rw [ey3_25]; exact (cin_r hT.c 321)
  refine lv_istore_n (i := 3) (lv' := [(3, .int (oI y3_25)), (2, .int (oI (-1))), (0, .ref (wad w 3 o)), (1, .int (oI x1))]) X.1 X.2.1 dX5_pick_9 rfl hl (by decide) (by first | rfl | simp [catK, catI, catR, catL]) (fun ls hl => ?_)
  exact wk_Store_pick_L10 X hr hlk hT hV ho rx1 (-1) y3_25 σ _ _ _ ((rB_lit (-1) (by decide)).i) ry3_25 (lv_sub hl [2, 3, 1, 0] rfl) hW hS h
/-! Store.look(IILNandHouse$Row;)I -/
set_option maxHeartbeats 4000000 in
set_option maxRecDepth 100000 in
theorem met_Store_look (l : Launch) {w : Wp} (hV : Hvl w) (o : Int) (x1 : Int) (x2 : Int) (x3 : Int) (Q : Int → St → Prop) (σ : St) (ho : 0 ≤ o ∧ o < 2) (rx1 : rI x1) (rx2 : rI x2) (hx3 : 0 ≤ x3 ∧ x3 < 8) (h : wp_Store_look (wc w) (wtv w) o x1 x2 x3 Q σ) : Met l yX5_look (ws_ yX5_look cX5_look 6 (some .int)) rm_Store_look (PcW w σ [.ref (wad w 3 o), .int (oI x1), .int (oI x2), .ref (wad w 8 x3)]) (QcI w Q) 0 0 (wA w) := by
  refine Met.ofW (cc := cX5_look) (maxL := 6) (ret := (some .int)) (by decide) rfl ?_
  intro p e st m args below meth c s₁ B hml hv
  obtain ⟨hargs, hW, hT⟩ := hv
  have X : CallFix p m c cX5_look 6 st _ lw_all RX5 := ⟨B.exec, B.bytes, hml, findClass_of_methodNamed B.named, fun w h => atoms_spec (ws := ws_ yX5_look cX5_look 6 (some .int)) B.pre w (List.mem_cons_of_mem _ h)⟩
  have hr := B.returns
  have hlk := B.notSynchronized
  have hS : va_S (wA w) st.heap st.heap [] := va_S.rf
  have vl3_o : vl w 3 o := hV.hv 3 rfl ⟨by omega, by show _ < (2 : Int); omega⟩
  have vl4_o : vl w 4 o := hV.hv 4 rfl ⟨by omega, by show _ < (2 : Int); omega⟩
  have vl8_x3 : vl w 8 x3 := hV.hv 8 rfl ⟨by omega, by show _ < (8 : Int); omega⟩
  have hl := lv_entry ([.ref (wad w 3 o), .int (oI x1), .int (oI x2), .ref (wad w 8 x3)]) (n := 6) (Nat.le_of_ble_eq_true rfl)
  have hfr := lg_entry_eq m ([.ref (wad w 3 o), .int (oI x1), .int (oI x2), .ref (wad w 8 x3)]) 6
  rw [← hargs] at hfr
  rw [hfr]
  generalize (lg_sl ([.ref (wad w 3 o), .int (oI x1), .int (oI x2), .ref (wad w 8 x3)]) ++ List.replicate (6 - (lg_sl ([.ref (wad w 3 o), .int (oI x1), .int (oI x2), .ref (wad w 8 x3)])).length) Slot.unset).toArray = ls at hl ⊢
  have hl : lv_has ls 6 [(0, .ref (wad w 3 o)), (1, .int (oI x1)), (2, .int (oI x2)), (3, .ref (wad w 8 x3))] := hl
  unfold wp_Store_look at h
  refine lv_aload_n X.1 X.2.1 dX5_look_0 rfl (lv_at hl 0 rfl) ?_
  refine wg (v := .ref (wad w 4 o)) X hT hW 3 0 192 vl3_o rfl rfl (by decide) rfl (by decide) in_X5 q523 rfl dX5_look_1 ?_
  refine lv_iload_n X.1 X.2.1 dX5_look_4 rfl (lv_at hl 1 rfl) ?_
  refine wr_I (rV (As := [.int (oI x1)]) (rest := []) X hT hW hS (met_Blocks_written l (w := w) hV o x1 _ σ (by omega) rx1 h) (cwV 1 X.2.2.2.2 (lw_V q1017 q1018 q1019 q137 q1020) rfl rfl rfl (by decide +kernel) ⟨Nat.le_of_ble_eq_true rfl, Nat.le_of_ble_eq_true rfl⟩) vl4_o (by decide) rfl rfl hl.1 rfl (by first | exact Nat.le_of_ble_eq_true rfl | simp [catK, catI, catR, catL]) dX5_look_5 ⟨Nat.le_refl _, Nat.le_refl _⟩) hS (fun r_12 σ_13 H locs rr_12 rkσ_13 h hWσ_13 hS => ?_)
  have h := h rr_12 rkσ_13
  refine lv_sipush (v := oI 128) X.1 X.2.1 dX5_look_8 (by decide) ?_
  refine w_imul X dX5_look_11 ?_
  refine w_top (fun y4_14 ey4_14 => ?_)
  have h := h y4_14 ey4_14
  have ry4_14 : rI y4_14 := by rw [ey4_14]; exact (w32_r _)
  refine lv_istore (i := 4) (lv' := [(4, .int (oI y4_14)), (0, .ref (wad w 3 o)), (1, .int (oI x1)), (2, .int (oI x2)), (3, .ref (wad w 8 x3))]) X.1 X.2.1 dX5_look_12 hl (by decide) (by first | rfl | simp [catK, catI, catR, catL]) (fun ls hl => ?_)
  refine lv_iload_n X.1 X.2.1 dX5_look_14 rfl (lv_at hl 3 rfl) ?_
  refine lv_bipush (v := oI 8) X.1 X.2.1 dX5_look_15 (by decide) ?_
  refine w_iadd X dX5_look_17 ?_
  refine lv_iload X.1 X.2.1 dX5_look_18 (lv_at hl 0 rfl) ?_
  refine w_icmp_le (tgt := 25) X (w32_r _) ry4_14 dX5_look_20 (by decide) (fun hc => ?_) (fun hc => ?_)
  · have h := h.1 hc
    refine lv_aload_n X.1 X.2.1 dX5_look_25 rfl (lv_at hl 1 rfl) ?_
    refine lv_iload_n X.1 X.2.1 dX5_look_26 rfl (lv_at hl 2 rfl) ?_
    refine lv_iload_n X.1 X.2.1 dX5_look_27 rfl (lv_at hl 3 rfl) ?_
    refine lv_bipush (v := oI 8) X.1 X.2.1 dX5_look_28 (by decide) ?_
    refine lv_aload_n X.1 X.2.1 dX5_look_30 rfl (lv_at hl 4 rfl) ?_
    refine wr_V (rV (As := [.int (oI x1), .int (oI x2), .int (oI 8), .ref (wad w 8 x3)]) (rest := []) X hT hWσ_13 hS (met_Store_read l (w := w) hV o x1 x2 8 x3 _ σ_13 (by omega) rx1 rx2 ((rB_lit 8 (by decide)).i) (by omega) h) (cwV 4 X.2.2.2.2 (lw_V q1293 q1184 q1185 q136 q1186) rfl rfl rfl (by decide +kernel) ⟨Nat.le_of_ble_eq_true rfl, Nat.le_of_ble_eq_true rfl⟩) vl3_o (by decide) rfl rfl hl.1 rfl (by first | exact Nat.le_of_ble_eq_true rfl | simp [catK, catI, catR, catL]) dX5_look_31 ⟨Nat.le_refl _, Nat.le_refl _⟩) hS (fun σ_16 H locs rkσ_16 h hWσ_16 hS => ?_)
    have h := h rkσ_16
    refine lv_aload_n X.1 X.2.1 dX5_look_34 rfl (lv_at hl 4 rfl) ?_
    refine wr_I (rV (As := []) (rest := []) X hT hWσ_16 hS (met_Row_length l (w := w) hV x3 _ σ_16 (by omega) h) (cwV 0 X.2.2.2.2 (lw_V q1294 q764 q765 q132 q766) rfl rfl rfl (by decide +kernel) ⟨Nat.le_of_ble_eq_true rfl, Nat.le_of_ble_eq_true rfl⟩) vl8_x3 (by decide) rfl rfl hl.1 rfl (by first | exact Nat.le_of_ble_eq_true rfl | simp [catK, catI, catR, catL]) dX5_look_35 ⟨Nat.le_refl _, Nat.le_refl _⟩) hS (fun r_17 σ_18 H locs rr_17 rkσ_18 h hWσ_18 hS => ?_)
    have h := h rr_17 rkσ_18
    refine lv_istore (i := 5) (lv' := [(5, .int (oI r_17)), (4, .int (oI y4_14)), (0, .ref (wad w 3 o)), (1, .int (oI x1)), (2, .int (oI x2)), (3, .ref (wad w 8 x3))]) X.1 X.2.1 dX5_look_38 hl (by decide) (by first | rfl | simp [catK, catI, catR, catL]) (fun ls hl => ?_)
    refine lv_iload X.1 X.2.1 dX5_look_40 (lv_at hl 0 rfl) ?_
    refine w_if_ne (tgt := 47) X rr_17 dX5_look_42 (by decide) (fun hc => ?_) (fun hc => ?_)
    · have h := h.1 hc
      refine lv_iload X.1 X.2.1 dX5_look_47 (lv_at hl 0 rfl) ?_
      refine lv_bipush (v := oI 24) X.1 X.2.1 dX5_look_49 (by decide) ?_
      refine w_icmp_lt (tgt := 71) X rr_17 ((rB_lit 24 (by decide)).i) dX5_look_51 (by decide) (fun hc => ?_) (fun hc => ?_)
      · have h := h.1 hc
        refine lv_iconst (v := oI (-1)) X.1 X.2.1 dX5_look_71 rfl ?_
        exact wret_I X hr hlk hWσ_18 hS ((rB_lit (-1) (by decide)).i) h dX5_look_72
      · have h := h.2 hc
        refine lv_iload X.1 X.2.1 dX5_look_54 (lv_at hl 0 rfl) ?_
        refine lv_sipush (v := oI 320) X.1 X.2.1 dX5_look_56 (by decide) ?_
        refine w_icmp_gt (tgt := 71) X rr_17 (rI_lit 320 (by decide)) dX5_look_59 (by decide) (fun hc => ?_) (fun hc => ?_)
        · have h := h.1 hc
          refine lv_iconst (v := oI (-1)) X.1 X.2.1 dX5_look_71 rfl ?_
          exact wret_I X hr hlk hWσ_18 hS ((rB_lit (-1) (by decide)).i) h dX5_look_72
        · have h := h.2 hc
          refine lv_iload_n X.1 X.2.1 dX5_look_62 rfl (lv_at hl 4 rfl) ?_
          refine lv_iload X.1 X.2.1 dX5_look_63 (lv_at hl 0 rfl) ?_
          refine w_iadd X dX5_look_65 ?_
          refine lv_iload X.1 X.2.1 dX5_look_66 (lv_at hl 1 rfl) ?_
          refine w_icmp_le (tgt := 73) X (w32_r _) ry4_14 dX5_look_68 (by decide) (fun hc => ?_) (fun hc => ?_)
          · have h := h.1 hc
            refine lv_aload_n X.1 X.2.1 dX5_look_73 rfl (lv_at hl 2 rfl) ?_
            refine lv_iload_n X.1 X.2.1 dX5_look_74 rfl (lv_at hl 3 rfl) ?_
            refine lv_iload_n X.1 X.2.1 dX5_look_75 rfl (lv_at hl 4 rfl) ?_
            refine lv_iload X.1 X.2.1 dX5_look_76 (lv_at hl 0 rfl) ?_
            refine lv_aload_n X.1 X.2.1 dX5_look_78 rfl (lv_at hl 5 rfl) ?_
            refine wr_V (rV (As := [.int (oI x1), .int (oI x2), .int (oI r_17), .ref (wad w 8 x3)]) (rest := []) X hT hWσ_18 hS (met_Store_read l (w := w) hV o x1 x2 r_17 x3 _ σ_18 (by omega) rx1 rx2 rr_17 (by omega) h) (cwV 4 X.2.2.2.2 (lw_V q1293 q1184 q1185 q136 q1186) rfl rfl rfl (by decide +kernel) ⟨Nat.le_of_ble_eq_true rfl, Nat.le_of_ble_eq_true rfl⟩) vl3_o (by decide) rfl rfl hl.1 rfl (by first | exact Nat.le_of_ble_eq_true rfl | simp [catK, catI, catR, catL]) dX5_look_79 ⟨Nat.le_refl _, Nat.le_refl _⟩) hS (fun σ_20 H locs rkσ_20 h hWσ_20 hS => ?_)
            have h := h rkσ_20
            refine lv_aload_n X.1 X.2.1 dX5_look_82 rfl (lv_at hl 5 rfl) ?_
            refine lv_sipush (v := oI 320) X.1 X.2.1 dX5_look_83 (by decide) ?_
            refine wr_Z (rV (As := [.int (oI 320)]) (rest := []) X hT hWσ_20 hS (met_Row_isWhole l (w := w) hV x3 320 _ σ_20 (by omega) (rI_lit 320 (by decide)) h) (cwV 1 X.2.2.2.2 (lw_V q1295 q1296 q1297 q132 q1298) rfl rfl rfl (by decide +kernel) ⟨Nat.le_of_ble_eq_true rfl, Nat.le_of_ble_eq_true rfl⟩) vl8_x3 (by decide) rfl rfl hl.1 rfl (by first | exact Nat.le_of_ble_eq_true rfl | simp [catK, catI, catR, catL]) dX5_look_86 ⟨Nat.le_refl _, Nat.le_refl _⟩) hS (fun r_21 σ_22 H locs rr_21 rkσ_22 h hWσ_22 hS => ?_)
            have h := h rr_21 rkσ_22
            refine w_if_eq (tgt := 97) X rr_21.i dX5_look_89 (by decide) (fun hc => ?_) (fun hc => ?_)
            · have h := h.1 hc
              refine lv_iconst (v := oI (-1)) X.1 X.2.1 dX5_look_97 rfl ?_
              exact wret_I X hr hlk hWσ_22 hS ((rB_lit (-1) (by decide)).i) h dX5_look_98
            · have h := h.2 hc
              refine lv_iload X.1 X.2.1 dX5_look_92 (lv_at hl 0 rfl) ?_
              refine lv_goto (tgt := 98) X.1 X.2.1 dX5_look_94 (by decide) ?_
              exact wret_I X hr hlk hWσ_22 hS rr_17 h dX5_look_98
          · have h := h.2 hc
            refine lv_iconst (v := oI (-1)) X.1 X.2.1 dX5_look_71 rfl ?_
            exact wret_I X hr hlk hWσ_18 hS ((rB_lit (-1) (by decide)).i) h dX5_look_72
    · have h := h.2 hc
      refine lv_iconst (v := oI 0) X.1 X.2.1 dX5_look_45 rfl ?_
      exact wret_I X hr hlk hWσ_18 hS rZ_0.i h dX5_look_46
  · have h := h.2 hc
    refine lv_iconst (v := oI (-1)) X.1 X.2.1 dX5_look_23 rfl ?_
    exact wret_I X hr hlk hWσ_13 hS ((rB_lit (-1) (by decide)).i) h dX5_look_24
/-! Store.behindPage(I)I -/
set_option maxHeartbeats 4000000 in
set_option maxRecDepth 100000 in
theorem met_Store_behindPage (l : Launch) {w : Wp} (x0 : Int) (Q : Int → St → Prop) (σ : St) (rx0 : rI x0) (h : wp_Store_behindPage (wc w) (wtv w) x0 Q σ) : Met l yX5_behindPage (ws_ yX5_behindPage cX5_behindPage 1 (some .int)) rm_Store_behindPage (PcW w σ [.int (oI x0)]) (QcI w Q) 0 0 (wA w) := by
  refine Met.ofW (cc := cX5_behindPage) (maxL := 1) (ret := (some .int)) (by decide) rfl ?_
  intro p e st m args below meth c s₁ B hml hv
  obtain ⟨hargs, hW, hT⟩ := hv
  have X : CallFix p m c cX5_behindPage 1 st _ lw_all RX5 := ⟨B.exec, B.bytes, hml, findClass_of_methodNamed B.named, fun w h => atoms_spec (ws := ws_ yX5_behindPage cX5_behindPage 1 (some .int)) B.pre w (List.mem_cons_of_mem _ h)⟩
  have hr := B.returns
  have hlk := B.notSynchronized
  have hS : va_S (wA w) st.heap st.heap [] := va_S.rf
  have hl := lv_entry ([.int (oI x0)]) (n := 1) (Nat.le_of_ble_eq_true rfl)
  have hfr := lg_entry_eq m ([.int (oI x0)]) 1
  rw [← hargs] at hfr
  rw [hfr]
  generalize (lg_sl ([.int (oI x0)]) ++ List.replicate (1 - (lg_sl ([.int (oI x0)])).length) Slot.unset).toArray = ls at hl ⊢
  have hl : lv_has ls 1 [(0, .int (oI x0))] := hl
  unfold wp_Store_behindPage at h
  refine lv_iload_n X.1 X.2.1 dX5_behindPage_0 rfl (lv_at hl 0 rfl) ?_
  refine lv_iload_n X.1 X.2.1 dX5_behindPage_1 rfl (lv_at hl 0 rfl) ?_
  refine lv_sipush (v := oI 128) X.1 X.2.1 dX5_behindPage_2 (by decide) ?_
  refine w_irem X rx0 (rI_lit 128 (by decide)) (by decide) dX5_behindPage_5 ?_
  refine w_isub X dX5_behindPage_6 ?_
  refine lv_sipush (v := oI 128) X.1 X.2.1 dX5_behindPage_7 (by decide) ?_
  refine w_iadd X dX5_behindPage_10 ?_
  exact wret_I X hr hlk hW hS (w32_r _) h dX5_behindPage_11
/-! Store.isLeaf(I)Z -/
set_option maxHeartbeats 4000000 in
set_option maxRecDepth 100000 in
theorem wk_Store_isLeaf_b21 {p : Program} {l : Launch} {e : Env} {st : State} {m : MethodId} {args : Array Value} {below : List Frame} {meth : Method} {c : Code} {w : Wp} {x0 : Int} {Q : Int → St → Prop} (X : CallFix p m c cX5_isLeaf 1 st args lw_all RX5) (hr : meth.sig.returnType = (some .boolean)) (hlk : meth.locks = false) (hT : Tb w st) (rx0 : rI x0) : ∀ (σ : St) (H : Heap) (locs : List Loc) (ls : Array Slot), lv_has ls 1 [] → Wo w σ H → va_S (wA w) st.heap H locs → wp_Store_isLeaf_b21 (wc w) (wtv w) x0 Q σ → W p l e (headSpec (ws_ yX5_isLeaf cX5_isLeaf 1 (some .boolean)) rm_Store_isLeaf).room st m args below meth c H locs 0 0 (MQ below (QcZ w Q) args st 0 0 (wA w)) (F0 m 21 ls []) := by

  intro σ H locs ls hl hW hS h
  unfold wp_Store_isLeaf_b21 at h
  refine lv_iconst (v := oI 1) X.1 X.2.1 dX5_isLeaf_21 rfl ?_
  refine lv_goto (tgt := 26) X.1 X.2.1 dX5_isLeaf_22 (by decide) ?_
  exact wret_Z X hr hlk hW hS rZ_1 h dX5_isLeaf_26
set_option maxHeartbeats 4000000 in
set_option maxRecDepth 100000 in
theorem met_Store_isLeaf (l : Launch) {w : Wp} (x0 : Int) (Q : Int → St → Prop) (σ : St) (rx0 : rI x0) (h : wp_Store_isLeaf (wc w) (wtv w) x0 Q σ) : Met l yX5_isLeaf (ws_ yX5_isLeaf cX5_isLeaf 1 (some .boolean)) rm_Store_isLeaf (PcW w σ [.int (oI x0)]) (QcZ w Q) 0 0 (wA w) := by
  refine Met.ofW (cc := cX5_isLeaf) (maxL := 1) (ret := (some .boolean)) (by decide) rfl ?_
  intro p e st m args below meth c s₁ B hml hv
  obtain ⟨hargs, hW, hT⟩ := hv
  have X : CallFix p m c cX5_isLeaf 1 st _ lw_all RX5 := ⟨B.exec, B.bytes, hml, findClass_of_methodNamed B.named, fun w h => atoms_spec (ws := ws_ yX5_isLeaf cX5_isLeaf 1 (some .boolean)) B.pre w (List.mem_cons_of_mem _ h)⟩
  have hr := B.returns
  have hlk := B.notSynchronized
  have hS : va_S (wA w) st.heap st.heap [] := va_S.rf
  have hl := lv_entry ([.int (oI x0)]) (n := 1) (Nat.le_of_ble_eq_true rfl)
  have hfr := lg_entry_eq m ([.int (oI x0)]) 1
  rw [← hargs] at hfr
  rw [hfr]
  generalize (lg_sl ([.int (oI x0)]) ++ List.replicate (1 - (lg_sl ([.int (oI x0)])).length) Slot.unset).toArray = ls at hl ⊢
  have hl : lv_has ls 1 [(0, .int (oI x0))] := hl
  unfold wp_Store_isLeaf at h
  refine lv_iload_n X.1 X.2.1 dX5_isLeaf_0 rfl (lv_at hl 0 rfl) ?_
  refine lv_iconst (v := oI 1) X.1 X.2.1 dX5_isLeaf_1 rfl ?_
  refine w_icmp_eq (tgt := 21) X rx0 rZ_1.i dX5_isLeaf_2 (by decide) (fun hc => ?_) (fun hc => ?_)
  · have h := h.1 hc
    exact wk_Store_isLeaf_b21 X hr hlk hT rx0 σ _ _ _ (lv_sub hl [] rfl) hW hS h
  · have h := h.2 hc
    refine lv_iload_n X.1 X.2.1 dX5_isLeaf_5 rfl (lv_at hl 0 rfl) ?_
    refine lv_iconst (v := oI 2) X.1 X.2.1 dX5_isLeaf_6 rfl ?_
    refine w_icmp_eq (tgt := 21) X rx0 ((rB_lit 2 (by decide)).i) dX5_isLeaf_7 (by decide) (fun hc => ?_) (fun hc => ?_)
    · have h := h.1 hc
      exact wk_Store_isLeaf_b21 X hr hlk hT rx0 σ _ _ _ (lv_sub hl [] rfl) hW hS h
    · have h := h.2 hc
      refine lv_iload_n X.1 X.2.1 dX5_isLeaf_10 rfl (lv_at hl 0 rfl) ?_
      refine lv_iconst (v := oI 3) X.1 X.2.1 dX5_isLeaf_11 rfl ?_
      refine w_icmp_eq (tgt := 21) X rx0 ((rB_lit 3 (by decide)).i) dX5_isLeaf_12 (by decide) (fun hc => ?_) (fun hc => ?_)
      · have h := h.1 hc
        exact wk_Store_isLeaf_b21 X hr hlk hT rx0 σ _ _ _ (lv_sub hl [] rfl) hW hS h
      · have h := h.2 hc
        refine lv_iload_n X.1 X.2.1 dX5_isLeaf_15 rfl (lv_at hl 0 rfl) ?_
        refine lv_bipush (v := oI 9) X.1 X.2.1 dX5_isLeaf_16 (by decide) ?_
        refine w_icmp_ne (tgt := 25) X rx0 ((rB_lit 9 (by decide)).i) dX5_isLeaf_18 (by decide) (fun hc => ?_) (fun hc => ?_)
        · have h := h.1 hc
          refine lv_iconst (v := oI 0) X.1 X.2.1 dX5_isLeaf_25 rfl ?_
          exact wret_Z X hr hlk hW hS rZ_0 h dX5_isLeaf_26
        · have h := h.2 hc
          exact wk_Store_isLeaf_b21 X hr hlk hT rx0 σ _ _ _ (lv_sub hl [] rfl) hW hS h
/-! Store.highOf(LNandHouse$Row;)J -/
set_option maxHeartbeats 4000000 in
set_option maxRecDepth 100000 in
theorem wk_Store_highOf_b38 {p : Program} {l : Launch} {e : Env} {st : State} {m : MethodId} {args : Array Value} {below : List Frame} {meth : Method} {c : Code} {w : Wp} {x0 : Int} {Q : Int → St → Prop} (X : CallFix p m c cX5_highOf 2 st args lw_all RX5) (hr : meth.sig.returnType = (some .long)) (hlk : meth.locks = false) (hT : Tb w st) (hV : Hvl w) (hx0 : 0 ≤ x0 ∧ x0 < 8) : ∀ (t0 t1 : Int) (σ : St) (H : Heap) (locs : List Loc) (ls : Array Slot), rB t0 → rI t1 → lv_has ls 2 [] → Wo w σ H → va_S (wA w) st.heap H locs → wp_Store_highOf_b38 (wc w) (wtv w) x0 Q t0 t1 σ → W p l e (headSpec (ws_ yX5_highOf cX5_highOf 2 (some .long)) rm_Store_highOf).room st m args below meth c H locs 0 0 (MQ below (QcJ w Q) args st 0 0 (wA w)) (F0 m 38 ls [.int (oI t0), .int (oI t1)]) := by

  intro t0 t1 σ H locs ls rt0 rt1 hl hW hS h
  unfold wp_Store_highOf_b38 at h
  refine wr_J (rSN (As := [.int (oI t1), .int (oI t0)]) (rest := []) X hT hW hS (met_House_keyOf l (w := w) t1 t0 _ σ rt1 rt0.i h) ⟨va_cnB 2 X.2.2.2.2 (lw_meth q895) rfl rfl rfl (hT.2.1 _ (List.mem_of_getElem? (i := 13) rfl)) (X.2.2.2.2 _ q131) (by decide +kernel) ⟨Nat.le_of_ble_eq_true rfl, Nat.le_of_ble_eq_true rfl⟩, X.2.2.2.2 _ q894, trivial⟩ rfl hl.1 rfl (by first | exact Nat.le_of_ble_eq_true rfl | simp [catK, catI, catR, catL]) dX5_highOf_38 ⟨Nat.le_refl _, Nat.le_refl _⟩) hS (fun r_7 σ_8 H locs rr_7 rkσ_8 h hWσ_8 hS => ?_)
  have h := h rr_7 rkσ_8
  exact wret_J X hr hlk hWσ_8 hS rr_7 h dX5_highOf_41
set_option maxHeartbeats 4000000 in
set_option maxRecDepth 100000 in
theorem met_Store_highOf (l : Launch) {w : Wp} (hV : Hvl w) (x0 : Int) (Q : Int → St → Prop) (σ : St) (hx0 : 0 ≤ x0 ∧ x0 < 8) (h : wp_Store_highOf (wc w) (wtv w) x0 Q σ) : Met l yX5_highOf (ws_ yX5_highOf cX5_highOf 2 (some .long)) rm_Store_highOf (PcW w σ [.ref (wad w 8 x0)]) (QcJ w Q) 0 0 (wA w) := by
  refine Met.ofW (cc := cX5_highOf) (maxL := 2) (ret := (some .long)) (by decide) rfl ?_
  intro p e st m args below meth c s₁ B hml hv
  obtain ⟨hargs, hW, hT⟩ := hv
  have X : CallFix p m c cX5_highOf 2 st _ lw_all RX5 := ⟨B.exec, B.bytes, hml, findClass_of_methodNamed B.named, fun w h => atoms_spec (ws := ws_ yX5_highOf cX5_highOf 2 (some .long)) B.pre w (List.mem_cons_of_mem _ h)⟩
  have hr := B.returns
  have hlk := B.notSynchronized
  have hS : va_S (wA w) st.heap st.heap [] := va_S.rf
  have vl8_x0 : vl w 8 x0 := hV.hv 8 rfl ⟨by omega, by show _ < (8 : Int); omega⟩
  have hl := lv_entry ([.ref (wad w 8 x0)]) (n := 2) (Nat.le_of_ble_eq_true rfl)
  have hfr := lg_entry_eq m ([.ref (wad w 8 x0)]) 2
  rw [← hargs] at hfr
  rw [hfr]
  generalize (lg_sl ([.ref (wad w 8 x0)]) ++ List.replicate (2 - (lg_sl ([.ref (wad w 8 x0)])).length) Slot.unset).toArray = ls at hl ⊢
  have hl : lv_has ls 2 [(0, .ref (wad w 8 x0))] := hl
  unfold wp_Store_highOf at h
  refine lv_aload_n X.1 X.2.1 dX5_highOf_0 rfl (lv_at hl 0 rfl) ?_
  refine wr_I (rV (As := []) (rest := []) X hT hW hS (met_Row_type l (w := w) hV x0 _ σ (by omega) h) (cwV 0 X.2.2.2.2 (lw_V q1302 q1303 q1304 q132 q1305) rfl rfl rfl (by decide +kernel) ⟨Nat.le_of_ble_eq_true rfl, Nat.le_of_ble_eq_true rfl⟩) vl8_x0 (by decide) rfl rfl hl.1 rfl (by first | exact Nat.le_of_ble_eq_true rfl | simp [catK, catI, catR, catL]) dX5_highOf_1 ⟨Nat.le_refl _, Nat.le_refl _⟩) hS (fun r_9 σ_10 H locs rr_9 rkσ_10 h hWσ_10 hS => ?_)
  have h := h rr_9 rkσ_10
  refine lv_istore_n (i := 1) (lv' := [(1, .int (oI r_9)), (0, .ref (wad w 8 x0))]) X.1 X.2.1 dX5_highOf_4 rfl hl (by decide) (by first | rfl | simp [catK, catI, catR, catL]) (fun ls hl => ?_)
  refine lv_aload_n X.1 X.2.1 dX5_highOf_5 rfl (lv_at hl 1 rfl) ?_
  refine lv_iconst (v := oI 0) X.1 X.2.1 dX5_highOf_6 rfl ?_
  refine wr_I (rV (As := [.int (oI 0)]) (rest := []) X hT hWσ_10 hS (met_Row_get l (w := w) hV x0 0 _ σ_10 (by omega) rZ_0.i h) (cwV 1 X.2.2.2.2 (lw_V q1306 q1207 q1208 q132 q1209) rfl rfl rfl (by decide +kernel) ⟨Nat.le_of_ble_eq_true rfl, Nat.le_of_ble_eq_true rfl⟩) vl8_x0 (by decide) rfl rfl hl.1 rfl (by first | exact Nat.le_of_ble_eq_true rfl | simp [catK, catI, catR, catL]) dX5_highOf_7 ⟨Nat.le_refl _, Nat.le_refl _⟩) hS (fun r_11 σ_12 H locs rr_11 rkσ_12 h hWσ_12 hS => ?_)
  have h := h rr_11 rkσ_12
  refine lv_iload_n X.1 X.2.1 dX5_highOf_10 rfl (lv_at hl 0 rfl) ?_
  refine lv_iconst (v := oI 1) X.1 X.2.1 dX5_highOf_11 rfl ?_
  refine w_icmp_ne (tgt := 19) X rr_9 rZ_1.i dX5_highOf_12 (by decide) (fun hc => ?_) (fun hc => ?_)
  · have h := h.1 hc
    refine lv_iload_n X.1 X.2.1 dX5_highOf_19 rfl (lv_at hl 0 rfl) ?_
    refine lv_iconst (v := oI 3) X.1 X.2.1 dX5_highOf_20 rfl ?_
    refine w_icmp_ne (tgt := 28) X rr_9 ((rB_lit 3 (by decide)).i) dX5_highOf_21 (by decide) (fun hc => ?_) (fun hc => ?_)
    · have h := h.1 hc
      refine lv_iload_n X.1 X.2.1 dX5_highOf_28 rfl (lv_at hl 0 rfl) ?_
      refine lv_iconst (v := oI 2) X.1 X.2.1 dX5_highOf_29 rfl ?_
      refine w_icmp_ne (tgt := 37) X rr_9 ((rB_lit 2 (by decide)).i) dX5_highOf_30 (by decide) (fun hc => ?_) (fun hc => ?_)
      · have h := h.1 hc
        refine lv_iconst (v := oI 3) X.1 X.2.1 dX5_highOf_37 rfl ?_
        exact wk_Store_highOf_b38 X hr hlk hT hV hx0 3 r_11 σ_12 _ _ _ (rB_lit 3 (by decide)) rr_11 (lv_sub hl [] rfl) hWσ_12 hS h
      · have h := h.2 hc
        refine lv_iconst (v := oI 2) X.1 X.2.1 dX5_highOf_33 rfl ?_
        refine lv_goto (tgt := 38) X.1 X.2.1 dX5_highOf_34 (by decide) ?_
        exact wk_Store_highOf_b38 X hr hlk hT hV hx0 2 r_11 σ_12 _ _ _ (rB_lit 2 (by decide)) rr_11 (lv_sub hl [] rfl) hWσ_12 hS h
    · have h := h.2 hc
      refine lv_iconst (v := oI 1) X.1 X.2.1 dX5_highOf_24 rfl ?_
      refine lv_goto (tgt := 38) X.1 X.2.1 dX5_highOf_25 (by decide) ?_
      exact wk_Store_highOf_b38 X hr hlk hT hV hx0 1 r_11 σ_12 _ _ _ (rZ.b rZ_1) rr_11 (lv_sub hl [] rfl) hWσ_12 hS h
  · have h := h.2 hc
    refine lv_iconst (v := oI 0) X.1 X.2.1 dX5_highOf_15 rfl ?_
    refine lv_goto (tgt := 38) X.1 X.2.1 dX5_highOf_16 (by decide) ?_
    exact wk_Store_highOf_b38 X hr hlk hT hV hx0 0 r_11 σ_12 _ _ _ (rZ.b rZ_0) rr_11 (lv_sub hl [] rfl) hWσ_12 hS h
/-! Store.lowOf(LNandHouse$Row;)J -/
set_option maxHeartbeats 4000000 in
set_option maxRecDepth 100000 in
theorem met_Store_lowOf (l : Launch) {w : Wp} (hV : Hvl w) (x0 : Int) (Q : Int → St → Prop) (σ : St) (hx0 : 0 ≤ x0 ∧ x0 < 8) (h : wp_Store_lowOf (wc w) (wtv w) x0 Q σ) : Met l yX5_lowOf (ws_ yX5_lowOf cX5_lowOf 2 (some .long)) rm_Store_lowOf (PcW w σ [.ref (wad w 8 x0)]) (QcJ w Q) 0 0 (wA w) := by
  refine Met.ofW (cc := cX5_lowOf) (maxL := 2) (ret := (some .long)) (by decide) rfl ?_
  intro p e st m args below meth c s₁ B hml hv
  obtain ⟨hargs, hW, hT⟩ := hv
  have X : CallFix p m c cX5_lowOf 2 st _ lw_all RX5 := ⟨B.exec, B.bytes, hml, findClass_of_methodNamed B.named, fun w h => atoms_spec (ws := ws_ yX5_lowOf cX5_lowOf 2 (some .long)) B.pre w (List.mem_cons_of_mem _ h)⟩
  have hr := B.returns
  have hlk := B.notSynchronized
  have hS : va_S (wA w) st.heap st.heap [] := va_S.rf
  have vl8_x0 : vl w 8 x0 := hV.hv 8 rfl ⟨by omega, by show _ < (8 : Int); omega⟩
  have hl := lv_entry ([.ref (wad w 8 x0)]) (n := 2) (Nat.le_of_ble_eq_true rfl)
  have hfr := lg_entry_eq m ([.ref (wad w 8 x0)]) 2
  rw [← hargs] at hfr
  rw [hfr]
  generalize (lg_sl ([.ref (wad w 8 x0)]) ++ List.replicate (2 - (lg_sl ([.ref (wad w 8 x0)])).length) Slot.unset).toArray = ls at hl ⊢
  have hl : lv_has ls 2 [(0, .ref (wad w 8 x0))] := hl
  unfold wp_Store_lowOf at h
  refine lv_aload_n X.1 X.2.1 dX5_lowOf_0 rfl (lv_at hl 0 rfl) ?_
  refine wr_I (rV (As := []) (rest := []) X hT hW hS (met_Row_type l (w := w) hV x0 _ σ (by omega) h) (cwV 0 X.2.2.2.2 (lw_V q1302 q1303 q1304 q132 q1305) rfl rfl rfl (by decide +kernel) ⟨Nat.le_of_ble_eq_true rfl, Nat.le_of_ble_eq_true rfl⟩) vl8_x0 (by decide) rfl rfl hl.1 rfl (by first | exact Nat.le_of_ble_eq_true rfl | simp [catK, catI, catR, catL]) dX5_lowOf_1 ⟨Nat.le_refl _, Nat.le_refl _⟩) hS (fun r_15 σ_16 H locs rr_15 rkσ_16 h hWσ_16 hS => ?_)
  have h := h rr_15 rkσ_16
  refine lv_istore_n (i := 1) (lv' := [(1, .int (oI r_15)), (0, .ref (wad w 8 x0))]) X.1 X.2.1 dX5_lowOf_4 rfl hl (by decide) (by first | rfl | simp [catK, catI, catR, catL]) (fun ls hl => ?_)
  refine lv_iload_n X.1 X.2.1 dX5_lowOf_5 rfl (lv_at hl 0 rfl) ?_
  refine lv_iconst (v := oI 1) X.1 X.2.1 dX5_lowOf_6 rfl ?_
  refine w_icmp_ne (tgt := 14) X rr_15 rZ_1.i dX5_lowOf_7 (by decide) (fun hc => ?_) (fun hc => ?_)
  · have h := h.1 hc
    refine lv_iload_n X.1 X.2.1 dX5_lowOf_14 rfl (lv_at hl 0 rfl) ?_
    refine lv_iconst (v := oI 3) X.1 X.2.1 dX5_lowOf_15 rfl ?_
    refine w_icmp_ne (tgt := 32) X rr_15 ((rB_lit 3 (by decide)).i) dX5_lowOf_16 (by decide) (fun hc => ?_) (fun hc => ?_)
    · have h := h.1 hc
      refine lv_iload_n X.1 X.2.1 dX5_lowOf_32 rfl (lv_at hl 0 rfl) ?_
      refine lv_iconst (v := oI 2) X.1 X.2.1 dX5_lowOf_33 rfl ?_
      refine w_icmp_ne (tgt := 57) X rr_15 ((rB_lit 2 (by decide)).i) dX5_lowOf_34 (by decide) (fun hc => ?_) (fun hc => ?_)
      · have h := h.1 hc
        refine lv_aload_n X.1 X.2.1 dX5_lowOf_57 rfl (lv_at hl 1 rfl) ?_
        refine lv_bipush (v := oI 8) X.1 X.2.1 dX5_lowOf_58 (by decide) ?_
        refine wr_J (rV (As := [.int (oI 8)]) (rest := []) X hT hWσ_16 hS (met_Row_getLongAt l (w := w) hV x0 8 _ σ_16 (by omega) ((rB_lit 8 (by decide)).i) h) (cwV 1 X.2.2.2.2 (lw_V q1307 q1219 q1220 q132 q1221) rfl rfl rfl (by decide +kernel) ⟨Nat.le_of_ble_eq_true rfl, Nat.le_of_ble_eq_true rfl⟩) vl8_x0 (by decide) rfl rfl hl.1 rfl (by first | exact Nat.le_of_ble_eq_true rfl | simp [catK, catI, catR, catL]) dX5_lowOf_60 ⟨Nat.le_refl _, Nat.le_refl _⟩) hS (fun r_17 σ_18 H locs rr_17 rkσ_18 h hWσ_18 hS => ?_)
        have h := h rr_17 rkσ_18
        refine wr_J (rS (As := [.long (oL r_17)]) (rest := []) X hT hWσ_18 hS (met_Long_reverseBytes l (w := w) r_17 _ σ_18 rr_17 h) (va_cwS 1 X.2.2.2.2 (lw_S q1323 q1324 q148 q1325) rfl rfl rfl (by decide +kernel) ⟨Nat.le_of_ble_eq_true rfl, Nat.le_of_ble_eq_true rfl⟩) rfl hl.1 rfl (by first | exact Nat.le_of_ble_eq_true rfl | simp [catK, catI, catR, catL]) dX5_lowOf_63 ⟨Nat.le_refl _, Nat.le_refl _⟩) hS (fun r_19 σ_20 H locs rr_19 rkσ_20 h hWσ_20 hS => ?_)
        have h := h rr_19 rkσ_20
        exact wret_J X hr hlk hWσ_20 hS rr_19 h dX5_lowOf_66
      · have h := h.2 hc
        refine lv_aload_n X.1 X.2.1 dX5_lowOf_37 rfl (lv_at hl 1 rfl) ?_
        refine lv_bipush (v := oI 8) X.1 X.2.1 dX5_lowOf_38 (by decide) ?_
        refine wr_J (rV (As := [.int (oI 8)]) (rest := []) X hT hWσ_16 hS (met_Row_getLongAt l (w := w) hV x0 8 _ σ_16 (by omega) ((rB_lit 8 (by decide)).i) h) (cwV 1 X.2.2.2.2 (lw_V q1307 q1219 q1220 q132 q1221) rfl rfl rfl (by decide +kernel) ⟨Nat.le_of_ble_eq_true rfl, Nat.le_of_ble_eq_true rfl⟩) vl8_x0 (by decide) rfl rfl hl.1 rfl (by first | exact Nat.le_of_ble_eq_true rfl | simp [catK, catI, catR, catL]) dX5_lowOf_40 ⟨Nat.le_refl _, Nat.le_refl _⟩) hS (fun r_21 σ_22 H locs rr_21 rkσ_22 h hWσ_22 hS => ?_)
        have h := h rr_21 rkσ_22
        refine wr_J (rSN (As := [.long (oL r_21)]) (rest := []) X hT hWσ_22 hS (met_House_hash l (w := w) r_21 _ σ_22 rr_21 h) ⟨va_cnB 1 X.2.2.2.2 (lw_meth q1216) rfl rfl rfl (hT.2.1 _ (List.mem_of_getElem? (i := 16) rfl)) (X.2.2.2.2 _ q131) (by decide +kernel) ⟨Nat.le_of_ble_eq_true rfl, Nat.le_of_ble_eq_true rfl⟩, X.2.2.2.2 _ q1215, trivial⟩ rfl hl.1 rfl (by first | exact Nat.le_of_ble_eq_true rfl | simp [catK, catI, catR, catL]) dX5_lowOf_43 ⟨Nat.le_refl _, Nat.le_refl _⟩) hS (fun r_23 σ_24 H locs rr_23 rkσ_24 h hWσ_24 hS => ?_)
        have h := h rr_23 rkσ_24
        refine lv_aload_n X.1 X.2.1 dX5_lowOf_46 rfl (lv_at hl 1 rfl) ?_
        refine lv_bipush (v := oI 16) X.1 X.2.1 dX5_lowOf_47 (by decide) ?_
        refine wr_I (rV (As := [.int (oI 16)]) (rest := [.long (oL r_23)]) X hT hWσ_24 hS (met_Row_get l (w := w) hV x0 16 _ σ_24 (by omega) ((rB_lit 16 (by decide)).i) h) (cwV 1 X.2.2.2.2 (lw_V q1306 q1207 q1208 q132 q1209) rfl rfl rfl (by decide +kernel) ⟨Nat.le_of_ble_eq_true rfl, Nat.le_of_ble_eq_true rfl⟩) vl8_x0 (by decide) rfl rfl hl.1 rfl (by first | exact Nat.le_of_ble_eq_true rfl | simp [catK, catI, catR, catL]) dX5_lowOf_49 ⟨Nat.le_refl _, Nat.le_refl _⟩) hS (fun r_25 σ_26 H locs rr_25 rkσ_26 h hWσ_26 hS => ?_)
        have h := h rr_25 rkσ_26
        refine w_i2l X rr_25 dX5_lowOf_52 ?_
        refine w_ladd X dX5_lowOf_53 ?_
        refine lv_goto (tgt := 66) X.1 X.2.1 dX5_lowOf_54 (by decide) ?_
        exact wret_J X hr hlk hWσ_26 hS (w64_r _) h dX5_lowOf_66
    · have h := h.2 hc
      refine lv_aload_n X.1 X.2.1 dX5_lowOf_19 rfl (lv_at hl 1 rfl) ?_
      refine lv_iconst (v := oI 4) X.1 X.2.1 dX5_lowOf_20 rfl ?_
      refine wr_I (rV (As := [.int (oI 4)]) (rest := []) X hT hWσ_16 hS (met_Row_get l (w := w) hV x0 4 _ σ_16 (by omega) ((rB_lit 4 (by decide)).i) h) (cwV 1 X.2.2.2.2 (lw_V q1306 q1207 q1208 q132 q1209) rfl rfl rfl (by decide +kernel) ⟨Nat.le_of_ble_eq_true rfl, Nat.le_of_ble_eq_true rfl⟩) vl8_x0 (by decide) rfl rfl hl.1 rfl (by first | exact Nat.le_of_ble_eq_true rfl | simp [catK, catI, catR, catL]) dX5_lowOf_21 ⟨Nat.le_refl _, Nat.le_refl _⟩) hS (fun r_27 σ_28 H locs rr_27 rkσ_28 h hWσ_28 hS => ?_)
      have h := h rr_27 rkσ_28
      refine w_ldcw X (z := 65535) q1321 (by decide) dX5_lowOf_24 ?_
      refine w_iand X dX5_lowOf_27 ?_
      refine w_i2l X (iand_r _ _) dX5_lowOf_28 ?_
      refine lv_goto (tgt := 66) X.1 X.2.1 dX5_lowOf_29 (by decide) ?_
      exact wret_J X hr hlk hWσ_28 hS (rI.j (iand_r _ _)) h dX5_lowOf_66
  · have h := h.2 hc
    refine lv_lconst (v := oL 0) X.1 X.2.1 dX5_lowOf_10 (by decide) ?_
    refine lv_goto (tgt := 66) X.1 X.2.1 dX5_lowOf_11 (by decide) ?_
    exact wret_J X hr hlk hWσ_16 hS (rJ_lit 0 (by decide)) h dX5_lowOf_66
/-! Store.moveNode(I)V -/
set_option maxHeartbeats 4000000 in
set_option maxRecDepth 100000 in
theorem met_Store_moveNode (l : Launch) {w : Wp} (hV : Hvl w) (o : Int) (x1 : Int) (Q : St → Prop) (σ : St) (ho : 0 ≤ o ∧ o < 2) (rx1 : rI x1) (h : wp_Store_moveNode (wc w) (wtv w) o x1 Q σ) : Met l yX5_moveNode (ws_ yX5_moveNode cX5_moveNode 3 none) rm_Store_moveNode (PcW w σ [.ref (wad w 3 o), .int (oI x1)]) (QcV w Q) 0 0 (wA w) := by
  refine Met.ofW (cc := cX5_moveNode) (maxL := 3) (ret := none) (by decide) rfl ?_
  intro p e st m args below meth c s₁ B hml hv
  obtain ⟨hargs, hW, hT⟩ := hv
  have X : CallFix p m c cX5_moveNode 3 st _ lw_all RX5 := ⟨B.exec, B.bytes, hml, findClass_of_methodNamed B.named, fun w h => atoms_spec (ws := ws_ yX5_moveNode cX5_moveNode 3 none) B.pre w (List.mem_cons_of_mem _ h)⟩
  have hr := B.returns
  have hlk := B.notSynchronized
  have hS : va_S (wA w) st.heap st.heap [] := va_S.rf
  have vl3_o : vl w 3 o := hV.hv 3 rfl ⟨by omega, by show _ < (2 : Int); omega⟩
  have vl512_o : vl w 512 o := hV.hv 512 rfl ⟨by omega, by show _ < (8 : Int); omega⟩
  have vl6_o : vl w 6 o := hV.hv 6 rfl ⟨by omega, by show _ < (2 : Int); omega⟩
  have vl7_o_2 : vl w 7 (o + 2) := hV.hv 7 rfl ⟨by omega, by show _ < (6 : Int); omega⟩
  have vl8_o : vl w 8 o := hV.hv 8 rfl ⟨by omega, by show _ < (8 : Int); omega⟩
  have hl := lv_entry ([.ref (wad w 3 o), .int (oI x1)]) (n := 3) (Nat.le_of_ble_eq_true rfl)
  have hfr := lg_entry_eq m ([.ref (wad w 3 o), .int (oI x1)]) 3
  rw [← hargs] at hfr
  rw [hfr]
  generalize (lg_sl ([.ref (wad w 3 o), .int (oI x1)]) ++ List.replicate (3 - (lg_sl ([.ref (wad w 3 o), .int (oI x1)])).length) Slot.unset).toArray = ls at hl ⊢
  have hl : lv_has ls 3 [(0, .ref (wad w 3 o)), (1, .int (oI x1))] := hl
  unfold wp_Store_moveNode at h
  refine lv_aload_n X.1 X.2.1 dX5_moveNode_0 rfl (lv_at hl 0 rfl) ?_
  refine lv_aload_n X.1 X.2.1 dX5_moveNode_1 rfl (lv_at hl 0 rfl) ?_
  refine wg (v := .ref (wad w 7 (o + 2))) X hT hW 3 4 196 vl3_o rfl rfl (by decide) rfl (by decide) in_X5 q529 rfl dX5_moveNode_2 ?_
  refine lv_iload_n X.1 X.2.1 dX5_moveNode_5 rfl (lv_at hl 1 rfl) ?_
  refine wr_V (rV (As := [.ref (wad w 7 (o + 2)), .int (oI x1)]) (rest := []) X hT hW hS (met_Store_room l (w := w) hV o (o + 2) x1 _ σ (by omega) (by omega) rx1 h) (cwV 2 X.2.2.2.2 (lw_V q983 q985 qs22 q136 q986) rfl rfl rfl (by decide +kernel) ⟨Nat.le_of_ble_eq_true rfl, Nat.le_of_ble_eq_true rfl⟩) vl3_o (by decide) rfl rfl hl.1 rfl (by first | exact Nat.le_of_ble_eq_true rfl | simp [catK, catI, catR, catL]) dX5_moveNode_6 ⟨Nat.le_refl _, Nat.le_refl _⟩) hS (fun σ_12 H locs rkσ_12 h hWσ_12 hS => ?_)
  have h := h rkσ_12
  refine lv_aload_n X.1 X.2.1 dX5_moveNode_9 rfl (lv_at hl 0 rfl) ?_
  refine wg (v := .ref (wad w 7 (o + 2))) X hT hWσ_12 3 4 196 vl3_o rfl rfl (by decide) rfl (by decide) in_X5 q529 rfl dX5_moveNode_10 ?_
  refine lv_aload_n X.1 X.2.1 dX5_moveNode_13 rfl (lv_at hl 0 rfl) ?_
  refine wg (v := .ref (wad w 8 o)) X hT hWσ_12 3 6 198 vl3_o rfl rfl (by decide) rfl (by decide) in_X5 q531 rfl dX5_moveNode_14 ?_
  refine wg (v := .ref (wad w 512 o)) X hT hWσ_12 8 0 512 vl8_o rfl rfl (by decide) rfl (by decide) in_X2 q166 rfl dX5_moveNode_17 ?_
  refine lv_iconst (v := oI 0) X.1 X.2.1 dX5_moveNode_20 rfl ?_
  refine lv_iload_n X.1 X.2.1 dX5_moveNode_21 rfl (lv_at hl 1 rfl) ?_
  refine wr_I (rV (As := [.ref (wad w 512 o), .int (oI 0), .int (oI x1)]) (rest := []) X hT hWσ_12 hS (met_Writer_put l (w := w) hV (o + 2) 512 o 0 x1 _ σ_12 (by omega) vl512_o (by decide) rfl rZ_0.i rx1 h) (cwV 3 X.2.2.2.2 (lw_V q856 q857 q858 q141 q859) rfl rfl rfl (by decide +kernel) ⟨Nat.le_of_ble_eq_true rfl, Nat.le_of_ble_eq_true rfl⟩) vl7_o_2 (by decide) rfl rfl hl.1 rfl (by first | exact Nat.le_of_ble_eq_true rfl | simp [catK, catI, catR, catL]) dX5_moveNode_22 ⟨Nat.le_refl _, Nat.le_refl _⟩) hS (fun r_13 σ_14 H locs rr_13 rkσ_14 h hWσ_14 hS => ?_)
  have h := h rr_13 rkσ_14
  refine lv_istore_n (i := 2) (lv' := [(2, .int (oI r_13)), (0, .ref (wad w 3 o)), (1, .int (oI x1))]) X.1 X.2.1 dX5_moveNode_25 rfl hl (by decide) (by first | rfl | simp [catK, catI, catR, catL]) (fun ls hl => ?_)
  refine lv_aload_n X.1 X.2.1 dX5_moveNode_26 rfl (lv_at hl 1 rfl) ?_
  refine wg (v := .ref (wad w 6 o)) X hT hWσ_14 3 2 194 vl3_o rfl rfl (by decide) rfl (by decide) in_X5 q526 rfl dX5_moveNode_27 ?_
  refine lv_aload_n X.1 X.2.1 dX5_moveNode_30 rfl (lv_at hl 1 rfl) ?_
  refine wg (v := .ref (wad w 8 o)) X hT hWσ_14 3 6 198 vl3_o rfl rfl (by decide) rfl (by decide) in_X5 q531 rfl dX5_moveNode_31 ?_
  refine wr_J (rS (As := [.ref (wad w 8 o)]) (rest := [.ref (wad w 6 o)]) X hT hWσ_14 hS (met_Store_highOf l (w := w) hV o _ σ_14 (by omega) h) (va_cwS 1 X.2.2.2.2 (lw_S q1315 q1316 q136 q1317) rfl rfl rfl (by decide +kernel) ⟨Nat.le_of_ble_eq_true rfl, Nat.le_of_ble_eq_true rfl⟩) rfl hl.1 rfl (by first | exact Nat.le_of_ble_eq_true rfl | simp [catK, catI, catR, catL]) dX5_moveNode_34 ⟨Nat.le_refl _, Nat.le_refl _⟩) hS (fun r_15 σ_16 H locs rr_15 rkσ_16 h hWσ_16 hS => ?_)
  have h := h rr_15 rkσ_16
  refine lv_aload_n X.1 X.2.1 dX5_moveNode_37 rfl (lv_at hl 1 rfl) ?_
  refine wg (v := .ref (wad w 8 o)) X hT hWσ_16 3 6 198 vl3_o rfl rfl (by decide) rfl (by decide) in_X5 q531 rfl dX5_moveNode_38 ?_
  refine wr_J (rS (As := [.ref (wad w 8 o)]) (rest := [.long (oL r_15), .ref (wad w 6 o)]) X hT hWσ_16 hS (met_Store_lowOf l (w := w) hV o _ σ_16 (by omega) h) (va_cwS 1 X.2.2.2.2 (lw_S q1318 q1319 q136 q1320) rfl rfl rfl (by decide +kernel) ⟨Nat.le_of_ble_eq_true rfl, Nat.le_of_ble_eq_true rfl⟩) rfl hl.1 rfl (by first | exact Nat.le_of_ble_eq_true rfl | simp [catK, catI, catR, catL]) dX5_moveNode_41 ⟨Nat.le_refl _, Nat.le_refl _⟩) hS (fun r_17 σ_18 H locs rr_17 rkσ_18 h hWσ_18 hS => ?_)
  have h := h rr_17 rkσ_18
  refine lv_aload_n X.1 X.2.1 dX5_moveNode_44 rfl (lv_at hl 1 rfl) ?_
  refine wg (v := .ref (wad w 7 (o + 2))) X hT hWσ_18 3 4 196 vl3_o rfl rfl (by decide) rfl (by decide) in_X5 q529 rfl dX5_moveNode_45 ?_
  refine wg (v := .int (oI (gI σ_18 451 (o + 2)))) X hT hWσ_18 7 3 451 vl7_o_2 rfl rfl (by decide) rfl (by decide) in_X10 q509 rfl dX5_moveNode_48 ?_
  refine lv_iload_n X.1 X.2.1 dX5_moveNode_51 rfl (lv_at hl 0 rfl) ?_
  refine lv_iload_n X.1 X.2.1 dX5_moveNode_52 rfl (lv_at hl 2 rfl) ?_
  refine wr_V (rV (As := [.long (oL r_15), .long (oL r_17), .int (oI (gI σ_18 451 (o + 2))), .int (oI r_13), .int (oI x1)]) (rest := []) X hT hWσ_18 hS (met_Index_put l (w := w) hV o r_15 r_17 (gI σ_18 451 (o + 2)) r_13 x1 _ σ_18 (by omega) rr_15 rr_17 (hWσ_18.r.i 451 (o + 2) rfl) rr_13 rx1 h) (cwV 5 X.2.2.2.2 (lw_V q897 q898 q899 q139 q900) rfl rfl rfl (by decide +kernel) ⟨Nat.le_of_ble_eq_true rfl, Nat.le_of_ble_eq_true rfl⟩) vl6_o (by decide) rfl rfl hl.1 rfl (by first | exact Nat.le_of_ble_eq_true rfl | simp [catK, catI, catR, catL]) dX5_moveNode_53 ⟨Nat.le_refl _, Nat.le_refl _⟩) hS (fun σ_20 H locs rkσ_20 h hWσ_20 hS => ?_)
  have h := h rkσ_20
  exact wret_V X hr hlk hWσ_20 hS h dX5_moveNode_56
/-! Store.collectStep()V -/
set_option maxHeartbeats 4000000 in
set_option maxRecDepth 100000 in
theorem wk_Store_collectStep_b169 {p : Program} {l : Launch} {e : Env} {st : State} {m : MethodId} {args : Array Value} {below : List Frame} {meth : Method} {c : Code} {w : Wp} {o : Int} {Q : St → Prop} (X : CallFix p m c cX5_collectStep 2 st args lw_all RX5) (hr : meth.sig.returnType = none) (hlk : meth.locks = false) (hT : Tb w st) (hV : Hvl w) (ho : 0 ≤ o ∧ o < 2) : ∀ (y1 : Int) (σ : St) (H : Heap) (locs : List Loc) (ls : Array Slot), rI y1 → lv_has ls 2 [(0, .ref (wad w 3 o)), (1, .int (oI y1))] → Wo w σ H → va_S (wA w) st.heap H locs → wp_Store_collectStep_b169 (wc w) (wtv w) o Q y1 σ → W p l e (headSpec (ws_ yX5_collectStep cX5_collectStep 2 none) rm_Store_collectStep).room st m args below meth c H locs 0 0 (MQ below (QcV w Q) args st 0 0 (wA w)) (F0 m 169 ls []) := by
  have vl3_o : vl w 3 o := hV.hv 3 rfl ⟨by omega, by show _ < (2 : Int); omega⟩
  intro y1 σ H locs ls ry1 hl hW hS h
  unfold wp_Store_collectStep_b169 at h
  refine lv_aload_n X.1 X.2.1 dX5_collectStep_169 rfl (lv_at hl 0 rfl) ?_
  refine lv_dup X.1 X.2.1 dX5_collectStep_170 rfl ?_
  refine wg (v := .int (oI (gI σ 224 o))) X hT hW 3 32 224 vl3_o rfl rfl (by decide) rfl (by decide) in_X5 q564 rfl dX5_collectStep_171 ?_
  refine lv_iload_n X.1 X.2.1 dX5_collectStep_174 rfl (lv_at hl 1 rfl) ?_
  refine w_iadd X dX5_collectStep_175 ?_
  refine wput (z := w32 ((gI σ 224 o) + y1)) X hT hW hS 3 32 224 vl3_o rfl rfl (by decide) rfl (by decide) in_X5 tyX5 tyX5_ok nmX5 q564 rfl rfl (w32_r _) (fv0 w rfl) rfl rfl dX5_collectStep_176 (fun H locs hN hS => ?_)
  obtain ⟨σ_30, eσ_30⟩ : ∃ x, x = sI σ 224 o (w32 ((gI σ 224 o) + y1)) := ⟨_, rfl⟩
  have hWσ_30 : Wo w σ_30 H := eσ_30 ▸ hN
  have h := h σ_30 eσ_30
  clear hN
  exact wret_V X hr hlk hWσ_30 hS h dX5_collectStep_179
set_option maxHeartbeats 4000000 in
set_option maxRecDepth 100000 in
theorem met_Store_collectStep (l : Launch) {w : Wp} (hV : Hvl w) (o : Int) (Q : St → Prop) (σ : St) (ho : 0 ≤ o ∧ o < 2) (h : wp_Store_collectStep (wc w) (wtv w) o Q σ) : Met l yX5_collectStep (ws_ yX5_collectStep cX5_collectStep 2 none) rm_Store_collectStep (PcW w σ [.ref (wad w 3 o)]) (QcV w Q) 0 0 (wA w) := by
  refine Met.ofW (cc := cX5_collectStep) (maxL := 2) (ret := none) (by decide) rfl ?_
  intro p e st m args below meth c s₁ B hml hv
  obtain ⟨hargs, hW, hT⟩ := hv
  have X : CallFix p m c cX5_collectStep 2 st _ lw_all RX5 := ⟨B.exec, B.bytes, hml, findClass_of_methodNamed B.named, fun w h => atoms_spec (ws := ws_ yX5_collectStep cX5_collectStep 2 none) B.pre w (List.mem_cons_of_mem _ h)⟩
  have hr := B.returns
  have hlk := B.notSynchronized
  have hS : va_S (wA w) st.heap st.heap [] := va_S.rf
  have vl3_o : vl w 3 o := hV.hv 3 rfl ⟨by omega, by show _ < (2 : Int); omega⟩
  have vl6_o : vl w 6 o := hV.hv 6 rfl ⟨by omega, by show _ < (2 : Int); omega⟩
  have vl8_o : vl w 8 o := hV.hv 8 rfl ⟨by omega, by show _ < (8 : Int); omega⟩
  have hl := lv_entry ([.ref (wad w 3 o)]) (n := 2) (Nat.le_of_ble_eq_true rfl)
  have hfr := lg_entry_eq m ([.ref (wad w 3 o)]) 2
  rw [← hargs] at hfr
  rw [hfr]
  generalize (lg_sl ([.ref (wad w 3 o)]) ++ List.replicate (2 - (lg_sl ([.ref (wad w 3 o)])).length) Slot.unset).toArray = ls at hl ⊢
  have hl : lv_has ls 2 [(0, .ref (wad w 3 o))] := hl
  unfold wp_Store_collectStep at h
  refine lv_aload_n X.1 X.2.1 dX5_collectStep_0 rfl (lv_at hl 0 rfl) ?_
  refine lv_aload_n X.1 X.2.1 dX5_collectStep_1 rfl (lv_at hl 0 rfl) ?_
  refine wg (v := .int (oI (gI σ 223 o))) X hT hW 3 31 223 vl3_o rfl rfl (by decide) rfl (by decide) in_X5 q563 rfl dX5_collectStep_2 ?_
  refine lv_aload_n X.1 X.2.1 dX5_collectStep_5 rfl (lv_at hl 0 rfl) ?_
  refine wg (v := .int (oI (gI σ 224 o))) X hT hW 3 32 224 vl3_o rfl rfl (by decide) rfl (by decide) in_X5 q564 rfl dX5_collectStep_6 ?_
  refine lv_aload_n X.1 X.2.1 dX5_collectStep_9 rfl (lv_at hl 0 rfl) ?_
  refine wg (v := .ref (wad w 8 o)) X hT hW 3 6 198 vl3_o rfl rfl (by decide) rfl (by decide) in_X5 q531 rfl dX5_collectStep_10 ?_
  refine wr_I (rV (As := [.int (oI (gI σ 223 o)), .int (oI (gI σ 224 o)), .ref (wad w 8 o)]) (rest := []) X hT hW hS (met_Store_look l (w := w) hV o (gI σ 223 o) (gI σ 224 o) o _ σ (by omega) (hW.r.i 223 o rfl) (hW.r.i 224 o rfl) (by omega) h) (cwV 3 X.2.2.2.2 (lw_V q1289 q1291 qs45 q136 q1292) rfl rfl rfl (by decide +kernel) ⟨Nat.le_of_ble_eq_true rfl, Nat.le_of_ble_eq_true rfl⟩) vl3_o (by decide) rfl rfl hl.1 rfl (by first | exact Nat.le_of_ble_eq_true rfl | simp [catK, catI, catR, catL]) dX5_collectStep_13 ⟨Nat.le_refl _, Nat.le_refl _⟩) hS (fun r_31 σ_32 H locs rr_31 rkσ_32 h hWσ_32 hS => ?_)
  have h := h rr_31 rkσ_32
  refine lv_istore_n (i := 1) (lv' := [(1, .int (oI r_31)), (0, .ref (wad w 3 o))]) X.1 X.2.1 dX5_collectStep_16 rfl hl (by decide) (by first | rfl | simp [catK, catI, catR, catL]) (fun ls hl => ?_)
  refine lv_iload_n X.1 X.2.1 dX5_collectStep_17 rfl (lv_at hl 0 rfl) ?_
  refine lv_iconst (v := oI (-1)) X.1 X.2.1 dX5_collectStep_18 rfl ?_
  refine w_icmp_ne (tgt := 28) X rr_31 ((rB_lit (-1) (by decide)).i) dX5_collectStep_19 (by decide) (fun hc => ?_) (fun hc => ?_)
  · have h := h.1 hc
    refine lv_iload_n X.1 X.2.1 dX5_collectStep_28 rfl (lv_at hl 0 rfl) ?_
    refine w_if_ne (tgt := 44) X rr_31 dX5_collectStep_29 (by decide) (fun hc => ?_) (fun hc => ?_)
    · have h := h.1 hc
      refine lv_aload_n X.1 X.2.1 dX5_collectStep_44 rfl (lv_at hl 1 rfl) ?_
      refine wg (v := .ref (wad w 8 o)) X hT hWσ_32 3 6 198 vl3_o rfl rfl (by decide) rfl (by decide) in_X5 q531 rfl dX5_collectStep_45 ?_
      refine wr_I (rV (As := []) (rest := []) X hT hWσ_32 hS (met_Row_type l (w := w) hV o _ σ_32 (by omega) h) (cwV 0 X.2.2.2.2 (lw_V q1302 q1303 q1304 q132 q1305) rfl rfl rfl (by decide +kernel) ⟨Nat.le_of_ble_eq_true rfl, Nat.le_of_ble_eq_true rfl⟩) vl8_o (by decide) rfl rfl hl.1 rfl (by first | exact Nat.le_of_ble_eq_true rfl | simp [catK, catI, catR, catL]) dX5_collectStep_48 ⟨Nat.le_refl _, Nat.le_refl _⟩) hS (fun r_33 σ_34 H locs rr_33 rkσ_34 h hWσ_34 hS => ?_)
      have h := h rr_33 rkσ_34
      refine lv_iconst (v := oI 5) X.1 X.2.1 dX5_collectStep_51 rfl ?_
      refine w_icmp_ne (tgt := 99) X rr_33 ((rB_lit 5 (by decide)).i) dX5_collectStep_52 (by decide) (fun hc => ?_) (fun hc => ?_)
      · have h := h.1 hc
        refine lv_aload_n X.1 X.2.1 dX5_collectStep_99 rfl (lv_at hl 1 rfl) ?_
        refine wg (v := .ref (wad w 8 o)) X hT hWσ_34 3 6 198 vl3_o rfl rfl (by decide) rfl (by decide) in_X5 q531 rfl dX5_collectStep_100 ?_
        refine wr_I (rV (As := []) (rest := []) X hT hWσ_34 hS (met_Row_type l (w := w) hV o _ σ_34 (by omega) h) (cwV 0 X.2.2.2.2 (lw_V q1302 q1303 q1304 q132 q1305) rfl rfl rfl (by decide +kernel) ⟨Nat.le_of_ble_eq_true rfl, Nat.le_of_ble_eq_true rfl⟩) vl8_o (by decide) rfl rfl hl.1 rfl (by first | exact Nat.le_of_ble_eq_true rfl | simp [catK, catI, catR, catL]) dX5_collectStep_103 ⟨Nat.le_refl _, Nat.le_refl _⟩) hS (fun r_35 σ_36 H locs rr_35 rkσ_36 h hWσ_36 hS => ?_)
        have h := h rr_35 rkσ_36
        refine wr_Z (rS (As := [.int (oI r_35)]) (rest := []) X hT hWσ_36 hS (met_Store_isLeaf l (w := w) r_35 _ σ_36 rr_35 h) (va_cwS 1 X.2.2.2.2 (lw_S q1312 q1313 q136 q1314) rfl rfl rfl (by decide +kernel) ⟨Nat.le_of_ble_eq_true rfl, Nat.le_of_ble_eq_true rfl⟩) rfl hl.1 rfl (by first | exact Nat.le_of_ble_eq_true rfl | simp [catK, catI, catR, catL]) dX5_collectStep_106 ⟨Nat.le_refl _, Nat.le_refl _⟩) hS (fun r_37 σ_38 H locs rr_37 rkσ_38 h hWσ_38 hS => ?_)
        have h := h rr_37 rkσ_38
        refine w_if_eq (tgt := 169) X rr_37.i dX5_collectStep_109 (by decide) (fun hc => ?_) (fun hc => ?_)
        · have h := h.1 hc
          exact wk_Store_collectStep_b169 X hr hlk hT hV ho r_31 σ_38 _ _ _ rr_31 (lv_sub hl [1, 0] rfl) hWσ_38 hS h
        · have h := h.2 hc
          refine lv_aload_n X.1 X.2.1 dX5_collectStep_112 rfl (lv_at hl 1 rfl) ?_
          refine wg (v := .ref (wad w 6 o)) X hT hWσ_38 3 2 194 vl3_o rfl rfl (by decide) rfl (by decide) in_X5 q526 rfl dX5_collectStep_113 ?_
          refine lv_aload_n X.1 X.2.1 dX5_collectStep_116 rfl (lv_at hl 1 rfl) ?_
          refine wg (v := .ref (wad w 8 o)) X hT hWσ_38 3 6 198 vl3_o rfl rfl (by decide) rfl (by decide) in_X5 q531 rfl dX5_collectStep_117 ?_
          refine wr_J (rS (As := [.ref (wad w 8 o)]) (rest := [.ref (wad w 6 o)]) X hT hWσ_38 hS (met_Store_highOf l (w := w) hV o _ σ_38 (by omega) h) (va_cwS 1 X.2.2.2.2 (lw_S q1315 q1316 q136 q1317) rfl rfl rfl (by decide +kernel) ⟨Nat.le_of_ble_eq_true rfl, Nat.le_of_ble_eq_true rfl⟩) rfl hl.1 rfl (by first | exact Nat.le_of_ble_eq_true rfl | simp [catK, catI, catR, catL]) dX5_collectStep_120 ⟨Nat.le_refl _, Nat.le_refl _⟩) hS (fun r_39 σ_40 H locs rr_39 rkσ_40 h hWσ_40 hS => ?_)
          have h := h rr_39 rkσ_40
          refine lv_aload_n X.1 X.2.1 dX5_collectStep_123 rfl (lv_at hl 1 rfl) ?_
          refine wg (v := .ref (wad w 8 o)) X hT hWσ_40 3 6 198 vl3_o rfl rfl (by decide) rfl (by decide) in_X5 q531 rfl dX5_collectStep_124 ?_
          refine wr_J (rS (As := [.ref (wad w 8 o)]) (rest := [.long (oL r_39), .ref (wad w 6 o)]) X hT hWσ_40 hS (met_Store_lowOf l (w := w) hV o _ σ_40 (by omega) h) (va_cwS 1 X.2.2.2.2 (lw_S q1318 q1319 q136 q1320) rfl rfl rfl (by decide +kernel) ⟨Nat.le_of_ble_eq_true rfl, Nat.le_of_ble_eq_true rfl⟩) rfl hl.1 rfl (by first | exact Nat.le_of_ble_eq_true rfl | simp [catK, catI, catR, catL]) dX5_collectStep_127 ⟨Nat.le_refl _, Nat.le_refl _⟩) hS (fun r_41 σ_42 H locs rr_41 rkσ_42 h hWσ_42 hS => ?_)
          have h := h rr_41 rkσ_42
          refine wr_Z (rV (As := [.long (oL r_39), .long (oL r_41)]) (rest := []) X hT hWσ_42 hS (met_Index_find l (w := w) hV o r_39 r_41 _ σ_42 (by omega) rr_39 rr_41 h) (cwV 2 X.2.2.2.2 (lw_V q1328 q902 q903 q139 q904) rfl rfl rfl (by decide +kernel) ⟨Nat.le_of_ble_eq_true rfl, Nat.le_of_ble_eq_true rfl⟩) vl6_o (by decide) rfl rfl hl.1 rfl (by first | exact Nat.le_of_ble_eq_true rfl | simp [catK, catI, catR, catL]) dX5_collectStep_130 ⟨Nat.le_refl _, Nat.le_refl _⟩) hS (fun r_43 σ_44 H locs rr_43 rkσ_44 h hWσ_44 hS => ?_)
          have h := h rr_43 rkσ_44
          refine w_if_eq (tgt := 169) X rr_43.i dX5_collectStep_133 (by decide) (fun hc => ?_) (fun hc => ?_)
          · have h := h.1 hc
            exact wk_Store_collectStep_b169 X hr hlk hT hV ho r_31 σ_44 _ _ _ rr_31 (lv_sub hl [1, 0] rfl) hWσ_44 hS h
          · have h := h.2 hc
            refine lv_aload_n X.1 X.2.1 dX5_collectStep_136 rfl (lv_at hl 1 rfl) ?_
            refine wg (v := .ref (wad w 6 o)) X hT hWσ_44 3 2 194 vl3_o rfl rfl (by decide) rfl (by decide) in_X5 q526 rfl dX5_collectStep_137 ?_
            refine wg (v := .int (oI (gI σ_44 393 o))) X hT hWσ_44 6 9 393 vl6_o rfl rfl (by decide) rfl (by decide) in_X8 q461 rfl dX5_collectStep_140 ?_
            refine lv_aload_n X.1 X.2.1 dX5_collectStep_143 rfl (lv_at hl 1 rfl) ?_
            refine wg (v := .int (oI (gI σ_44 223 o))) X hT hWσ_44 3 31 223 vl3_o rfl rfl (by decide) rfl (by decide) in_X5 q563 rfl dX5_collectStep_144 ?_
            refine w_icmp_ne (tgt := 169) X (hWσ_44.r.i 393 o rfl) (hWσ_44.r.i 223 o rfl) dX5_collectStep_147 (by decide) (fun hc => ?_) (fun hc => ?_)
            · have h := h.1 hc
              exact wk_Store_collectStep_b169 X hr hlk hT hV ho r_31 σ_44 _ _ _ rr_31 (lv_sub hl [1, 0] rfl) hWσ_44 hS h
            · have h := h.2 hc
              refine lv_aload_n X.1 X.2.1 dX5_collectStep_150 rfl (lv_at hl 1 rfl) ?_
              refine wg (v := .ref (wad w 6 o)) X hT hWσ_44 3 2 194 vl3_o rfl rfl (by decide) rfl (by decide) in_X5 q526 rfl dX5_collectStep_151 ?_
              refine wg (v := .int (oI (gI σ_44 394 o))) X hT hWσ_44 6 10 394 vl6_o rfl rfl (by decide) rfl (by decide) in_X8 q464 rfl dX5_collectStep_154 ?_
              refine lv_aload_n X.1 X.2.1 dX5_collectStep_157 rfl (lv_at hl 1 rfl) ?_
              refine wg (v := .int (oI (gI σ_44 224 o))) X hT hWσ_44 3 32 224 vl3_o rfl rfl (by decide) rfl (by decide) in_X5 q564 rfl dX5_collectStep_158 ?_
              refine w_icmp_ne (tgt := 169) X (hWσ_44.r.i 394 o rfl) (hWσ_44.r.i 224 o rfl) dX5_collectStep_161 (by decide) (fun hc => ?_) (fun hc => ?_)
              · have h := h.1 hc
                exact wk_Store_collectStep_b169 X hr hlk hT hV ho r_31 σ_44 _ _ _ rr_31 (lv_sub hl [1, 0] rfl) hWσ_44 hS h
              · have h := h.2 hc
                refine lv_aload_n X.1 X.2.1 dX5_collectStep_164 rfl (lv_at hl 1 rfl) ?_
                refine lv_iload_n X.1 X.2.1 dX5_collectStep_165 rfl (lv_at hl 0 rfl) ?_
                refine wr_V (rV (As := [.int (oI r_31)]) (rest := []) X hT hWσ_44 hS (met_Store_moveNode l (w := w) hV o r_31 _ σ_44 (by omega) rr_31 h) (cwV 1 X.2.2.2.2 (lw_V q1329 q1331 qs46 q136 q1332) rfl rfl rfl (by decide +kernel) ⟨Nat.le_of_ble_eq_true rfl, Nat.le_of_ble_eq_true rfl⟩) vl3_o (by decide) rfl rfl hl.1 rfl (by first | exact Nat.le_of_ble_eq_true rfl | simp [catK, catI, catR, catL]) dX5_collectStep_166 ⟨Nat.le_refl _, Nat.le_refl _⟩) hS (fun σ_46 H locs rkσ_46 h hWσ_46 hS => ?_)
                have h := h rkσ_46
                exact wk_Store_collectStep_b169 X hr hlk hT hV ho r_31 σ_46 _ _ _ rr_31 (lv_sub hl [1, 0] rfl) hWσ_46 hS h
      · have h := h.2 hc
        refine lv_aload_n X.1 X.2.1 dX5_collectStep_55 rfl (lv_at hl 1 rfl) ?_
        refine wg (v := .ref (wad w 6 o)) X hT hWσ_34 3 2 194 vl3_o rfl rfl (by decide) rfl (by decide) in_X5 q526 rfl dX5_collectStep_56 ?_
        refine lv_aload_n X.1 X.2.1 dX5_collectStep_59 rfl (lv_at hl 1 rfl) ?_
        refine wg (v := .ref (wad w 8 o)) X hT hWσ_34 3 6 198 vl3_o rfl rfl (by decide) rfl (by decide) in_X5 q531 rfl dX5_collectStep_60 ?_
        refine lv_iconst (v := oI 0) X.1 X.2.1 dX5_collectStep_63 rfl ?_
        refine wr_I (rV (As := [.int (oI 0)]) (rest := [.ref (wad w 6 o)]) X hT hWσ_34 hS (met_Row_get l (w := w) hV o 0 _ σ_34 (by omega) rZ_0.i h) (cwV 1 X.2.2.2.2 (lw_V q1306 q1207 q1208 q132 q1209) rfl rfl rfl (by decide +kernel) ⟨Nat.le_of_ble_eq_true rfl, Nat.le_of_ble_eq_true rfl⟩) vl8_o (by decide) rfl rfl hl.1 rfl (by first | exact Nat.le_of_ble_eq_true rfl | simp [catK, catI, catR, catL]) dX5_collectStep_64 ⟨Nat.le_refl _, Nat.le_refl _⟩) hS (fun r_47 σ_48 H locs rr_47 rkσ_48 h hWσ_48 hS => ?_)
        have h := h rr_47 rkσ_48
        refine lv_aload_n X.1 X.2.1 dX5_collectStep_67 rfl (lv_at hl 1 rfl) ?_
        refine wg (v := .ref (wad w 8 o)) X hT hWσ_48 3 6 198 vl3_o rfl rfl (by decide) rfl (by decide) in_X5 q531 rfl dX5_collectStep_68 ?_
        refine lv_bipush (v := oI 8) X.1 X.2.1 dX5_collectStep_71 (by decide) ?_
        refine wr_J (rV (As := [.int (oI 8)]) (rest := [.int (oI r_47), .ref (wad w 6 o)]) X hT hWσ_48 hS (met_Row_getLongAt l (w := w) hV o 8 _ σ_48 (by omega) ((rB_lit 8 (by decide)).i) h) (cwV 1 X.2.2.2.2 (lw_V q1307 q1219 q1220 q132 q1221) rfl rfl rfl (by decide +kernel) ⟨Nat.le_of_ble_eq_true rfl, Nat.le_of_ble_eq_true rfl⟩) vl8_o (by decide) rfl rfl hl.1 rfl (by first | exact Nat.le_of_ble_eq_true rfl | simp [catK, catI, catR, catL]) dX5_collectStep_73 ⟨Nat.le_refl _, Nat.le_refl _⟩) hS (fun r_49 σ_50 H locs rr_49 rkσ_50 h hWσ_50 hS => ?_)
        have h := h rr_49 rkσ_50
        refine lv_aload_n X.1 X.2.1 dX5_collectStep_76 rfl (lv_at hl 1 rfl) ?_
        refine wg (v := .ref (wad w 8 o)) X hT hWσ_50 3 6 198 vl3_o rfl rfl (by decide) rfl (by decide) in_X5 q531 rfl dX5_collectStep_77 ?_
        refine lv_bipush (v := oI 16) X.1 X.2.1 dX5_collectStep_80 (by decide) ?_
        refine wr_J (rV (As := [.int (oI 16)]) (rest := [.long (oL r_49), .int (oI r_47), .ref (wad w 6 o)]) X hT hWσ_50 hS (met_Row_getLongAt l (w := w) hV o 16 _ σ_50 (by omega) ((rB_lit 16 (by decide)).i) h) (cwV 1 X.2.2.2.2 (lw_V q1307 q1219 q1220 q132 q1221) rfl rfl rfl (by decide +kernel) ⟨Nat.le_of_ble_eq_true rfl, Nat.le_of_ble_eq_true rfl⟩) vl8_o (by decide) rfl rfl hl.1 rfl (by first | exact Nat.le_of_ble_eq_true rfl | simp [catK, catI, catR, catL]) dX5_collectStep_82 ⟨Nat.le_refl _, Nat.le_refl _⟩) hS (fun r_51 σ_52 H locs rr_51 rkσ_52 h hWσ_52 hS => ?_)
        have h := h rr_51 rkσ_52
        refine lv_aload_n X.1 X.2.1 dX5_collectStep_85 rfl (lv_at hl 1 rfl) ?_
        refine wg (v := .int (oI (gI σ_52 223 o))) X hT hWσ_52 3 31 223 vl3_o rfl rfl (by decide) rfl (by decide) in_X5 q563 rfl dX5_collectStep_86 ?_
        refine lv_aload_n X.1 X.2.1 dX5_collectStep_89 rfl (lv_at hl 1 rfl) ?_
        refine wg (v := .int (oI (gI σ_52 224 o))) X hT hWσ_52 3 32 224 vl3_o rfl rfl (by decide) rfl (by decide) in_X5 q564 rfl dX5_collectStep_90 ?_
        refine wr_V (rV (As := [.int (oI r_47), .long (oL r_49), .long (oL r_51), .int (oI (gI σ_52 223 o)), .int (oI (gI σ_52 224 o))]) (rest := []) X hT hWσ_52 hS (met_Index_stir l (w := w) hV o r_47 r_49 r_51 (gI σ_52 223 o) (gI σ_52 224 o) _ σ_52 (by omega) rr_47 rr_49 rr_51 (hWσ_52.r.i 223 o rfl) (hWσ_52.r.i 224 o rfl) h) (cwV 5 X.2.2.2.2 (lw_V q1308 q1309 q1310 q139 q1311) rfl rfl rfl (by decide +kernel) ⟨Nat.le_of_ble_eq_true rfl, Nat.le_of_ble_eq_true rfl⟩) vl6_o (by decide) rfl rfl hl.1 rfl (by first | exact Nat.le_of_ble_eq_true rfl | simp [catK, catI, catR, catL]) dX5_collectStep_93 ⟨Nat.le_refl _, Nat.le_refl _⟩) hS (fun σ_54 H locs rkσ_54 h hWσ_54 hS => ?_)
        have h := h rkσ_54
        refine lv_goto (tgt := 169) X.1 X.2.1 dX5_collectStep_96 (by decide) ?_
        exact wk_Store_collectStep_b169 X hr hlk hT hV ho r_31 σ_54 _ _ _ rr_31 (lv_sub hl [1, 0] rfl) hWσ_54 hS h
    · have h := h.2 hc
      refine lv_aload_n X.1 X.2.1 dX5_collectStep_32 rfl (lv_at hl 1 rfl) ?_
      refine lv_aload_n X.1 X.2.1 dX5_collectStep_33 rfl (lv_at hl 1 rfl) ?_
      refine wg (v := .int (oI (gI σ_32 224 o))) X hT hWσ_32 3 32 224 vl3_o rfl rfl (by decide) rfl (by decide) in_X5 q564 rfl dX5_collectStep_34 ?_
      refine wr_I (rS (As := [.int (oI (gI σ_32 224 o))]) (rest := [.ref (wad w 3 o)]) X hT hWσ_32 hS (met_Store_behindPage l (w := w) (gI σ_32 224 o) _ σ_32 (hWσ_32.r.i 224 o rfl) h) (va_cwS 1 X.2.2.2.2 (lw_S q1299 q1300 q136 q1301) rfl rfl rfl (by decide +kernel) ⟨Nat.le_of_ble_eq_true rfl, Nat.le_of_ble_eq_true rfl⟩) rfl hl.1 rfl (by first | exact Nat.le_of_ble_eq_true rfl | simp [catK, catI, catR, catL]) dX5_collectStep_37 ⟨Nat.le_refl _, Nat.le_refl _⟩) hS (fun r_55 σ_56 H locs rr_55 rkσ_56 h hWσ_56 hS => ?_)
      have h := h rr_55 rkσ_56
      refine wput (z := r_55) X hT hWσ_56 hS 3 32 224 vl3_o rfl rfl (by decide) rfl (by decide) in_X5 tyX5 tyX5_ok nmX5 q564 rfl rfl rr_55 (fv0 w rfl) rfl rfl dX5_collectStep_40 (fun H locs hN hS => ?_)
      obtain ⟨σ_57, eσ_57⟩ : ∃ x, x = sI σ_56 224 o r_55 := ⟨_, rfl⟩
      have hWσ_57 : Wo w σ_57 H := eσ_57 ▸ hN
      have h := h σ_57 eσ_57
      clear hN
      exact wret_V X hr hlk hWσ_57 hS h dX5_collectStep_43
  · have h := h.2 hc
    refine lv_aload_n X.1 X.2.1 dX5_collectStep_22 rfl (lv_at hl 1 rfl) ?_
    refine lv_iconst (v := oI 1) X.1 X.2.1 dX5_collectStep_23 rfl ?_
    refine wput (z := 1) X hT hWσ_32 hS 3 33 225 vl3_o rfl rfl (by decide) rfl (by decide) in_X5 tyX5 tyX5_ok nmX5 q565 rfl rfl rZ_1 (fv3 w rfl) (nrZ rZ_1) (ftZ rZ_1) dX5_collectStep_24 (fun H locs hN hS => ?_)
    obtain ⟨σ_58, eσ_58⟩ : ∃ x, x = sI σ_32 225 o 1 := ⟨_, rfl⟩
    have hWσ_58 : Wo w σ_58 H := eσ_58 ▸ hN
    have h := h σ_58 eσ_58
    clear hN
    exact wret_V X hr hlk hWσ_58 hS h dX5_collectStep_27
/-! Store.commitWhole()V -/
set_option maxHeartbeats 4000000 in
set_option maxRecDepth 100000 in
theorem met_Store_commitWhole (l : Launch) {w : Wp} (hV : Hvl w) (o : Int) (Q : St → Prop) (σ : St) (ho : 0 ≤ o ∧ o < 2) (h : wp_Store_commitWhole (wc w) (wtv w) o Q σ) : Met l yX5_commitWhole (ws_ yX5_commitWhole cX5_commitWhole 1 none) rm_Store_commitWhole (PcW w σ [.ref (wad w 3 o)]) (QcV w Q) 0 0 (wA w) := by
  refine Met.ofW (cc := cX5_commitWhole) (maxL := 1) (ret := none) (by decide) rfl ?_
  intro p e st m args below meth c s₁ B hml hv
  obtain ⟨hargs, hW, hT⟩ := hv
  have X : CallFix p m c cX5_commitWhole 1 st _ lw_all RX5 := ⟨B.exec, B.bytes, hml, findClass_of_methodNamed B.named, fun w h => atoms_spec (ws := ws_ yX5_commitWhole cX5_commitWhole 1 none) B.pre w (List.mem_cons_of_mem _ h)⟩
  have hr := B.returns
  have hlk := B.notSynchronized
  have hS : va_S (wA w) st.heap st.heap [] := va_S.rf
  have vl3_o : vl w 3 o := hV.hv 3 rfl ⟨by omega, by show _ < (2 : Int); omega⟩
  have vl6_o : vl w 6 o := hV.hv 6 rfl ⟨by omega, by show _ < (2 : Int); omega⟩
  have hl := lv_entry ([.ref (wad w 3 o)]) (n := 1) (Nat.le_of_ble_eq_true rfl)
  have hfr := lg_entry_eq m ([.ref (wad w 3 o)]) 1
  rw [← hargs] at hfr
  rw [hfr]
  generalize (lg_sl ([.ref (wad w 3 o)]) ++ List.replicate (1 - (lg_sl ([.ref (wad w 3 o)])).length) Slot.unset).toArray = ls at hl ⊢
  have hl : lv_has ls 1 [(0, .ref (wad w 3 o))] := hl
  unfold wp_Store_commitWhole at h
  refine lv_aload_n X.1 X.2.1 dX5_commitWhole_0 rfl (lv_at hl 0 rfl) ?_
  refine wr_V (rV (As := []) (rest := []) X hT hW hS (met_Store_finish l (w := w) hV o _ σ (by omega) h) (cwV 0 X.2.2.2.2 (lw_V q963 q964 q965 q136 q966) rfl rfl rfl (by decide +kernel) ⟨Nat.le_of_ble_eq_true rfl, Nat.le_of_ble_eq_true rfl⟩) vl3_o (by decide) rfl rfl hl.1 rfl (by first | exact Nat.le_of_ble_eq_true rfl | simp [catK, catI, catR, catL]) dX5_commitWhole_1 ⟨Nat.le_refl _, Nat.le_refl _⟩) hS (fun σ_10 H locs rkσ_10 h hWσ_10 hS => ?_)
  have h := h rkσ_10
  refine lv_aload_n X.1 X.2.1 dX5_commitWhole_4 rfl (lv_at hl 0 rfl) ?_
  refine wg (v := .ref (wad w 6 o)) X hT hWσ_10 3 2 194 vl3_o rfl rfl (by decide) rfl (by decide) in_X5 q526 rfl dX5_commitWhole_5 ?_
  refine lv_aload_n X.1 X.2.1 dX5_commitWhole_8 rfl (lv_at hl 0 rfl) ?_
  refine wg (v := .ref (wad w 6 o)) X hT hWσ_10 3 2 194 vl3_o rfl rfl (by decide) rfl (by decide) in_X5 q526 rfl dX5_commitWhole_9 ?_
  refine wg (v := va_rf (knO w (gI σ_10 387 o))) X hT hWσ_10 6 3 387 vl6_o rfl rfl (by decide) rfl (by decide) in_X8 q446 rfl dX5_commitWhole_12 ?_
  refine wr_V (rV (As := [va_rf (knO w (gI σ_10 387 o))]) (rest := []) X hT hWσ_10 hS (met_Index_stirAll l hV 12 o (gI σ_10 387 o) _ σ_10 (by omega) (hWσ_10.r.k 387 o rfl) h) (cwV 1 X.2.2.2.2 (lw_V q1047 q1048 q1049 q139 q1050) rfl rfl rfl (by decide +kernel) ⟨Nat.le_of_ble_eq_true rfl, Nat.le_of_ble_eq_true rfl⟩) vl6_o (by decide) rfl rfl hl.1 rfl (by first | exact Nat.le_of_ble_eq_true rfl | simp [catK, catI, catR, catL]) dX5_commitWhole_15 ⟨Nat.le_refl _, Nat.le_refl _⟩) hS (fun σ_12 H locs rkσ_12 h hWσ_12 hS => ?_)
  have h := h rkσ_12
  refine lv_aload_n X.1 X.2.1 dX5_commitWhole_18 rfl (lv_at hl 0 rfl) ?_
  refine wr_V (rV (As := []) (rest := []) X hT hWσ_12 hS (met_Store_beginCommit l (w := w) hV o _ σ_12 (by omega) h) (cwV 0 X.2.2.2.2 (lw_V q1033 q1035 qs26 q136 q1036) rfl rfl rfl (by decide +kernel) ⟨Nat.le_of_ble_eq_true rfl, Nat.le_of_ble_eq_true rfl⟩) vl3_o (by decide) rfl rfl hl.1 rfl (by first | exact Nat.le_of_ble_eq_true rfl | simp [catK, catI, catR, catL]) dX5_commitWhole_19 ⟨Nat.le_refl _, Nat.le_refl _⟩) hS (fun σ_14 H locs rkσ_14 h hWσ_14 hS => ?_)
  have h := h rkσ_14
  refine lv_aload_n X.1 X.2.1 dX5_commitWhole_22 rfl (lv_at hl 0 rfl) ?_
  refine wr_V (rV (As := []) (rest := []) X hT hWσ_14 hS (met_Store_finish l (w := w) hV o _ σ_14 (by omega) h) (cwV 0 X.2.2.2.2 (lw_V q963 q964 q965 q136 q966) rfl rfl rfl (by decide +kernel) ⟨Nat.le_of_ble_eq_true rfl, Nat.le_of_ble_eq_true rfl⟩) vl3_o (by decide) rfl rfl hl.1 rfl (by first | exact Nat.le_of_ble_eq_true rfl | simp [catK, catI, catR, catL]) dX5_commitWhole_23 ⟨Nat.le_refl _, Nat.le_refl _⟩) hS (fun σ_16 H locs rkσ_16 h hWσ_16 hS => ?_)
  have h := h rkσ_16
  exact wret_V X hr hlk hWσ_16 hS h dX5_commitWhole_26
/-! Store.makeRoom()V -/
set_option maxHeartbeats 4000000 in
set_option maxRecDepth 100000 in
theorem wk_Store_makeRoom_b69 {p : Program} {l : Launch} {e : Env} {st : State} {m : MethodId} {args : Array Value} {below : List Frame} {meth : Method} {c : Code} {w : Wp} {o : Int} {Q : St → Prop} (X : CallFix p m c cX5_makeRoom 3 st args lw_all RX5) (hr : meth.sig.returnType = none) (hlk : meth.locks = false) (hT : Tb w st) (hV : Hvl w) (ho : 0 ≤ o ∧ o < 2) (K4 : Int → Int → St → Prop) (hK4 : ∀ (y1 y2 : Int) (σ : St) (H : Heap) (locs : List Loc) (ls : Array Slot), rZ y1 → rI y2 → lv_has ls 3 [(0, .ref (wad w 3 o)), (1, .int (oI y1)), (2, .int (oI y2))] → Wo w σ H → va_S (wA w) st.heap H locs → K4 y1 y2 σ → W p l e (headSpec (ws_ yX5_makeRoom cX5_makeRoom 3 none) rm_Store_makeRoom).room st m args below meth c H locs 0 0 (MQ below (QcV w Q) args st 0 0 (wA w)) (F0 m 4 ls [])) : ∀ (y1 y2 : Int) (σ : St) (H : Heap) (locs : List Loc) (ls : Array Slot), rZ y1 → rI y2 → lv_has ls 3 [(0, .ref (wad w 3 o)), (1, .int (oI y1)), (2, .int (oI y2))] → Wo w σ H → va_S (wA w) st.heap H locs → wp_Store_makeRoom_b69 (wc w) (wtv w) o Q K4 y1 y2 σ → W p l e (headSpec (ws_ yX5_makeRoom cX5_makeRoom 3 none) rm_Store_makeRoom).room st m args below meth c H locs 0 0 (MQ below (QcV w Q) args st 0 0 (wA w)) (F0 m 69 ls []) := by
  have vl3_o : vl w 3 o := hV.hv 3 rfl ⟨by omega, by show _ < (2 : Int); omega⟩
  intro y1 y2 σ H locs ls ry1 ry2 hl hW hS h
  unfold wp_Store_makeRoom_b69 at h
  refine lv_aload_n X.1 X.2.1 dX5_makeRoom_69 rfl (lv_at hl 0 rfl) ?_
  refine wr_V (rV (As := []) (rest := []) X hT hW hS (met_Store_commitWhole l (w := w) hV o _ σ (by omega) h) (cwV 0 X.2.2.2.2 (lw_V q1333 q1335 qs47 q136 q1336) rfl rfl rfl (by decide +kernel) ⟨Nat.le_of_ble_eq_true rfl, Nat.le_of_ble_eq_true rfl⟩) vl3_o (by decide) rfl rfl hl.1 rfl (by first | exact Nat.le_of_ble_eq_true rfl | simp [catK, catI, catR, catL]) dX5_makeRoom_70 ⟨Nat.le_refl _, Nat.le_refl _⟩) hS (fun σ_29 H locs rkσ_29 h hWσ_29 hS => ?_)
  have h := h rkσ_29
  obtain ⟨y2_30, ey2_30⟩ : ∃ y : Int, y = w32 (y2 + 1) := ⟨_, rfl⟩
  have h := h y2_30 ey2_30
  have ry2_30 : rI y2_30 := by rw [ey2_30]; exact w32_r _
  refine lv_iinc (v := oI y2_30) (lv' := [(2, .int (oI y2_30)), (0, .ref (wad w 3 o)), (1, .int (oI y1))]) X.1 X.2.1 dX5_makeRoom_73 hl (k := 2) rfl (by rw [ey2_30]; exact oI_add _ _) (by decide) (by first | rfl | simp [catK, catI, catR, catL]) (fun ls hl => ?_)
  refine lv_goto (tgt := 4) X.1 X.2.1 dX5_makeRoom_76 (by decide) ?_
  exact hK4 y1 y2_30 σ_29 _ _ _ ry1 ry2_30 (lv_sub hl [1, 2, 0] rfl) hWσ_29 hS h
set_option maxHeartbeats 4000000 in
set_option maxRecDepth 100000 in
theorem wk_Store_makeRoom_L47B {p : Program} {l : Launch} {e : Env} {st : State} {m : MethodId} {args : Array Value} {below : List Frame} {meth : Method} {c : Code} {w : Wp} {o : Int} {Q : St → Prop} (X : CallFix p m c cX5_makeRoom 3 st args lw_all RX5) (hr : meth.sig.returnType = none) (hlk : meth.locks = false) (hT : Tb w st) (hV : Hvl w) (ho : 0 ≤ o ∧ o < 2) (K4 : Int → Int → St → Prop) (K47 : Int → Int → St → Prop) (hK4 : ∀ (y1 y2 : Int) (σ : St) (H : Heap) (locs : List Loc) (ls : Array Slot), rZ y1 → rI y2 → lv_has ls 3 [(0, .ref (wad w 3 o)), (1, .int (oI y1)), (2, .int (oI y2))] → Wo w σ H → va_S (wA w) st.heap H locs → K4 y1 y2 σ → W p l e (headSpec (ws_ yX5_makeRoom cX5_makeRoom 3 none) rm_Store_makeRoom).room st m args below meth c H locs 0 0 (MQ below (QcV w Q) args st 0 0 (wA w)) (F0 m 4 ls [])) (hK47 : ∀ (y1 y2 : Int) (σ : St) (H : Heap) (locs : List Loc) (ls : Array Slot), rZ y1 → rI y2 → lv_has ls 3 [(0, .ref (wad w 3 o)), (1, .int (oI y1)), (2, .int (oI y2))] → Wo w σ H → va_S (wA w) st.heap H locs → K47 y1 y2 σ → W p l e (headSpec (ws_ yX5_makeRoom cX5_makeRoom 3 none) rm_Store_makeRoom).room st m args below meth c H locs 0 0 (MQ below (QcV w Q) args st 0 0 (wA w)) (F0 m 47 ls [])) : ∀ (y1 y2 : Int) (σ : St) (H : Heap) (locs : List Loc) (ls : Array Slot), rZ y1 → rI y2 → lv_has ls 3 [(0, .ref (wad w 3 o)), (1, .int (oI y1)), (2, .int (oI y2))] → Wo w σ H → va_S (wA w) st.heap H locs → wp_Store_makeRoom_L47 (wc w) (wtv w) o Q K4 K47 y1 y2 σ → W p l e (headSpec (ws_ yX5_makeRoom cX5_makeRoom 3 none) rm_Store_makeRoom).room st m args below meth c H locs 0 0 (MQ below (QcV w Q) args st 0 0 (wA w)) (F0 m 47 ls []) := by
  have vl3_o : vl w 3 o := hV.hv 3 rfl ⟨by omega, by show _ < (2 : Int); omega⟩
  intro y1 y2 σ H locs ls ry1 ry2 hl hW hS h
  unfold wp_Store_makeRoom_L47 at h
  refine lv_aload_n X.1 X.2.1 dX5_makeRoom_47 rfl (lv_at hl 0 rfl) ?_
  refine wg (v := .int (oI (gI σ 223 o))) X hT hW 3 31 223 vl3_o rfl rfl (by decide) rfl (by decide) in_X5 q563 rfl dX5_makeRoom_48 ?_
  refine lv_iconst (v := oI (-1)) X.1 X.2.1 dX5_makeRoom_51 rfl ?_
  refine w_icmp_eq (tgt := 69) X (hW.r.i 223 o rfl) ((rB_lit (-1) (by decide)).i) dX5_makeRoom_52 (by decide) (fun hc => ?_) (fun hc => ?_)
  · have h := h.1 hc
    exact wk_Store_makeRoom_b69 X hr hlk hT hV ho K4 hK4 y1 y2 σ _ _ _ ry1 ry2 (lv_sub hl [0, 1, 2] rfl) hW hS h
  · have h := h.2 hc
    refine lv_aload_n X.1 X.2.1 dX5_makeRoom_55 rfl (lv_at hl 0 rfl) ?_
    refine wg (v := .int (oI (gI σ 225 o))) X hT hW 3 33 225 vl3_o rfl rfl (by decide) rfl (by decide) in_X5 q565 rfl dX5_makeRoom_56 ?_
    refine w_if_ne (tgt := 69) X ((hW.r.z 225 o rfl).i) dX5_makeRoom_59 (by decide) (fun hc => ?_) (fun hc => ?_)
    · have h := h.1 hc
      exact wk_Store_makeRoom_b69 X hr hlk hT hV ho K4 hK4 y1 y2 σ _ _ _ ry1 ry2 (lv_sub hl [0, 1, 2] rfl) hW hS h
    · have h := h.2 hc
      refine lv_aload_n X.1 X.2.1 dX5_makeRoom_62 rfl (lv_at hl 0 rfl) ?_
      refine wr_V (rV (As := []) (rest := []) X hT hW hS (met_Store_collectStep l (w := w) hV o _ σ (by omega) h) (cwV 0 X.2.2.2.2 (lw_V q1285 q1287 qs44 q136 q1288) rfl rfl rfl (by decide +kernel) ⟨Nat.le_of_ble_eq_true rfl, Nat.le_of_ble_eq_true rfl⟩) vl3_o (by decide) rfl rfl hl.1 rfl (by first | exact Nat.le_of_ble_eq_true rfl | simp [catK, catI, catR, catL]) dX5_makeRoom_63 ⟨Nat.le_refl _, Nat.le_refl _⟩) hS (fun σ_32 H locs rkσ_32 h hWσ_32 hS => ?_)
      have h := h rkσ_32
      refine lv_goto (tgt := 47) X.1 X.2.1 dX5_makeRoom_66 (by decide) ?_
      exact hK47 y1 y2 σ_32 _ _ _ ry1 ry2 (lv_sub hl [0, 1, 2] rfl) hWσ_32 hS h
theorem wk_Store_makeRoom_L47 {p : Program} {l : Launch} {e : Env} {st : State} {m : MethodId} {args : Array Value} {below : List Frame} {meth : Method} {c : Code} {w : Wp} {o : Int} {Q : St → Prop} (X : CallFix p m c cX5_makeRoom 3 st args lw_all RX5) (hr : meth.sig.returnType = none) (hlk : meth.locks = false) (hT : Tb w st) (hV : Hvl w) (ho : 0 ≤ o ∧ o < 2) (K4 : Int → Int → St → Prop) (hK4 : ∀ (y1 y2 : Int) (σ : St) (H : Heap) (locs : List Loc) (ls : Array Slot), rZ y1 → rI y2 → lv_has ls 3 [(0, .ref (wad w 3 o)), (1, .int (oI y1)), (2, .int (oI y2))] → Wo w σ H → va_S (wA w) st.heap H locs → K4 y1 y2 σ → W p l e (headSpec (ws_ yX5_makeRoom cX5_makeRoom 3 none) rm_Store_makeRoom).room st m args below meth c H locs 0 0 (MQ below (QcV w Q) args st 0 0 (wA w)) (F0 m 4 ls [])) : ∀ (y1 y2 : Int) (σ : St) (H : Heap) (locs : List Loc) (ls : Array Slot), rZ y1 → rI y2 → lv_has ls 3 [(0, .ref (wad w 3 o)), (1, .int (oI y1)), (2, .int (oI y2))] → Wo w σ H → va_S (wA w) st.heap H locs → lQ2 (wp_Store_makeRoom_L47 (wc w) (wtv w) o Q K4) y1 y2 σ → W p l e (headSpec (ws_ yX5_makeRoom cX5_makeRoom 3 none) rm_Store_makeRoom).room st m args below meth c H locs 0 0 (MQ below (QcV w Q) args st 0 0 (wA w)) (F0 m 47 ls []) := by
  intro y1 y2 σ H locs ls ry1 ry2 hl hW hS h
  obtain ⟨fu, h⟩ := h
  induction fu generalizing y1 y2 σ H locs ls with
  | zero => exact h.elim
  | succ fu ih =>
    exact wk_Store_makeRoom_L47B X hr hlk hT hV ho K4 (lq2 (wp_Store_makeRoom_L47 (wc w) (wtv w) o Q K4) fu) hK4 (fun y1 y2 σ H locs ls ry1 ry2 hl hW hS h => ih y1 y2 σ H locs ls ry1 ry2 hl hW hS h) y1 y2 σ H locs ls ry1 ry2 hl hW hS h
set_option maxHeartbeats 4000000 in
set_option maxRecDepth 100000 in
theorem wk_Store_makeRoom_L4B {p : Program} {l : Launch} {e : Env} {st : State} {m : MethodId} {args : Array Value} {below : List Frame} {meth : Method} {c : Code} {w : Wp} {o : Int} {Q : St → Prop} (X : CallFix p m c cX5_makeRoom 3 st args lw_all RX5) (hr : meth.sig.returnType = none) (hlk : meth.locks = false) (hT : Tb w st) (hV : Hvl w) (ho : 0 ≤ o ∧ o < 2) (K4 : Int → Int → St → Prop) (hK4 : ∀ (y1 y2 : Int) (σ : St) (H : Heap) (locs : List Loc) (ls : Array Slot), rZ y1 → rI y2 → lv_has ls 3 [(0, .ref (wad w 3 o)), (1, .int (oI y1)), (2, .int (oI y2))] → Wo w σ H → va_S (wA w) st.heap H locs → K4 y1 y2 σ → W p l e (headSpec (ws_ yX5_makeRoom cX5_makeRoom 3 none) rm_Store_makeRoom).room st m args below meth c H locs 0 0 (MQ below (QcV w Q) args st 0 0 (wA w)) (F0 m 4 ls [])) : ∀ (y1 y2 : Int) (σ : St) (H : Heap) (locs : List Loc) (ls : Array Slot), rZ y1 → rI y2 → lv_has ls 3 [(0, .ref (wad w 3 o)), (1, .int (oI y1)), (2, .int (oI y2))] → Wo w σ H → va_S (wA w) st.heap H locs → wp_Store_makeRoom_L4 (wc w) (wtv w) o Q K4 y1 y2 σ → W p l e (headSpec (ws_ yX5_makeRoom cX5_makeRoom 3 none) rm_Store_makeRoom).room st m args below meth c H locs 0 0 (MQ below (QcV w Q) args st 0 0 (wA w)) (F0 m 4 ls []) := by
  have vl3_o : vl w 3 o := hV.hv 3 rfl ⟨by omega, by show _ < (2 : Int); omega⟩
  have vl4_o : vl w 4 o := hV.hv 4 rfl ⟨by omega, by show _ < (2 : Int); omega⟩
  intro y1 y2 σ H locs ls ry1 ry2 hl hW hS h
  unfold wp_Store_makeRoom_L4 at h
  refine lv_iload_n X.1 X.2.1 dX5_makeRoom_4 rfl (lv_at hl 2 rfl) ?_
  refine lv_iconst (v := oI 2) X.1 X.2.1 dX5_makeRoom_5 rfl ?_
  refine lv_aload_n X.1 X.2.1 dX5_makeRoom_6 rfl (lv_at hl 0 rfl) ?_
  refine wg (v := .ref (wad w 4 o)) X hT hW 3 0 192 vl3_o rfl rfl (by decide) rfl (by decide) in_X5 q523 rfl dX5_makeRoom_7 ?_
  refine wg (v := .int (oI ((wc w).1 - 6))) X hT hW 4 1 257 vl4_o rfl rfl (by decide) rfl (by decide) in_X6 q272 rfl dX5_makeRoom_10 ?_
  refine w_imul X dX5_makeRoom_13 ?_
  refine w_icmp_ge (tgt := 79) X ry2 (w32_r _) dX5_makeRoom_14 (by decide) (fun hc => ?_) (fun hc => ?_)
  · have h := h.1 hc
    exact wret_V X hr hlk hW hS h dX5_makeRoom_79
  · have h := h.2 hc
    refine lv_aload_n X.1 X.2.1 dX5_makeRoom_17 rfl (lv_at hl 0 rfl) ?_
    refine wr_Z (rV (As := []) (rest := []) X hT hW hS (met_Store_isShort l (w := w) hV o _ σ (by omega) h) (cwV 0 X.2.2.2.2 (lw_V q1273 q1275 qs42 q136 q1276) rfl rfl rfl (by decide +kernel) ⟨Nat.le_of_ble_eq_true rfl, Nat.le_of_ble_eq_true rfl⟩) vl3_o (by decide) rfl rfl hl.1 rfl (by first | exact Nat.le_of_ble_eq_true rfl | simp [catK, catI, catR, catL]) dX5_makeRoom_18 ⟨Nat.le_refl _, Nat.le_refl _⟩) hS (fun r_33 σ_34 H locs rr_33 rkσ_34 h hWσ_34 hS => ?_)
    have h := h rr_33 rkσ_34
    refine w_if_eq (tgt := 79) X rr_33.i dX5_makeRoom_21 (by decide) (fun hc => ?_) (fun hc => ?_)
    · have h := h.1 hc
      exact wret_V X hr hlk hWσ_34 hS h dX5_makeRoom_79
    · have h := h.2 hc
      refine lv_aload_n X.1 X.2.1 dX5_makeRoom_24 rfl (lv_at hl 0 rfl) ?_
      refine wg (v := .int (oI (gI σ_34 223 o))) X hT hWσ_34 3 31 223 vl3_o rfl rfl (by decide) rfl (by decide) in_X5 q563 rfl dX5_makeRoom_25 ?_
      refine lv_iconst (v := oI (-1)) X.1 X.2.1 dX5_makeRoom_28 rfl ?_
      refine w_icmp_ne (tgt := 47) X (hWσ_34.r.i 223 o rfl) ((rB_lit (-1) (by decide)).i) dX5_makeRoom_29 (by decide) (fun hc => ?_) (fun hc => ?_)
      · have h := h.1 hc
        exact wk_Store_makeRoom_L47 X hr hlk hT hV ho K4 hK4 y1 y2 σ_34 _ _ _ ry1 ry2 (lv_sub hl [0, 1, 2] rfl) hWσ_34 hS h
      · have h := h.2 hc
        refine lv_aload_n X.1 X.2.1 dX5_makeRoom_32 rfl (lv_at hl 0 rfl) ?_
        refine lv_iconst (v := oI 0) X.1 X.2.1 dX5_makeRoom_33 rfl ?_
        refine wr_Z (rV (As := [.int (oI 0)]) (rest := []) X hT hWσ_34 hS (met_Store_pick l (w := w) hV o 0 _ σ_34 (by omega) rZ_0 h) (cwV 1 X.2.2.2.2 (lw_V q1281 q1283 qs43 q136 q1284) rfl rfl rfl (by decide +kernel) ⟨Nat.le_of_ble_eq_true rfl, Nat.le_of_ble_eq_true rfl⟩) vl3_o (by decide) rfl rfl hl.1 rfl (by first | exact Nat.le_of_ble_eq_true rfl | simp [catK, catI, catR, catL]) dX5_makeRoom_34 ⟨Nat.le_refl _, Nat.le_refl _⟩) hS (fun r_35 σ_36 H locs rr_35 rkσ_36 h hWσ_36 hS => ?_)
        have h := h rr_35 rkσ_36
        refine w_if_ne (tgt := 47) X rr_35.i dX5_makeRoom_37 (by decide) (fun hc => ?_) (fun hc => ?_)
        · have h := h.1 hc
          exact wk_Store_makeRoom_L47 X hr hlk hT hV ho K4 hK4 y1 y2 σ_36 _ _ _ ry1 ry2 (lv_sub hl [0, 1, 2] rfl) hWσ_36 hS h
        · have h := h.2 hc
          refine lv_iload_n X.1 X.2.1 dX5_makeRoom_40 rfl (lv_at hl 1 rfl) ?_
          refine w_if_eq (tgt := 45) X ry1.i dX5_makeRoom_41 (by decide) (fun hc => ?_) (fun hc => ?_)
          · have h := h.1 hc
            refine lv_iconst (v := oI 1) X.1 X.2.1 dX5_makeRoom_45 rfl ?_
            refine lv_istore_n (i := 1) (lv' := [(1, .int (oI 1)), (0, .ref (wad w 3 o)), (2, .int (oI y2))]) X.1 X.2.1 dX5_makeRoom_46 rfl hl (by decide) (by first | rfl | simp [catK, catI, catR, catL]) (fun ls hl => ?_)
            exact wk_Store_makeRoom_L47 X hr hlk hT hV ho K4 hK4 1 y2 σ_36 _ _ _ rZ_1 ry2 (lv_sub hl [1, 0, 2] rfl) hWσ_36 hS h
          · have h := h.2 hc
            exact wret_V X hr hlk hWσ_36 hS h dX5_makeRoom_44
theorem wk_Store_makeRoom_L4 {p : Program} {l : Launch} {e : Env} {st : State} {m : MethodId} {args : Array Value} {below : List Frame} {meth : Method} {c : Code} {w : Wp} {o : Int} {Q : St → Prop} (X : CallFix p m c cX5_makeRoom 3 st args lw_all RX5) (hr : meth.sig.returnType = none) (hlk : meth.locks = false) (hT : Tb w st) (hV : Hvl w) (ho : 0 ≤ o ∧ o < 2) : ∀ (y1 y2 : Int) (σ : St) (H : Heap) (locs : List Loc) (ls : Array Slot), rZ y1 → rI y2 → lv_has ls 3 [(0, .ref (wad w 3 o)), (1, .int (oI y1)), (2, .int (oI y2))] → Wo w σ H → va_S (wA w) st.heap H locs → lQ2 (wp_Store_makeRoom_L4 (wc w) (wtv w) o Q) y1 y2 σ → W p l e (headSpec (ws_ yX5_makeRoom cX5_makeRoom 3 none) rm_Store_makeRoom).room st m args below meth c H locs 0 0 (MQ below (QcV w Q) args st 0 0 (wA w)) (F0 m 4 ls []) := by
  intro y1 y2 σ H locs ls ry1 ry2 hl hW hS h
  obtain ⟨fu, h⟩ := h
  induction fu generalizing y1 y2 σ H locs ls with
  | zero => exact h.elim
  | succ fu ih =>
    exact wk_Store_makeRoom_L4B X hr hlk hT hV ho (lq2 (wp_Store_makeRoom_L4 (wc w) (wtv w) o Q) fu) (fun y1 y2 σ H locs ls ry1 ry2 hl hW hS h => ih y1 y2 σ H locs ls ry1 ry2 hl hW hS h) y1 y2 σ H locs ls ry1 ry2 hl hW hS h
set_option maxHeartbeats 4000000 in
set_option maxRecDepth 100000 in
theorem met_Store_makeRoom (l : Launch) {w : Wp} (hV : Hvl w) (o : Int) (Q : St → Prop) (σ : St) (ho : 0 ≤ o ∧ o < 2) (h : wp_Store_makeRoom (wc w) (wtv w) o Q σ) : Met l yX5_makeRoom (ws_ yX5_makeRoom cX5_makeRoom 3 none) rm_Store_makeRoom (PcW w σ [.ref (wad w 3 o)]) (QcV w Q) 0 0 (wA w) := by
  refine Met.ofW (cc := cX5_makeRoom) (maxL := 3) (ret := none) (by decide) rfl ?_
  intro p e st m args below meth c s₁ B hml hv
  obtain ⟨hargs, hW, hT⟩ := hv
  have X : CallFix p m c cX5_makeRoom 3 st _ lw_all RX5 := ⟨B.exec, B.bytes, hml, findClass_of_methodNamed B.named, fun w h => atoms_spec (ws := ws_ yX5_makeRoom cX5_makeRoom 3 none) B.pre w (List.mem_cons_of_mem _ h)⟩
  have hr := B.returns
  have hlk := B.notSynchronized
  have hS : va_S (wA w) st.heap st.heap [] := va_S.rf
  have vl3_o : vl w 3 o := hV.hv 3 rfl ⟨by omega, by show _ < (2 : Int); omega⟩
  have hl := lv_entry ([.ref (wad w 3 o)]) (n := 3) (Nat.le_of_ble_eq_true rfl)
  have hfr := lg_entry_eq m ([.ref (wad w 3 o)]) 3
  rw [← hargs] at hfr
  rw [hfr]
  generalize (lg_sl ([.ref (wad w 3 o)]) ++ List.replicate (3 - (lg_sl ([.ref (wad w 3 o)])).length) Slot.unset).toArray = ls at hl ⊢
  have hl : lv_has ls 3 [(0, .ref (wad w 3 o))] := hl
  unfold wp_Store_makeRoom at h
  refine lv_iconst (v := oI 0) X.1 X.2.1 dX5_makeRoom_0 rfl ?_
  refine lv_istore_n (i := 1) (lv' := [(1, .int (oI 0)), (0, .ref (wad w 3 o))]) X.1 X.2.1 dX5_makeRoom_1 rfl hl (by decide) (by first | rfl | simp [catK, catI, catR, catL]) (fun ls hl => ?_)
  refine lv_iconst (v := oI 0) X.1 X.2.1 dX5_makeRoom_2 rfl ?_
  refine lv_istore_n (i := 2) (lv' := [(2, .int (oI 0)), (1, .int (oI 0)), (0, .ref (wad w 3 o))]) X.1 X.2.1 dX5_makeRoom_3 rfl hl (by decide) (by first | rfl | simp [catK, catI, catR, catL]) (fun ls hl => ?_)
  exact wk_Store_makeRoom_L4 X hr hlk hT hV ho 0 0 σ _ _ _ rZ_0 rZ_0.i (lv_sub hl [2, 1, 0] rfl) hW hS h
/-! Store.bud()V -/
set_option maxHeartbeats 4000000 in
set_option maxRecDepth 100000 in
theorem wk_Store_bud_b24 {p : Program} {l : Launch} {e : Env} {st : State} {m : MethodId} {args : Array Value} {below : List Frame} {meth : Method} {c : Code} {w : Wp} {o : Int} {Q : St → Prop} (X : CallFix p m c cX5_bud 2 st args lw_all RX5) (hr : meth.sig.returnType = none) (hlk : meth.locks = false) (hT : Tb w st) (hV : Hvl w) (ho : 0 ≤ o ∧ o < 2) : ∀ (σ : St) (H : Heap) (locs : List Loc) (ls : Array Slot), lv_has ls 2 [(0, .ref (wad w 3 o))] → Wo w σ H → va_S (wA w) st.heap H locs → wp_Store_bud_b24 (wc w) (wtv w) o Q σ → W p l e (headSpec (ws_ yX5_bud cX5_bud 2 none) rm_Store_bud).room st m args below meth c H locs 0 0 (MQ below (QcV w Q) args st 0 0 (wA w)) (F0 m 24 ls []) := by
  have vl3_o : vl w 3 o := hV.hv 3 rfl ⟨by omega, by show _ < (2 : Int); omega⟩
  have vl5_o : vl w 5 o := hV.hv 5 rfl ⟨by omega, by show _ < (2 : Int); omega⟩
  have vl7_o : vl w 7 o := hV.hv 7 rfl ⟨by omega, by show _ < (6 : Int); omega⟩
  intro σ H locs ls hl hW hS h
  unfold wp_Store_bud_b24 at h
  refine lv_aload_n X.1 X.2.1 dX5_bud_24 rfl (lv_at hl 0 rfl) ?_
  refine wr_V (rV (As := []) (rest := []) X hT hW hS (met_Store_makeRoom l (w := w) hV o _ σ (by omega) h) (cwV 0 X.2.2.2.2 (lw_V q1269 q1271 qs41 q136 q1272) rfl rfl rfl (by decide +kernel) ⟨Nat.le_of_ble_eq_true rfl, Nat.le_of_ble_eq_true rfl⟩) vl3_o (by decide) rfl rfl hl.1 rfl (by first | exact Nat.le_of_ble_eq_true rfl | simp [catK, catI, catR, catL]) dX5_bud_25 ⟨Nat.le_refl _, Nat.le_refl _⟩) hS (fun σ_15 H locs rkσ_15 h hWσ_15 hS => ?_)
  have h := h rkσ_15
  refine lv_aload_n X.1 X.2.1 dX5_bud_28 rfl (lv_at hl 0 rfl) ?_
  refine wg (v := .ref (wad w 5 o)) X hT hWσ_15 3 1 193 vl3_o rfl rfl (by decide) rfl (by decide) in_X5 q525 rfl dX5_bud_29 ?_
  refine wr_I (rV (As := []) (rest := []) X hT hWσ_15 hS (met_Space_fetch l (w := w) hV o _ σ_15 (by omega) h) (cwV 0 X.2.2.2.2 (lw_V q771 q772 q773 q138 q774) rfl rfl rfl (by decide +kernel) ⟨Nat.le_of_ble_eq_true rfl, Nat.le_of_ble_eq_true rfl⟩) vl5_o (by decide) rfl rfl hl.1 rfl (by first | exact Nat.le_of_ble_eq_true rfl | simp [catK, catI, catR, catL]) dX5_bud_32 ⟨Nat.le_refl _, Nat.le_refl _⟩) hS (fun r_16 σ_17 H locs rr_16 rkσ_17 h hWσ_17 hS => ?_)
  have h := h rr_16 rkσ_17
  refine lv_istore_n (i := 1) (lv' := [(1, .int (oI r_16)), (0, .ref (wad w 3 o))]) X.1 X.2.1 dX5_bud_35 rfl hl (by decide) (by first | rfl | simp [catK, catI, catR, catL]) (fun ls hl => ?_)
  refine lv_aload_n X.1 X.2.1 dX5_bud_36 rfl (lv_at hl 1 rfl) ?_
  refine lv_iload_n X.1 X.2.1 dX5_bud_37 rfl (lv_at hl 0 rfl) ?_
  refine lv_iconst (v := oI 0) X.1 X.2.1 dX5_bud_38 rfl ?_
  refine wr_V (rV (As := [.int (oI r_16), .int (oI 0)]) (rest := []) X hT hWσ_17 hS (met_Store_logBud l (w := w) hV o r_16 0 _ σ_17 (by omega) rr_16 rZ_0.i h) (cwV 2 X.2.2.2.2 (lw_V q1052 q1054 qs27 q136 q1055) rfl rfl rfl (by decide +kernel) ⟨Nat.le_of_ble_eq_true rfl, Nat.le_of_ble_eq_true rfl⟩) vl3_o (by decide) rfl rfl hl.1 rfl (by first | exact Nat.le_of_ble_eq_true rfl | simp [catK, catI, catR, catL]) dX5_bud_39 ⟨Nat.le_refl _, Nat.le_refl _⟩) hS (fun σ_19 H locs rkσ_19 h hWσ_19 hS => ?_)
  have h := h rkσ_19
  refine lv_aload_n X.1 X.2.1 dX5_bud_42 rfl (lv_at hl 1 rfl) ?_
  refine wg (v := .ref (wad w 7 o)) X hT hWσ_19 3 3 195 vl3_o rfl rfl (by decide) rfl (by decide) in_X5 q528 rfl dX5_bud_43 ?_
  refine lv_iload_n X.1 X.2.1 dX5_bud_46 rfl (lv_at hl 0 rfl) ?_
  refine wr_V (rV (As := [.int (oI r_16)]) (rest := []) X hT hWσ_19 hS (met_Writer_open l (w := w) hV o r_16 _ σ_19 (by omega) rr_16 h) (cwV 1 X.2.2.2.2 (lw_V q852 q853 q854 q141 q855) rfl rfl rfl (by decide +kernel) ⟨Nat.le_of_ble_eq_true rfl, Nat.le_of_ble_eq_true rfl⟩) vl7_o (by decide) rfl rfl hl.1 rfl (by first | exact Nat.le_of_ble_eq_true rfl | simp [catK, catI, catR, catL]) dX5_bud_47 ⟨Nat.le_refl _, Nat.le_refl _⟩) hS (fun σ_21 H locs rkσ_21 h hWσ_21 hS => ?_)
  have h := h rkσ_21
  exact wret_V X hr hlk hWσ_21 hS h dX5_bud_50
set_option maxHeartbeats 4000000 in
set_option maxRecDepth 100000 in
theorem met_Store_bud (l : Launch) {w : Wp} (hV : Hvl w) (o : Int) (Q : St → Prop) (σ : St) (ho : 0 ≤ o ∧ o < 2) (h : wp_Store_bud (wc w) (wtv w) o Q σ) : Met l yX5_bud (ws_ yX5_bud cX5_bud 2 none) rm_Store_bud (PcW w σ [.ref (wad w 3 o)]) (QcV w Q) 0 0 (wA w) := by
  refine Met.ofW (cc := cX5_bud) (maxL := 2) (ret := none) (by decide) rfl ?_
  intro p e st m args below meth c s₁ B hml hv
  obtain ⟨hargs, hW, hT⟩ := hv
  have X : CallFix p m c cX5_bud 2 st _ lw_all RX5 := ⟨B.exec, B.bytes, hml, findClass_of_methodNamed B.named, fun w h => atoms_spec (ws := ws_ yX5_bud cX5_bud 2 none) B.pre w (List.mem_cons_of_mem _ h)⟩
  have hr := B.returns
  have hlk := B.notSynchronized
  have hS : va_S (wA w) st.heap st.heap [] := va_S.rf
  have vl3_o : vl w 3 o := hV.hv 3 rfl ⟨by omega, by show _ < (2 : Int); omega⟩
  have vl7_o : vl w 7 o := hV.hv 7 rfl ⟨by omega, by show _ < (6 : Int); omega⟩
  have hl := lv_entry ([.ref (wad w 3 o)]) (n := 2) (Nat.le_of_ble_eq_true rfl)
  have hfr := lg_entry_eq m ([.ref (wad w 3 o)]) 2
  rw [← hargs] at hfr
  rw [hfr]
  generalize (lg_sl ([.ref (wad w 3 o)]) ++ List.replicate (2 - (lg_sl ([.ref (wad w 3 o)])).length) Slot.unset).toArray = ls at hl ⊢
  have hl : lv_has ls 2 [(0, .ref (wad w 3 o))] := hl
  unfold wp_Store_bud at h
  refine lv_aload_n X.1 X.2.1 dX5_bud_0 rfl (lv_at hl 0 rfl) ?_
  refine wr_V (rV (As := []) (rest := []) X hT hW hS (met_Store_sync l (w := w) hV o _ σ (by omega) h) (cwV 0 X.2.2.2.2 (lw_V q1265 q1266 q1267 q136 q1268) rfl rfl rfl (by decide +kernel) ⟨Nat.le_of_ble_eq_true rfl, Nat.le_of_ble_eq_true rfl⟩) vl3_o (by decide) rfl rfl hl.1 rfl (by first | exact Nat.le_of_ble_eq_true rfl | simp [catK, catI, catR, catL]) dX5_bud_1 ⟨Nat.le_refl _, Nat.le_refl _⟩) hS (fun σ_23 H locs rkσ_23 h hWσ_23 hS => ?_)
  have h := h rkσ_23
  refine lv_aload_n X.1 X.2.1 dX5_bud_4 rfl (lv_at hl 0 rfl) ?_
  refine wg (v := .ref (wad w 7 o)) X hT hWσ_23 3 3 195 vl3_o rfl rfl (by decide) rfl (by decide) in_X5 q528 rfl dX5_bud_5 ?_
  refine lv_iconst (v := oI (-1)) X.1 X.2.1 dX5_bud_8 rfl ?_
  refine wput (z := (-1)) X hT hWσ_23 hS 7 3 451 vl7_o rfl rfl (by decide) rfl (by decide) in_X10 tyX10 tyX10_ok nmX10 q509 rfl rfl ((rB_lit (-1) (by decide)).i) (fv0 w rfl) rfl rfl dX5_bud_9 (fun H locs hN hS => ?_)
  obtain ⟨σ_24, eσ_24⟩ : ∃ x, x = sI σ_23 451 o (-1) := ⟨_, rfl⟩
  have hWσ_24 : Wo w σ_24 H := eσ_24 ▸ hN
  have h := h σ_24 eσ_24
  clear hN
  refine lv_aload_n X.1 X.2.1 dX5_bud_12 rfl (lv_at hl 0 rfl) ?_
  refine wg (v := .int (oI (gI σ_24 211 o))) X hT hWσ_24 3 19 211 vl3_o rfl rfl (by decide) rfl (by decide) in_X5 q549 rfl dX5_bud_13 ?_
  refine lv_iconst (v := oI 4) X.1 X.2.1 dX5_bud_16 rfl ?_
  refine w_icmp_ne (tgt := 24) X (hWσ_24.r.i 211 o rfl) ((rB_lit 4 (by decide)).i) dX5_bud_17 (by decide) (fun hc => ?_) (fun hc => ?_)
  · have h := h.1 hc
    exact wk_Store_bud_b24 X hr hlk hT hV ho σ_24 _ _ _ (lv_sub hl [0] rfl) hWσ_24 hS h
  · have h := h.2 hc
    refine lv_aload_n X.1 X.2.1 dX5_bud_20 rfl (lv_at hl 0 rfl) ?_
    refine wr_V (rV (As := []) (rest := []) X hT hWσ_24 hS (met_Store_commitAll l (w := w) hV o _ σ_24 (by omega) h) (cwV 0 X.2.2.2.2 (lw_V q959 q961 qs19 q136 q962) rfl rfl rfl (by decide +kernel) ⟨Nat.le_of_ble_eq_true rfl, Nat.le_of_ble_eq_true rfl⟩) vl3_o (by decide) rfl rfl hl.1 rfl (by first | exact Nat.le_of_ble_eq_true rfl | simp [catK, catI, catR, catL]) dX5_bud_21 ⟨Nat.le_refl _, Nat.le_refl _⟩) hS (fun σ_26 H locs rkσ_26 h hWσ_26 hS => ?_)
    have h := h rkσ_26
    exact wk_Store_bud_b24 X hr hlk hT hV ho σ_26 _ _ _ (lv_sub hl [0] rfl) hWσ_26 hS h
/-! Store.number(LNandHouse$Row;)V -/
set_option maxHeartbeats 4000000 in
set_option maxRecDepth 100000 in
theorem wk_Store_number_L4B {p : Program} {l : Launch} {e : Env} {st : State} {m : MethodId} {args : Array Value} {below : List Frame} {meth : Method} {c : Code} {w : Wp} {o : Int} {x1 : Int} {Q : St → Prop} (X : CallFix p m c cX5_number 4 st args lw_all RX5) (hr : meth.sig.returnType = none) (hlk : meth.locks = false) (hT : Tb w st) (hV : Hvl w) (ho : 0 ≤ o ∧ o < 2) (hx1 : 0 ≤ x1 ∧ x1 < 8) (K4 : Int → St → Prop) (hK4 : ∀ (y3 : Int) (σ : St) (H : Heap) (locs : List Loc) (ls : Array Slot), rI y3 → lv_has ls 4 [(0, .ref (wad w 3 o)), (1, .ref (wad w 8 x1)), (3, .int (oI y3))] → Wo w σ H → va_S (wA w) st.heap H locs → K4 y3 σ → W p l e (headSpec (ws_ yX5_number cX5_number 4 none) rm_Store_number).room st m args below meth c H locs 0 0 (MQ below (QcV w Q) args st 0 0 (wA w)) (F0 m 4 ls [])) : ∀ (y3 : Int) (σ : St) (H : Heap) (locs : List Loc) (ls : Array Slot), rI y3 → lv_has ls 4 [(0, .ref (wad w 3 o)), (1, .ref (wad w 8 x1)), (3, .int (oI y3))] → Wo w σ H → va_S (wA w) st.heap H locs → wp_Store_number_L4 (wc w) (wtv w) o x1 Q K4 y3 σ → W p l e (headSpec (ws_ yX5_number cX5_number 4 none) rm_Store_number).room st m args below meth c H locs 0 0 (MQ below (QcV w Q) args st 0 0 (wA w)) (F0 m 4 ls []) := by
  have vl3_o : vl w 3 o := hV.hv 3 rfl ⟨by omega, by show _ < (2 : Int); omega⟩
  have vl8_x1 : vl w 8 x1 := hV.hv 8 rfl ⟨by omega, by show _ < (8 : Int); omega⟩
  intro y3 σ H locs ls ry3 hl hW hS h
  unfold wp_Store_number_L4 at h
  refine lv_iload_n X.1 X.2.1 dX5_number_4 rfl (lv_at hl 2 rfl) ?_
  refine lv_aload_n X.1 X.2.1 dX5_number_5 rfl (lv_at hl 1 rfl) ?_
  refine wg (v := .int (oI (gI σ 514 x1))) X hT hW 8 2 514 vl8_x1 rfl rfl (by decide) rfl (by decide) in_X2 q172 rfl dX5_number_6 ?_
  refine w_icmp_ge (tgt := 41) X ry3 (hW.r.i 514 x1 rfl) dX5_number_9 (by decide) (fun hc => ?_) (fun hc => ?_)
  · have h := h.1 hc
    exact wret_V X hr hlk hW hS h dX5_number_41
  · have h := h.2 hc
    refine lv_aload_n X.1 X.2.1 dX5_number_12 rfl (lv_at hl 1 rfl) ?_
    refine lv_iload_n X.1 X.2.1 dX5_number_13 rfl (lv_at hl 2 rfl) ?_
    refine wput (z := y3) X hT hW hS 8 1 513 vl8_x1 rfl rfl (by decide) rfl (by decide) in_X2 tyX2 tyX2_ok nmX2 q169 rfl rfl ry3 (fv0 w rfl) rfl rfl dX5_number_14 (fun H locs hN hS => ?_)
    obtain ⟨σ_21, eσ_21⟩ : ∃ x, x = sI σ 513 x1 y3 := ⟨_, rfl⟩
    have hWσ_21 : Wo w σ_21 H := eσ_21 ▸ hN
    have h := h σ_21 eσ_21
    clear hN
    refine lv_aload_n X.1 X.2.1 dX5_number_17 rfl (lv_at hl 1 rfl) ?_
    refine wr_I (rV (As := []) (rest := []) X hT hWσ_21 hS (met_Row_length l (w := w) hV x1 _ σ_21 (by omega) h) (cwV 0 X.2.2.2.2 (lw_V q1294 q764 q765 q132 q766) rfl rfl rfl (by decide +kernel) ⟨Nat.le_of_ble_eq_true rfl, Nat.le_of_ble_eq_true rfl⟩) vl8_x1 (by decide) rfl rfl hl.1 rfl (by first | exact Nat.le_of_ble_eq_true rfl | simp [catK, catI, catR, catL]) dX5_number_18 ⟨Nat.le_refl _, Nat.le_refl _⟩) hS (fun r_22 σ_23 H locs rr_22 rkσ_23 h hWσ_23 hS => ?_)
    have h := h rr_22 rkσ_23
    refine lv_istore_n (i := 2) (lv' := [(2, .int (oI r_22)), (0, .ref (wad w 3 o)), (1, .ref (wad w 8 x1)), (3, .int (oI y3))]) X.1 X.2.1 dX5_number_21 rfl hl (by decide) (by first | rfl | simp [catK, catI, catR, catL]) (fun ls hl => ?_)
    refine lv_aload_n X.1 X.2.1 dX5_number_22 rfl (lv_at hl 2 rfl) ?_
    refine lv_aload_n X.1 X.2.1 dX5_number_23 rfl (lv_at hl 1 rfl) ?_
    refine wr_J (rV (As := []) (rest := [.ref (wad w 8 x1)]) X hT hWσ_23 hS (met_Store_serial l (w := w) hV o _ σ_23 (by omega) h) (cwV 0 X.2.2.2.2 (lw_V q751 q752 q753 q136 q754) rfl rfl rfl (by decide +kernel) ⟨Nat.le_of_ble_eq_true rfl, Nat.le_of_ble_eq_true rfl⟩) vl3_o (by decide) rfl rfl hl.1 rfl (by first | exact Nat.le_of_ble_eq_true rfl | simp [catK, catI, catR, catL]) dX5_number_24 ⟨Nat.le_refl _, Nat.le_refl _⟩) hS (fun r_24 σ_25 H locs rr_24 rkσ_25 h hWσ_25 hS => ?_)
    have h := h rr_24 rkσ_25
    refine lv_aload_n X.1 X.2.1 dX5_number_27 rfl (lv_at hl 2 rfl) ?_
    refine wr_Z (rV (As := []) (rest := [.long (oL r_24), .ref (wad w 8 x1)]) X hT hWσ_25 hS (met_Row_isLast l (w := w) hV x1 _ σ_25 (by omega) h) (cwV 0 X.2.2.2.2 (lw_V q1341 q1342 q1343 q132 q1344) rfl rfl rfl (by decide +kernel) ⟨Nat.le_of_ble_eq_true rfl, Nat.le_of_ble_eq_true rfl⟩) vl8_x1 (by decide) rfl rfl hl.1 rfl (by first | exact Nat.le_of_ble_eq_true rfl | simp [catK, catI, catR, catL]) dX5_number_28 ⟨Nat.le_refl _, Nat.le_refl _⟩) hS (fun r_26 σ_27 H locs rr_26 rkσ_27 h hWσ_27 hS => ?_)
    have h := h rr_26 rkσ_27
    refine wr_V (rV (As := [.long (oL r_24), .int (oI r_26)]) (rest := []) X hT hWσ_27 hS (met_Row_close l (w := w) hV x1 r_24 r_26 _ σ_27 (by omega) rr_24 rr_26 h) (cwV 2 X.2.2.2.2 (lw_V q755 q756 q757 q132 q758) rfl rfl rfl (by decide +kernel) ⟨Nat.le_of_ble_eq_true rfl, Nat.le_of_ble_eq_true rfl⟩) vl8_x1 (by decide) rfl rfl hl.1 rfl (by first | exact Nat.le_of_ble_eq_true rfl | simp [catK, catI, catR, catL]) dX5_number_31 ⟨Nat.le_refl _, Nat.le_refl _⟩) hS (fun σ_29 H locs rkσ_29 h hWσ_29 hS => ?_)
    have h := h rkσ_29
    refine lv_iload_n X.1 X.2.1 dX5_number_34 rfl (lv_at hl 3 rfl) ?_
    refine lv_iload_n X.1 X.2.1 dX5_number_35 rfl (lv_at hl 0 rfl) ?_
    refine w_iadd X dX5_number_36 ?_
    refine w_top (fun y3_30 ey3_30 => ?_)
    have h := h y3_30 ey3_30
    have ry3_30 : rI y3_30 := by rw [ey3_30]; exact (w32_r _)
    refine lv_istore_n (i := 3) (lv' := [(3, .int (oI y3_30)), (2, .int (oI r_22)), (0, .ref (wad w 3 o)), (1, .ref (wad w 8 x1))]) X.1 X.2.1 dX5_number_37 rfl hl (by decide) (by first | rfl | simp [catK, catI, catR, catL]) (fun ls hl => ?_)
    refine lv_goto (tgt := 4) X.1 X.2.1 dX5_number_38 (by decide) ?_
    exact hK4 y3_30 σ_29 _ _ _ ry3_30 (lv_sub hl [2, 3, 0] rfl) hWσ_29 hS h
theorem wk_Store_number_L4 {p : Program} {l : Launch} {e : Env} {st : State} {m : MethodId} {args : Array Value} {below : List Frame} {meth : Method} {c : Code} {w : Wp} {o : Int} {x1 : Int} {Q : St → Prop} (X : CallFix p m c cX5_number 4 st args lw_all RX5) (hr : meth.sig.returnType = none) (hlk : meth.locks = false) (hT : Tb w st) (hV : Hvl w) (ho : 0 ≤ o ∧ o < 2) (hx1 : 0 ≤ x1 ∧ x1 < 8) : ∀ (y3 : Int) (σ : St) (H : Heap) (locs : List Loc) (ls : Array Slot), rI y3 → lv_has ls 4 [(0, .ref (wad w 3 o)), (1, .ref (wad w 8 x1)), (3, .int (oI y3))] → Wo w σ H → va_S (wA w) st.heap H locs → lQ1 (wp_Store_number_L4 (wc w) (wtv w) o x1 Q) y3 σ → W p l e (headSpec (ws_ yX5_number cX5_number 4 none) rm_Store_number).room st m args below meth c H locs 0 0 (MQ below (QcV w Q) args st 0 0 (wA w)) (F0 m 4 ls []) := by
  intro y3 σ H locs ls ry3 hl hW hS h
  obtain ⟨fu, h⟩ := h
  induction fu generalizing y3 σ H locs ls with
  | zero => exact h.elim
  | succ fu ih =>
    exact wk_Store_number_L4B X hr hlk hT hV ho hx1 (lq1 (wp_Store_number_L4 (wc w) (wtv w) o x1 Q) fu) (fun y3 σ H locs ls ry3 hl hW hS h => ih y3 σ H locs ls ry3 hl hW hS h) y3 σ H locs ls ry3 hl hW hS h
set_option maxHeartbeats 4000000 in
set_option maxRecDepth 100000 in
theorem met_Store_number (l : Launch) {w : Wp} (hV : Hvl w) (o : Int) (x1 : Int) (Q : St → Prop) (σ : St) (ho : 0 ≤ o ∧ o < 2) (hx1 : 0 ≤ x1 ∧ x1 < 8) (h : wp_Store_number (wc w) (wtv w) o x1 Q σ) : Met l yX5_number (ws_ yX5_number cX5_number 4 none) rm_Store_number (PcW w σ [.ref (wad w 3 o), .ref (wad w 8 x1)]) (QcV w Q) 0 0 (wA w) := by
  refine Met.ofW (cc := cX5_number) (maxL := 4) (ret := none) (by decide) rfl ?_
  intro p e st m args below meth c s₁ B hml hv
  obtain ⟨hargs, hW, hT⟩ := hv
  have X : CallFix p m c cX5_number 4 st _ lw_all RX5 := ⟨B.exec, B.bytes, hml, findClass_of_methodNamed B.named, fun w h => atoms_spec (ws := ws_ yX5_number cX5_number 4 none) B.pre w (List.mem_cons_of_mem _ h)⟩
  have hr := B.returns
  have hlk := B.notSynchronized
  have hS : va_S (wA w) st.heap st.heap [] := va_S.rf
  have vl3_o : vl w 3 o := hV.hv 3 rfl ⟨by omega, by show _ < (2 : Int); omega⟩
  have vl8_x1 : vl w 8 x1 := hV.hv 8 rfl ⟨by omega, by show _ < (8 : Int); omega⟩
  have hl := lv_entry ([.ref (wad w 3 o), .ref (wad w 8 x1)]) (n := 4) (Nat.le_of_ble_eq_true rfl)
  have hfr := lg_entry_eq m ([.ref (wad w 3 o), .ref (wad w 8 x1)]) 4
  rw [← hargs] at hfr
  rw [hfr]
  generalize (lg_sl ([.ref (wad w 3 o), .ref (wad w 8 x1)]) ++ List.replicate (4 - (lg_sl ([.ref (wad w 3 o), .ref (wad w 8 x1)])).length) Slot.unset).toArray = ls at hl ⊢
  have hl : lv_has ls 4 [(0, .ref (wad w 3 o)), (1, .ref (wad w 8 x1))] := hl
  unfold wp_Store_number at h
  refine lv_iconst (v := oI 0) X.1 X.2.1 dX5_number_0 rfl ?_
  refine lv_istore_n (i := 2) (lv' := [(2, .int (oI 0)), (0, .ref (wad w 3 o)), (1, .ref (wad w 8 x1))]) X.1 X.2.1 dX5_number_1 rfl hl (by decide) (by first | rfl | simp [catK, catI, catR, catL]) (fun ls hl => ?_)
  refine lv_iconst (v := oI 0) X.1 X.2.1 dX5_number_2 rfl ?_
  refine lv_istore_n (i := 3) (lv' := [(3, .int (oI 0)), (2, .int (oI 0)), (0, .ref (wad w 3 o)), (1, .ref (wad w 8 x1))]) X.1 X.2.1 dX5_number_3 rfl hl (by decide) (by first | rfl | simp [catK, catI, catR, catL]) (fun ls hl => ?_)
  exact wk_Store_number_L4 X hr hlk hT hV ho hx1 0 σ _ _ _ rZ_0.i (lv_sub hl [2, 3, 0] rfl) hW hS h
/-! Store.hand(LNandHouse$Row;)V -/
set_option maxHeartbeats 4000000 in
set_option maxRecDepth 100000 in
theorem wk_Store_hand_L130B {p : Program} {l : Launch} {e : Env} {st : State} {m : MethodId} {args : Array Value} {below : List Frame} {meth : Method} {c : Code} {w : Wp} {o : Int} {x1 : Int} {Q : St → Prop} (X : CallFix p m c cX5_hand 5 st args lw_all RX5) (hr : meth.sig.returnType = none) (hlk : meth.locks = false) (hT : Tb w st) (hV : Hvl w) (ho : 0 ≤ o ∧ o < 2) (hx1 : 0 ≤ x1 ∧ x1 < 8) (K130 : Int → Int → St → Prop) (hK130 : ∀ (y3 y4 : Int) (σ : St) (H : Heap) (locs : List Loc) (ls : Array Slot), rI y3 → rI y4 → lv_has ls 5 [(0, .ref (wad w 3 o)), (3, .int (oI y3)), (4, .int (oI y4))] → Wo w σ H → va_S (wA w) st.heap H locs → K130 y3 y4 σ → W p l e (headSpec (ws_ yX5_hand cX5_hand 5 none) rm_Store_hand).room st m args below meth c H locs 0 0 (MQ below (QcV w Q) args st 0 0 (wA w)) (F0 m 130 ls [])) : ∀ (y3 y4 : Int) (σ : St) (H : Heap) (locs : List Loc) (ls : Array Slot), rI y3 → rI y4 → lv_has ls 5 [(0, .ref (wad w 3 o)), (3, .int (oI y3)), (4, .int (oI y4))] → Wo w σ H → va_S (wA w) st.heap H locs → wp_Store_hand_L130 (wc w) (wtv w) o x1 Q K130 y3 y4 σ → W p l e (headSpec (ws_ yX5_hand cX5_hand 5 none) rm_Store_hand).room st m args below meth c H locs 0 0 (MQ below (QcV w Q) args st 0 0 (wA w)) (F0 m 130 ls []) := by
  have vl204_o : vl w 204 o := hV.hv 204 rfl ⟨by omega, by show _ < (2 : Int); omega⟩
  have vl3_o : vl w 3 o := hV.hv 3 rfl ⟨by omega, by show _ < (2 : Int); omega⟩
  intro y3 y4 σ H locs ls ry3 ry4 hl hW hS h
  unfold wp_Store_hand_L130 at h
  refine lv_iload X.1 X.2.1 dX5_hand_130 (lv_at hl 2 rfl) ?_
  refine lv_aload_n X.1 X.2.1 dX5_hand_132 rfl (lv_at hl 0 rfl) ?_
  refine wg (v := .int (oI (gI σ 205 o))) X hT hW 3 13 205 vl3_o rfl rfl (by decide) rfl (by decide) in_X5 q540 rfl dX5_hand_133 ?_
  refine w_icmp_ge (tgt := 161) X ry4 (hW.r.i 205 o rfl) dX5_hand_136 (by decide) (fun hc => ?_) (fun hc => ?_)
  · have h := h.1 hc
    refine lv_aload_n X.1 X.2.1 dX5_hand_161 rfl (lv_at hl 0 rfl) ?_
    refine lv_dup X.1 X.2.1 dX5_hand_162 rfl ?_
    refine wg (v := .int (oI (gI σ 205 o))) X hT hW 3 13 205 vl3_o rfl rfl (by decide) rfl (by decide) in_X5 q540 rfl dX5_hand_163 ?_
    refine lv_iload_n X.1 X.2.1 dX5_hand_166 rfl (lv_at hl 1 rfl) ?_
    refine w_isub X dX5_hand_167 ?_
    refine wput (z := w32 ((gI σ 205 o) - y3)) X hT hW hS 3 13 205 vl3_o rfl rfl (by decide) rfl (by decide) in_X5 tyX5 tyX5_ok nmX5 q540 rfl rfl (w32_r _) (fv0 w rfl) rfl rfl dX5_hand_168 (fun H locs hN hS => ?_)
    obtain ⟨σ_58, eσ_58⟩ : ∃ x, x = sI σ 205 o (w32 ((gI σ 205 o) - y3)) := ⟨_, rfl⟩
    have hWσ_58 : Wo w σ_58 H := eσ_58 ▸ hN
    have h := h σ_58 eσ_58
    clear hN
    exact wret_V X hr hlk hWσ_58 hS h dX5_hand_171
  · have h := h.2 hc
    refine lv_aload_n X.1 X.2.1 dX5_hand_139 rfl (lv_at hl 0 rfl) ?_
    refine wg (v := .ref (wad w 204 o)) X hT hW 3 12 204 vl3_o rfl rfl (by decide) rfl (by decide) in_X5 q539 rfl dX5_hand_140 ?_
    refine lv_iload X.1 X.2.1 dX5_hand_143 (lv_at hl 2 rfl) ?_
    refine lv_iload_n X.1 X.2.1 dX5_hand_145 rfl (lv_at hl 1 rfl) ?_
    refine w_isub X dX5_hand_146 ?_
    refine lv_aload_n X.1 X.2.1 dX5_hand_147 rfl (lv_at hl 0 rfl) ?_
    refine wg (v := .ref (wad w 204 o)) X hT hW 3 12 204 vl3_o rfl rfl (by decide) rfl (by decide) in_X5 q539 rfl dX5_hand_148 ?_
    refine lv_iload X.1 X.2.1 dX5_hand_151 (lv_at hl 2 rfl) ?_
    obtain ⟨bi, h⟩ := h
    refine w_iald (n := 128) X hT hW 204 vl204_o (by decide) rfl rfl bi dX5_hand_153 ?_
    obtain ⟨bi, h⟩ := h
    refine w_iast (n := 128) X hT hW hS 204 vl204_o (by decide) rfl rfl bi (hW.r.ai 204 o y4 rfl) dX5_hand_154 (fun H locs hN hS => ?_)
    obtain ⟨σ_59, eσ_59⟩ : ∃ x, x = sA σ 204 o (w32 (y4 - y3)) (gA σ 204 o y4) := ⟨_, rfl⟩
    have hWσ_59 : Wo w σ_59 H := eσ_59 ▸ hN
    have h := h σ_59 eσ_59
    clear hN
    obtain ⟨y4_60, ey4_60⟩ : ∃ y : Int, y = w32 (y4 + 1) := ⟨_, rfl⟩
    have h := h y4_60 ey4_60
    have ry4_60 : rI y4_60 := by rw [ey4_60]; exact w32_r _
    refine lv_iinc (v := oI y4_60) (lv' := [(4, .int (oI y4_60)), (0, .ref (wad w 3 o)), (3, .int (oI y3))]) X.1 X.2.1 dX5_hand_155 hl (k := 2) rfl (by rw [ey4_60]; exact oI_add _ _) (by decide) (by first | rfl | simp [catK, catI, catR, catL]) (fun ls hl => ?_)
    refine lv_goto (tgt := 130) X.1 X.2.1 dX5_hand_158 (by decide) ?_
    exact hK130 y3 y4_60 σ_59 _ _ _ ry3 ry4_60 (lv_sub hl [1, 2, 0] rfl) hWσ_59 hS h
theorem wk_Store_hand_L130 {p : Program} {l : Launch} {e : Env} {st : State} {m : MethodId} {args : Array Value} {below : List Frame} {meth : Method} {c : Code} {w : Wp} {o : Int} {x1 : Int} {Q : St → Prop} (X : CallFix p m c cX5_hand 5 st args lw_all RX5) (hr : meth.sig.returnType = none) (hlk : meth.locks = false) (hT : Tb w st) (hV : Hvl w) (ho : 0 ≤ o ∧ o < 2) (hx1 : 0 ≤ x1 ∧ x1 < 8) : ∀ (y3 y4 : Int) (σ : St) (H : Heap) (locs : List Loc) (ls : Array Slot), rI y3 → rI y4 → lv_has ls 5 [(0, .ref (wad w 3 o)), (3, .int (oI y3)), (4, .int (oI y4))] → Wo w σ H → va_S (wA w) st.heap H locs → lQ2 (wp_Store_hand_L130 (wc w) (wtv w) o x1 Q) y3 y4 σ → W p l e (headSpec (ws_ yX5_hand cX5_hand 5 none) rm_Store_hand).room st m args below meth c H locs 0 0 (MQ below (QcV w Q) args st 0 0 (wA w)) (F0 m 130 ls []) := by
  intro y3 y4 σ H locs ls ry3 ry4 hl hW hS h
  obtain ⟨fu, h⟩ := h
  induction fu generalizing y3 y4 σ H locs ls with
  | zero => exact h.elim
  | succ fu ih =>
    exact wk_Store_hand_L130B X hr hlk hT hV ho hx1 (lq2 (wp_Store_hand_L130 (wc w) (wtv w) o x1 Q) fu) (fun y3 y4 σ H locs ls ry3 ry4 hl hW hS h => ih y3 y4 σ H locs ls ry3 ry4 hl hW hS h) y3 y4 σ H locs ls ry3 ry4 hl hW hS h
set_option maxHeartbeats 4000000 in
set_option maxRecDepth 100000 in
theorem wk_Store_hand_b127 {p : Program} {l : Launch} {e : Env} {st : State} {m : MethodId} {args : Array Value} {below : List Frame} {meth : Method} {c : Code} {w : Wp} {o : Int} {x1 : Int} {Q : St → Prop} (X : CallFix p m c cX5_hand 5 st args lw_all RX5) (hr : meth.sig.returnType = none) (hlk : meth.locks = false) (hT : Tb w st) (hV : Hvl w) (ho : 0 ≤ o ∧ o < 2) (hx1 : 0 ≤ x1 ∧ x1 < 8) : ∀ (y3 : Int) (σ : St) (H : Heap) (locs : List Loc) (ls : Array Slot), rI y3 → lv_has ls 5 [(0, .ref (wad w 3 o)), (3, .int (oI y3))] → Wo w σ H → va_S (wA w) st.heap H locs → wp_Store_hand_b127 (wc w) (wtv w) o x1 Q y3 σ → W p l e (headSpec (ws_ yX5_hand cX5_hand 5 none) rm_Store_hand).room st m args below meth c H locs 0 0 (MQ below (QcV w Q) args st 0 0 (wA w)) (F0 m 127 ls []) := by

  intro y3 σ H locs ls ry3 hl hW hS h
  unfold wp_Store_hand_b127 at h
  refine lv_iload_n X.1 X.2.1 dX5_hand_127 rfl (lv_at hl 1 rfl) ?_
  refine lv_istore (i := 4) (lv' := [(4, .int (oI y3)), (0, .ref (wad w 3 o)), (3, .int (oI y3))]) X.1 X.2.1 dX5_hand_128 hl (by decide) (by first | rfl | simp [catK, catI, catR, catL]) (fun ls hl => ?_)
  exact wk_Store_hand_L130 X hr hlk hT hV ho hx1 y3 y3 σ _ _ _ ry3 ry3 (lv_sub hl [1, 2, 0] rfl) hW hS h
set_option maxHeartbeats 4000000 in
set_option maxRecDepth 100000 in
theorem wk_Store_hand_L103B {p : Program} {l : Launch} {e : Env} {st : State} {m : MethodId} {args : Array Value} {below : List Frame} {meth : Method} {c : Code} {w : Wp} {o : Int} {x1 : Int} {Q : St → Prop} (X : CallFix p m c cX5_hand 5 st args lw_all RX5) (hr : meth.sig.returnType = none) (hlk : meth.locks = false) (hT : Tb w st) (hV : Hvl w) (ho : 0 ≤ o ∧ o < 2) (hx1 : 0 ≤ x1 ∧ x1 < 8) (K103 : Int → Int → St → Prop) (hK103 : ∀ (y2 y3 : Int) (σ : St) (H : Heap) (locs : List Loc) (ls : Array Slot), rI y2 → rI y3 → lv_has ls 5 [(0, .ref (wad w 3 o)), (2, .int (oI y2)), (3, .int (oI y3))] → Wo w σ H → va_S (wA w) st.heap H locs → K103 y2 y3 σ → W p l e (headSpec (ws_ yX5_hand cX5_hand 5 none) rm_Store_hand).room st m args below meth c H locs 0 0 (MQ below (QcV w Q) args st 0 0 (wA w)) (F0 m 103 ls [])) : ∀ (y2 y3 : Int) (σ : St) (H : Heap) (locs : List Loc) (ls : Array Slot), rI y2 → rI y3 → lv_has ls 5 [(0, .ref (wad w 3 o)), (2, .int (oI y2)), (3, .int (oI y3))] → Wo w σ H → va_S (wA w) st.heap H locs → wp_Store_hand_L103 (wc w) (wtv w) o x1 Q K103 y2 y3 σ → W p l e (headSpec (ws_ yX5_hand cX5_hand 5 none) rm_Store_hand).room st m args below meth c H locs 0 0 (MQ below (QcV w Q) args st 0 0 (wA w)) (F0 m 103 ls []) := by
  have vl204_o : vl w 204 o := hV.hv 204 rfl ⟨by omega, by show _ < (2 : Int); omega⟩
  have vl3_o : vl w 3 o := hV.hv 3 rfl ⟨by omega, by show _ < (2 : Int); omega⟩
  intro y2 y3 σ H locs ls ry2 ry3 hl hW hS h
  unfold wp_Store_hand_L103 at h
  refine lv_iload_n X.1 X.2.1 dX5_hand_103 rfl (lv_at hl 2 rfl) ?_
  refine lv_aload_n X.1 X.2.1 dX5_hand_104 rfl (lv_at hl 0 rfl) ?_
  refine wg (v := .int (oI (gI σ 205 o))) X hT hW 3 13 205 vl3_o rfl rfl (by decide) rfl (by decide) in_X5 q540 rfl dX5_hand_105 ?_
  refine w_icmp_ge (tgt := 127) X ry3 (hW.r.i 205 o rfl) dX5_hand_108 (by decide) (fun hc => ?_) (fun hc => ?_)
  · have h := h.1 hc
    exact wk_Store_hand_b127 X hr hlk hT hV ho hx1 y3 σ _ _ _ ry3 (lv_sub hl [0, 2] rfl) hW hS h
  · have h := h.2 hc
    refine lv_aload_n X.1 X.2.1 dX5_hand_111 rfl (lv_at hl 0 rfl) ?_
    refine wg (v := .ref (wad w 204 o)) X hT hW 3 12 204 vl3_o rfl rfl (by decide) rfl (by decide) in_X5 q539 rfl dX5_hand_112 ?_
    refine lv_iload_n X.1 X.2.1 dX5_hand_115 rfl (lv_at hl 2 rfl) ?_
    obtain ⟨bi, h⟩ := h
    refine w_iald (n := 128) X hT hW 204 vl204_o (by decide) rfl rfl bi dX5_hand_116 ?_
    refine lv_iload_n X.1 X.2.1 dX5_hand_117 rfl (lv_at hl 1 rfl) ?_
    refine w_icmp_gt (tgt := 127) X (hW.r.ai 204 o y3 rfl) ry2 dX5_hand_118 (by decide) (fun hc => ?_) (fun hc => ?_)
    · have h := h.1 hc
      exact wk_Store_hand_b127 X hr hlk hT hV ho hx1 y3 σ _ _ _ ry3 (lv_sub hl [0, 2] rfl) hW hS h
    · have h := h.2 hc
      obtain ⟨y3_61, ey3_61⟩ : ∃ y : Int, y = w32 (y3 + 1) := ⟨_, rfl⟩
      have h := h y3_61 ey3_61
      have ry3_61 : rI y3_61 := by rw [ey3_61]; exact w32_r _
      refine lv_iinc (v := oI y3_61) (lv' := [(3, .int (oI y3_61)), (0, .ref (wad w 3 o)), (2, .int (oI y2))]) X.1 X.2.1 dX5_hand_121 hl (k := 2) rfl (by rw [ey3_61]; exact oI_add _ _) (by decide) (by first | rfl | simp [catK, catI, catR, catL]) (fun ls hl => ?_)
      refine lv_goto (tgt := 103) X.1 X.2.1 dX5_hand_124 (by decide) ?_
      exact hK103 y2 y3_61 σ _ _ _ ry2 ry3_61 (lv_sub hl [1, 2, 0] rfl) hW hS h
theorem wk_Store_hand_L103 {p : Program} {l : Launch} {e : Env} {st : State} {m : MethodId} {args : Array Value} {below : List Frame} {meth : Method} {c : Code} {w : Wp} {o : Int} {x1 : Int} {Q : St → Prop} (X : CallFix p m c cX5_hand 5 st args lw_all RX5) (hr : meth.sig.returnType = none) (hlk : meth.locks = false) (hT : Tb w st) (hV : Hvl w) (ho : 0 ≤ o ∧ o < 2) (hx1 : 0 ≤ x1 ∧ x1 < 8) : ∀ (y2 y3 : Int) (σ : St) (H : Heap) (locs : List Loc) (ls : Array Slot), rI y2 → rI y3 → lv_has ls 5 [(0, .ref (wad w 3 o)), (2, .int (oI y2)), (3, .int (oI y3))] → Wo w σ H → va_S (wA w) st.heap H locs → lQ2 (wp_Store_hand_L103 (wc w) (wtv w) o x1 Q) y2 y3 σ → W p l e (headSpec (ws_ yX5_hand cX5_hand 5 none) rm_Store_hand).room st m args below meth c H locs 0 0 (MQ below (QcV w Q) args st 0 0 (wA w)) (F0 m 103 ls []) := by
  intro y2 y3 σ H locs ls ry2 ry3 hl hW hS h
  obtain ⟨fu, h⟩ := h
  induction fu generalizing y2 y3 σ H locs ls with
  | zero => exact h.elim
  | succ fu ih =>
    exact wk_Store_hand_L103B X hr hlk hT hV ho hx1 (lq2 (wp_Store_hand_L103 (wc w) (wtv w) o x1 Q) fu) (fun y2 y3 σ H locs ls ry2 ry3 hl hW hS h => ih y2 y3 σ H locs ls ry2 ry3 hl hW hS h) y2 y3 σ H locs ls ry2 ry3 hl hW hS h
set_option maxHeartbeats 4000000 in
set_option maxRecDepth 100000 in
theorem wk_Store_hand_b22 {p : Program} {l : Launch} {e : Env} {st : State} {m : MethodId} {args : Array Value} {below : List Frame} {meth : Method} {c : Code} {w : Wp} {o : Int} {x1 : Int} {Q : St → Prop} (X : CallFix p m c cX5_hand 5 st args lw_all RX5) (hr : meth.sig.returnType = none) (hlk : meth.locks = false) (hT : Tb w st) (hV : Hvl w) (ho : 0 ≤ o ∧ o < 2) (hx1 : 0 ≤ x1 ∧ x1 < 8) : ∀ (σ : St) (H : Heap) (locs : List Loc) (ls : Array Slot), lv_has ls 5 [(0, .ref (wad w 3 o)), (1, .ref (wad w 8 x1))] → Wo w σ H → va_S (wA w) st.heap H locs → wp_Store_hand_b22 (wc w) (wtv w) o x1 Q σ → W p l e (headSpec (ws_ yX5_hand cX5_hand 5 none) rm_Store_hand).room st m args below meth c H locs 0 0 (MQ below (QcV w Q) args st 0 0 (wA w)) (F0 m 22 ls []) := by
  have vl204_o : vl w 204 o := hV.hv 204 rfl ⟨by omega, by show _ < (2 : Int); omega⟩
  have vl3_o : vl w 3 o := hV.hv 3 rfl ⟨by omega, by show _ < (2 : Int); omega⟩
  have vl512_x1 : vl w 512 x1 := hV.hv 512 rfl ⟨by omega, by show _ < (8 : Int); omega⟩
  have vl7_o : vl w 7 o := hV.hv 7 rfl ⟨by omega, by show _ < (6 : Int); omega⟩
  have vl8_x1 : vl w 8 x1 := hV.hv 8 rfl ⟨by omega, by show _ < (8 : Int); omega⟩
  intro σ H locs ls hl hW hS h
  unfold wp_Store_hand_b22 at h
  refine lv_aload_n X.1 X.2.1 dX5_hand_22 rfl (lv_at hl 0 rfl) ?_
  refine lv_aload_n X.1 X.2.1 dX5_hand_23 rfl (lv_at hl 1 rfl) ?_
  refine wr_V (rV (As := [.ref (wad w 8 x1)]) (rest := []) X hT hW hS (met_Store_number l (w := w) hV o x1 _ σ (by omega) (by omega) h) (cwV 1 X.2.2.2.2 (lw_V q1337 q1339 qs48 q136 q1340) rfl rfl rfl (by decide +kernel) ⟨Nat.le_of_ble_eq_true rfl, Nat.le_of_ble_eq_true rfl⟩) vl3_o (by decide) rfl rfl hl.1 rfl (by first | exact Nat.le_of_ble_eq_true rfl | simp [catK, catI, catR, catL]) dX5_hand_24 ⟨Nat.le_refl _, Nat.le_refl _⟩) hS (fun σ_63 H locs rkσ_63 h hWσ_63 hS => ?_)
  have h := h rkσ_63
  refine lv_aload_n X.1 X.2.1 dX5_hand_27 rfl (lv_at hl 0 rfl) ?_
  refine lv_aload_n X.1 X.2.1 dX5_hand_28 rfl (lv_at hl 0 rfl) ?_
  refine wg (v := .ref (wad w 7 o)) X hT hWσ_63 3 3 195 vl3_o rfl rfl (by decide) rfl (by decide) in_X5 q528 rfl dX5_hand_29 ?_
  refine wg (v := .int (oI (gI σ_63 451 o))) X hT hWσ_63 7 3 451 vl7_o rfl rfl (by decide) rfl (by decide) in_X10 q509 rfl dX5_hand_32 ?_
  refine wput (z := gI σ_63 451 o) X hT hWσ_63 hS 3 14 206 vl3_o rfl rfl (by decide) rfl (by decide) in_X5 tyX5 tyX5_ok nmX5 q542 rfl rfl (hWσ_63.r.i 451 o rfl) (fv0 w rfl) rfl rfl dX5_hand_35 (fun H locs hN hS => ?_)
  obtain ⟨σ_64, eσ_64⟩ : ∃ x, x = sI σ_63 206 o (gI σ_63 451 o) := ⟨_, rfl⟩
  have hWσ_64 : Wo w σ_64 H := eσ_64 ▸ hN
  have h := h σ_64 eσ_64
  clear hN
  refine lv_aload_n X.1 X.2.1 dX5_hand_38 rfl (lv_at hl 0 rfl) ?_
  refine lv_aload_n X.1 X.2.1 dX5_hand_39 rfl (lv_at hl 0 rfl) ?_
  refine wg (v := .ref (wad w 7 o)) X hT hWσ_64 3 3 195 vl3_o rfl rfl (by decide) rfl (by decide) in_X5 q528 rfl dX5_hand_40 ?_
  refine lv_aload_n X.1 X.2.1 dX5_hand_43 rfl (lv_at hl 1 rfl) ?_
  refine wg (v := .ref (wad w 512 x1)) X hT hWσ_64 8 0 512 vl8_x1 rfl rfl (by decide) rfl (by decide) in_X2 q166 rfl dX5_hand_44 ?_
  refine lv_iconst (v := oI 0) X.1 X.2.1 dX5_hand_47 rfl ?_
  refine lv_aload_n X.1 X.2.1 dX5_hand_48 rfl (lv_at hl 1 rfl) ?_
  refine wg (v := .int (oI (gI σ_64 514 x1))) X hT hWσ_64 8 2 514 vl8_x1 rfl rfl (by decide) rfl (by decide) in_X2 q172 rfl dX5_hand_49 ?_
  refine wr_I (rV (As := [.ref (wad w 512 x1), .int (oI 0), .int (oI (gI σ_64 514 x1))]) (rest := [.ref (wad w 3 o)]) X hT hWσ_64 hS (met_Writer_put l (w := w) hV o 512 x1 0 (gI σ_64 514 x1) _ σ_64 (by omega) vl512_x1 (by decide) rfl rZ_0.i (hWσ_64.r.i 514 x1 rfl) h) (cwV 3 X.2.2.2.2 (lw_V q856 q857 q858 q141 q859) rfl rfl rfl (by decide +kernel) ⟨Nat.le_of_ble_eq_true rfl, Nat.le_of_ble_eq_true rfl⟩) vl7_o (by decide) rfl rfl hl.1 rfl (by first | exact Nat.le_of_ble_eq_true rfl | simp [catK, catI, catR, catL]) dX5_hand_52 ⟨Nat.le_refl _, Nat.le_refl _⟩) hS (fun r_65 σ_66 H locs rr_65 rkσ_66 h hWσ_66 hS => ?_)
  have h := h rr_65 rkσ_66
  refine wput (z := r_65) X hT hWσ_66 hS 3 15 207 vl3_o rfl rfl (by decide) rfl (by decide) in_X5 tyX5 tyX5_ok nmX5 q544 rfl rfl rr_65 (fv0 w rfl) rfl rfl dX5_hand_55 (fun H locs hN hS => ?_)
  obtain ⟨σ_67, eσ_67⟩ : ∃ x, x = sI σ_66 207 o r_65 := ⟨_, rfl⟩
  have hWσ_67 : Wo w σ_67 H := eσ_67 ▸ hN
  have h := h σ_67 eσ_67
  clear hN
  refine lv_aload_n X.1 X.2.1 dX5_hand_58 rfl (lv_at hl 0 rfl) ?_
  refine wg (v := .ref (wad w 204 o)) X hT hWσ_67 3 12 204 vl3_o rfl rfl (by decide) rfl (by decide) in_X5 q539 rfl dX5_hand_59 ?_
  refine lv_aload_n X.1 X.2.1 dX5_hand_62 rfl (lv_at hl 0 rfl) ?_
  refine lv_dup X.1 X.2.1 dX5_hand_63 rfl ?_
  refine wg (v := .int (oI (gI σ_67 205 o))) X hT hWσ_67 3 13 205 vl3_o rfl rfl (by decide) rfl (by decide) in_X5 q540 rfl dX5_hand_64 ?_
  refine lv_dup_x1 X.1 X.2.1 dX5_hand_67 rfl rfl ?_
  refine lv_iconst (v := oI 1) X.1 X.2.1 dX5_hand_68 rfl ?_
  refine w_iadd X dX5_hand_69 ?_
  refine wput (z := w32 ((gI σ_67 205 o) + 1)) X hT hWσ_67 hS 3 13 205 vl3_o rfl rfl (by decide) rfl (by decide) in_X5 tyX5 tyX5_ok nmX5 q540 rfl rfl (w32_r _) (fv0 w rfl) rfl rfl dX5_hand_70 (fun H locs hN hS => ?_)
  obtain ⟨σ_68, eσ_68⟩ : ∃ x, x = sI σ_67 205 o (w32 ((gI σ_67 205 o) + 1)) := ⟨_, rfl⟩
  have hWσ_68 : Wo w σ_68 H := eσ_68 ▸ hN
  have h := h σ_68 eσ_68
  clear hN
  refine lv_aload_n X.1 X.2.1 dX5_hand_73 rfl (lv_at hl 0 rfl) ?_
  refine wg (v := .ref (wad w 7 o)) X hT hWσ_68 3 3 195 vl3_o rfl rfl (by decide) rfl (by decide) in_X5 q528 rfl dX5_hand_74 ?_
  refine wg (v := .int (oI (gI σ_68 452 o))) X hT hWσ_68 7 4 452 vl7_o rfl rfl (by decide) rfl (by decide) in_X10 q511 rfl dX5_hand_77 ?_
  obtain ⟨bi, h⟩ := h
  refine w_iast (n := 128) X hT hWσ_68 hS 204 vl204_o (by decide) rfl rfl bi (hWσ_68.r.i 452 o rfl) dX5_hand_80 (fun H locs hN hS => ?_)
  obtain ⟨σ_69, eσ_69⟩ : ∃ x, x = sA σ_68 204 o (gI σ_67 205 o) (gI σ_68 452 o) := ⟨_, rfl⟩
  have hWσ_69 : Wo w σ_69 H := eσ_69 ▸ hN
  have h := h σ_69 eσ_69
  clear hN
  refine lv_aload_n X.1 X.2.1 dX5_hand_81 rfl (lv_at hl 0 rfl) ?_
  refine wg (v := .ref (wad w 7 o)) X hT hWσ_69 3 3 195 vl3_o rfl rfl (by decide) rfl (by decide) in_X5 q528 rfl dX5_hand_82 ?_
  refine wg (v := .int (oI (gI σ_69 452 o))) X hT hWσ_69 7 4 452 vl7_o rfl rfl (by decide) rfl (by decide) in_X10 q511 rfl dX5_hand_85 ?_
  refine lv_aload_n X.1 X.2.1 dX5_hand_88 rfl (lv_at hl 0 rfl) ?_
  refine wg (v := .ref (wad w 7 o)) X hT hWσ_69 3 3 195 vl3_o rfl rfl (by decide) rfl (by decide) in_X5 q528 rfl dX5_hand_89 ?_
  refine wg (v := .int (oI (gI σ_69 452 o))) X hT hWσ_69 7 4 452 vl7_o rfl rfl (by decide) rfl (by decide) in_X10 q511 rfl dX5_hand_92 ?_
  refine lv_sipush (v := oI 128) X.1 X.2.1 dX5_hand_95 (by decide) ?_
  refine w_irem X (hWσ_69.r.i 452 o rfl) (rI_lit 128 (by decide)) (by decide) dX5_hand_98 ?_
  refine w_isub X dX5_hand_99 ?_
  refine w_top (fun y2_70 ey2_70 => ?_)
  have h := h y2_70 ey2_70
  have ry2_70 : rI y2_70 := by rw [ey2_70]; exact (w32_r _)
  refine lv_istore_n (i := 2) (lv' := [(2, .int (oI y2_70)), (0, .ref (wad w 3 o)), (1, .ref (wad w 8 x1))]) X.1 X.2.1 dX5_hand_100 rfl hl (by decide) (by first | rfl | simp [catK, catI, catR, catL]) (fun ls hl => ?_)
  refine lv_iconst (v := oI 0) X.1 X.2.1 dX5_hand_101 rfl ?_
  refine lv_istore_n (i := 3) (lv' := [(3, .int (oI 0)), (2, .int (oI y2_70)), (0, .ref (wad w 3 o)), (1, .ref (wad w 8 x1))]) X.1 X.2.1 dX5_hand_102 rfl hl (by decide) (by first | rfl | simp [catK, catI, catR, catL]) (fun ls hl => ?_)
  exact wk_Store_hand_L103 X hr hlk hT hV ho hx1 y2_70 0 σ_69 _ _ _ ry2_70 rZ_0.i (lv_sub hl [2, 1, 0] rfl) hWσ_69 hS h
set_option maxHeartbeats 4000000 in
set_option maxRecDepth 100000 in
theorem met_Store_hand (l : Launch) {w : Wp} (hV : Hvl w) (o : Int) (x1 : Int) (Q : St → Prop) (σ : St) (ho : 0 ≤ o ∧ o < 2) (hx1 : 0 ≤ x1 ∧ x1 < 8) (h : wp_Store_hand (wc w) (wtv w) o x1 Q σ) : Met l yX5_hand (ws_ yX5_hand cX5_hand 5 none) rm_Store_hand (PcW w σ [.ref (wad w 3 o), .ref (wad w 8 x1)]) (QcV w Q) 0 0 (wA w) := by
  refine Met.ofW (cc := cX5_hand) (maxL := 5) (ret := none) (by decide) rfl ?_
  intro p e st m args below meth c s₁ B hml hv
  obtain ⟨hargs, hW, hT⟩ := hv
  have X : CallFix p m c cX5_hand 5 st _ lw_all RX5 := ⟨B.exec, B.bytes, hml, findClass_of_methodNamed B.named, fun w h => atoms_spec (ws := ws_ yX5_hand cX5_hand 5 none) B.pre w (List.mem_cons_of_mem _ h)⟩
  have hr := B.returns
  have hlk := B.notSynchronized
  have hS : va_S (wA w) st.heap st.heap [] := va_S.rf
  have vl3_o : vl w 3 o := hV.hv 3 rfl ⟨by omega, by show _ < (2 : Int); omega⟩
  have vl7_o : vl w 7 o := hV.hv 7 rfl ⟨by omega, by show _ < (6 : Int); omega⟩
  have vl8_x1 : vl w 8 x1 := hV.hv 8 rfl ⟨by omega, by show _ < (8 : Int); omega⟩
  have hl := lv_entry ([.ref (wad w 3 o), .ref (wad w 8 x1)]) (n := 5) (Nat.le_of_ble_eq_true rfl)
  have hfr := lg_entry_eq m ([.ref (wad w 3 o), .ref (wad w 8 x1)]) 5
  rw [← hargs] at hfr
  rw [hfr]
  generalize (lg_sl ([.ref (wad w 3 o), .ref (wad w 8 x1)]) ++ List.replicate (5 - (lg_sl ([.ref (wad w 3 o), .ref (wad w 8 x1)])).length) Slot.unset).toArray = ls at hl ⊢
  have hl : lv_has ls 5 [(0, .ref (wad w 3 o)), (1, .ref (wad w 8 x1))] := hl
  unfold wp_Store_hand at h
  refine lv_aload_n X.1 X.2.1 dX5_hand_0 rfl (lv_at hl 0 rfl) ?_
  refine wr_V (rV (As := []) (rest := []) X hT hW hS (met_Store_finish l (w := w) hV o _ σ (by omega) h) (cwV 0 X.2.2.2.2 (lw_V q963 q964 q965 q136 q966) rfl rfl rfl (by decide +kernel) ⟨Nat.le_of_ble_eq_true rfl, Nat.le_of_ble_eq_true rfl⟩) vl3_o (by decide) rfl rfl hl.1 rfl (by first | exact Nat.le_of_ble_eq_true rfl | simp [catK, catI, catR, catL]) dX5_hand_1 ⟨Nat.le_refl _, Nat.le_refl _⟩) hS (fun σ_72 H locs rkσ_72 h hWσ_72 hS => ?_)
  have h := h rkσ_72
  refine lv_aload_n X.1 X.2.1 dX5_hand_4 rfl (lv_at hl 0 rfl) ?_
  refine wg (v := .ref (wad w 7 o)) X hT hWσ_72 3 3 195 vl3_o rfl rfl (by decide) rfl (by decide) in_X5 q528 rfl dX5_hand_5 ?_
  refine lv_aload_n X.1 X.2.1 dX5_hand_8 rfl (lv_at hl 1 rfl) ?_
  refine wg (v := .int (oI (gI σ_72 514 x1))) X hT hWσ_72 8 2 514 vl8_x1 rfl rfl (by decide) rfl (by decide) in_X2 q172 rfl dX5_hand_9 ?_
  refine wr_Z (rV (As := [.int (oI (gI σ_72 514 x1))]) (rest := []) X hT hWσ_72 hS (met_Writer_takes l (w := w) hV o (gI σ_72 514 x1) _ σ_72 (by omega) (hWσ_72.r.i 514 x1 rfl) h) (cwV 1 X.2.2.2.2 (lw_V q987 q988 q989 q141 q990) rfl rfl rfl (by decide +kernel) ⟨Nat.le_of_ble_eq_true rfl, Nat.le_of_ble_eq_true rfl⟩) vl7_o (by decide) rfl rfl hl.1 rfl (by first | exact Nat.le_of_ble_eq_true rfl | simp [catK, catI, catR, catL]) dX5_hand_12 ⟨Nat.le_refl _, Nat.le_refl _⟩) hS (fun r_73 σ_74 H locs rr_73 rkσ_74 h hWσ_74 hS => ?_)
  have h := h rr_73 rkσ_74
  refine w_if_ne (tgt := 22) X rr_73.i dX5_hand_15 (by decide) (fun hc => ?_) (fun hc => ?_)
  · have h := h.1 hc
    exact wk_Store_hand_b22 X hr hlk hT hV ho hx1 σ_74 _ _ _ (lv_sub hl [0, 1] rfl) hWσ_74 hS h
  · have h := h.2 hc
    refine lv_aload_n X.1 X.2.1 dX5_hand_18 rfl (lv_at hl 0 rfl) ?_
    refine wr_V (rV (As := []) (rest := []) X hT hWσ_74 hS (met_Store_bud l (w := w) hV o _ σ_74 (by omega) h) (cwV 0 X.2.2.2.2 (lw_V q1261 q1263 qs40 q136 q1264) rfl rfl rfl (by decide +kernel) ⟨Nat.le_of_ble_eq_true rfl, Nat.le_of_ble_eq_true rfl⟩) vl3_o (by decide) rfl rfl hl.1 rfl (by first | exact Nat.le_of_ble_eq_true rfl | simp [catK, catI, catR, catL]) dX5_hand_19 ⟨Nat.le_refl _, Nat.le_refl _⟩) hS (fun σ_76 H locs rkσ_76 h hWσ_76 hS => ?_)
    have h := h rkσ_76
    exact wk_Store_hand_b22 X hr hlk hT hV ho hx1 σ_76 _ _ _ (lv_sub hl [0, 1] rfl) hWσ_76 hS h
/-! Store.name(IZ)V -/
set_option maxHeartbeats 4000000 in
set_option maxRecDepth 100000 in
theorem wk_Store_name_b63 {p : Program} {l : Launch} {e : Env} {st : State} {m : MethodId} {args : Array Value} {below : List Frame} {meth : Method} {c : Code} {w : Wp} {o : Int} {x1 : Int} {x2 : Int} {Q : St → Prop} (X : CallFix p m c cX5_name 4 st args lw_all RX5) (hr : meth.sig.returnType = none) (hlk : meth.locks = false) (hT : Tb w st) (hV : Hvl w) (ho : 0 ≤ o ∧ o < 2) (rx1 : rI x1) (rx2 : rZ x2) : ∀ (y3 : Int) (σ : St) (H : Heap) (locs : List Loc) (ls : Array Slot), rI y3 → lv_has ls 4 [(0, .ref (wad w 3 o)), (1, .int (oI x1)), (2, .int (oI x2)), (3, .int (oI y3))] → Wo w σ H → va_S (wA w) st.heap H locs → wp_Store_name_b63 (wc w) (wtv w) o x1 x2 Q y3 σ → W p l e (headSpec (ws_ yX5_name cX5_name 4 none) rm_Store_name).room st m args below meth c H locs 0 0 (MQ below (QcV w Q) args st 0 0 (wA w)) (F0 m 63 ls []) := by
  have vl217_o : vl w 217 o := hV.hv 217 rfl ⟨by omega, by show _ < (2 : Int); omega⟩
  have vl3_o : vl w 3 o := hV.hv 3 rfl ⟨by omega, by show _ < (2 : Int); omega⟩
  intro y3 σ H locs ls ry3 hl hW hS h
  unfold wp_Store_name_b63 at h
  refine lv_iload_n X.1 X.2.1 dX5_name_63 rfl (lv_at hl 3 rfl) ?_
  refine lv_aload_n X.1 X.2.1 dX5_name_64 rfl (lv_at hl 0 rfl) ?_
  refine wg (v := .int (oI (gI σ 218 o))) X hT hW 3 26 218 vl3_o rfl rfl (by decide) rfl (by decide) in_X5 q557 rfl dX5_name_65 ?_
  refine w_icmp_ne (tgt := 92) X ry3 (hW.r.i 218 o rfl) dX5_name_68 (by decide) (fun hc => ?_) (fun hc => ?_)
  · have h := h.1 hc
    exact wret_V X hr hlk hW hS h dX5_name_92
  · have h := h.2 hc
    refine lv_iload_n X.1 X.2.1 dX5_name_71 rfl (lv_at hl 2 rfl) ?_
    refine w_if_eq (tgt := 92) X rx2.i dX5_name_72 (by decide) (fun hc => ?_) (fun hc => ?_)
    · have h := h.1 hc
      exact wret_V X hr hlk hW hS h dX5_name_92
    · have h := h.2 hc
      refine lv_aload_n X.1 X.2.1 dX5_name_75 rfl (lv_at hl 0 rfl) ?_
      refine wg (v := .ref (wad w 217 o)) X hT hW 3 25 217 vl3_o rfl rfl (by decide) rfl (by decide) in_X5 q555 rfl dX5_name_76 ?_
      refine lv_aload_n X.1 X.2.1 dX5_name_79 rfl (lv_at hl 0 rfl) ?_
      refine lv_dup X.1 X.2.1 dX5_name_80 rfl ?_
      refine wg (v := .int (oI (gI σ 218 o))) X hT hW 3 26 218 vl3_o rfl rfl (by decide) rfl (by decide) in_X5 q557 rfl dX5_name_81 ?_
      refine lv_dup_x1 X.1 X.2.1 dX5_name_84 rfl rfl ?_
      refine lv_iconst (v := oI 1) X.1 X.2.1 dX5_name_85 rfl ?_
      refine w_iadd X dX5_name_86 ?_
      refine wput (z := w32 ((gI σ 218 o) + 1)) X hT hW hS 3 26 218 vl3_o rfl rfl (by decide) rfl (by decide) in_X5 tyX5 tyX5_ok nmX5 q557 rfl rfl (w32_r _) (fv0 w rfl) rfl rfl dX5_name_87 (fun H locs hN hS => ?_)
      obtain ⟨σ_16, eσ_16⟩ : ∃ x, x = sI σ 218 o (w32 ((gI σ 218 o) + 1)) := ⟨_, rfl⟩
      have hWσ_16 : Wo w σ_16 H := eσ_16 ▸ hN
      have h := h σ_16 eσ_16
      clear hN
      refine lv_iload_n X.1 X.2.1 dX5_name_90 rfl (lv_at hl 1 rfl) ?_
      obtain ⟨bi, h⟩ := h
      refine w_iast (n := 16) X hT hWσ_16 hS 217 vl217_o (by decide) rfl rfl bi rx1 dX5_name_91 (fun H locs hN hS => ?_)
      obtain ⟨σ_17, eσ_17⟩ : ∃ x, x = sA σ_16 217 o (gI σ 218 o) x1 := ⟨_, rfl⟩
      have hWσ_17 : Wo w σ_17 H := eσ_17 ▸ hN
      have h := h σ_17 eσ_17
      clear hN
      exact wret_V X hr hlk hWσ_17 hS h dX5_name_92
set_option maxHeartbeats 4000000 in
set_option maxRecDepth 100000 in
theorem wk_Store_name_b26 {p : Program} {l : Launch} {e : Env} {st : State} {m : MethodId} {args : Array Value} {below : List Frame} {meth : Method} {c : Code} {w : Wp} {o : Int} {x1 : Int} {x2 : Int} {Q : St → Prop} (X : CallFix p m c cX5_name 4 st args lw_all RX5) (hr : meth.sig.returnType = none) (hlk : meth.locks = false) (hT : Tb w st) (hV : Hvl w) (ho : 0 ≤ o ∧ o < 2) (rx1 : rI x1) (rx2 : rZ x2) : ∀ (y3 : Int) (σ : St) (H : Heap) (locs : List Loc) (ls : Array Slot), rI y3 → lv_has ls 4 [(0, .ref (wad w 3 o)), (1, .int (oI x1)), (2, .int (oI x2)), (3, .int (oI y3))] → Wo w σ H → va_S (wA w) st.heap H locs → wp_Store_name_b26 (wc w) (wtv w) o x1 x2 Q y3 σ → W p l e (headSpec (ws_ yX5_name cX5_name 4 none) rm_Store_name).room st m args below meth c H locs 0 0 (MQ below (QcV w Q) args st 0 0 (wA w)) (F0 m 26 ls []) := by
  have vl217_o : vl w 217 o := hV.hv 217 rfl ⟨by omega, by show _ < (2 : Int); omega⟩
  have vl3_o : vl w 3 o := hV.hv 3 rfl ⟨by omega, by show _ < (2 : Int); omega⟩
  intro y3 σ H locs ls ry3 hl hW hS h
  unfold wp_Store_name_b26 at h
  refine lv_iload_n X.1 X.2.1 dX5_name_26 rfl (lv_at hl 3 rfl) ?_
  refine lv_aload_n X.1 X.2.1 dX5_name_27 rfl (lv_at hl 0 rfl) ?_
  refine wg (v := .int (oI (gI σ 218 o))) X hT hW 3 26 218 vl3_o rfl rfl (by decide) rfl (by decide) in_X5 q557 rfl dX5_name_28 ?_
  refine w_icmp_ge (tgt := 63) X ry3 (hW.r.i 218 o rfl) dX5_name_31 (by decide) (fun hc => ?_) (fun hc => ?_)
  · have h := h.1 hc
    exact wk_Store_name_b63 X hr hlk hT hV ho rx1 rx2 y3 σ _ _ _ ry3 (lv_sub hl [0, 1, 2, 3] rfl) hW hS h
  · have h := h.2 hc
    refine lv_iload_n X.1 X.2.1 dX5_name_34 rfl (lv_at hl 2 rfl) ?_
    refine w_if_ne (tgt := 63) X rx2.i dX5_name_35 (by decide) (fun hc => ?_) (fun hc => ?_)
    · have h := h.1 hc
      exact wk_Store_name_b63 X hr hlk hT hV ho rx1 rx2 y3 σ _ _ _ ry3 (lv_sub hl [0, 1, 2, 3] rfl) hW hS h
    · have h := h.2 hc
      refine lv_aload_n X.1 X.2.1 dX5_name_38 rfl (lv_at hl 0 rfl) ?_
      refine wg (v := .ref (wad w 217 o)) X hT hW 3 25 217 vl3_o rfl rfl (by decide) rfl (by decide) in_X5 q555 rfl dX5_name_39 ?_
      refine lv_iload_n X.1 X.2.1 dX5_name_42 rfl (lv_at hl 3 rfl) ?_
      refine lv_aload_n X.1 X.2.1 dX5_name_43 rfl (lv_at hl 0 rfl) ?_
      refine wg (v := .ref (wad w 217 o)) X hT hW 3 25 217 vl3_o rfl rfl (by decide) rfl (by decide) in_X5 q555 rfl dX5_name_44 ?_
      refine lv_aload_n X.1 X.2.1 dX5_name_47 rfl (lv_at hl 0 rfl) ?_
      refine lv_dup X.1 X.2.1 dX5_name_48 rfl ?_
      refine wg (v := .int (oI (gI σ 218 o))) X hT hW 3 26 218 vl3_o rfl rfl (by decide) rfl (by decide) in_X5 q557 rfl dX5_name_49 ?_
      refine lv_iconst (v := oI 1) X.1 X.2.1 dX5_name_52 rfl ?_
      refine w_isub X dX5_name_53 ?_
      refine lv_dup_x1 X.1 X.2.1 dX5_name_54 rfl rfl ?_
      refine wput (z := w32 ((gI σ 218 o) - 1)) X hT hW hS 3 26 218 vl3_o rfl rfl (by decide) rfl (by decide) in_X5 tyX5 tyX5_ok nmX5 q557 rfl rfl (w32_r _) (fv0 w rfl) rfl rfl dX5_name_55 (fun H locs hN hS => ?_)
      obtain ⟨σ_18, eσ_18⟩ : ∃ x, x = sI σ 218 o (w32 ((gI σ 218 o) - 1)) := ⟨_, rfl⟩
      have hWσ_18 : Wo w σ_18 H := eσ_18 ▸ hN
      have h := h σ_18 eσ_18
      clear hN
      obtain ⟨bi, h⟩ := h
      refine w_iald (n := 16) X hT hWσ_18 217 vl217_o (by decide) rfl rfl bi dX5_name_58 ?_
      obtain ⟨bi, h⟩ := h
      refine w_iast (n := 16) X hT hWσ_18 hS 217 vl217_o (by decide) rfl rfl bi (hWσ_18.r.ai 217 o (w32 ((gI σ 218 o) - 1)) rfl) dX5_name_59 (fun H locs hN hS => ?_)
      obtain ⟨σ_19, eσ_19⟩ : ∃ x, x = sA σ_18 217 o y3 (gA σ_18 217 o (w32 ((gI σ 218 o) - 1))) := ⟨_, rfl⟩
      have hWσ_19 : Wo w σ_19 H := eσ_19 ▸ hN
      have h := h σ_19 eσ_19
      clear hN
      refine lv_goto (tgt := 92) X.1 X.2.1 dX5_name_60 (by decide) ?_
      exact wret_V X hr hlk hWσ_19 hS h dX5_name_92
set_option maxHeartbeats 4000000 in
set_option maxRecDepth 100000 in
theorem wk_Store_name_L2B {p : Program} {l : Launch} {e : Env} {st : State} {m : MethodId} {args : Array Value} {below : List Frame} {meth : Method} {c : Code} {w : Wp} {o : Int} {x1 : Int} {x2 : Int} {Q : St → Prop} (X : CallFix p m c cX5_name 4 st args lw_all RX5) (hr : meth.sig.returnType = none) (hlk : meth.locks = false) (hT : Tb w st) (hV : Hvl w) (ho : 0 ≤ o ∧ o < 2) (rx1 : rI x1) (rx2 : rZ x2) (K2 : Int → St → Prop) (hK2 : ∀ (y3 : Int) (σ : St) (H : Heap) (locs : List Loc) (ls : Array Slot), rI y3 → lv_has ls 4 [(0, .ref (wad w 3 o)), (1, .int (oI x1)), (2, .int (oI x2)), (3, .int (oI y3))] → Wo w σ H → va_S (wA w) st.heap H locs → K2 y3 σ → W p l e (headSpec (ws_ yX5_name cX5_name 4 none) rm_Store_name).room st m args below meth c H locs 0 0 (MQ below (QcV w Q) args st 0 0 (wA w)) (F0 m 2 ls [])) : ∀ (y3 : Int) (σ : St) (H : Heap) (locs : List Loc) (ls : Array Slot), rI y3 → lv_has ls 4 [(0, .ref (wad w 3 o)), (1, .int (oI x1)), (2, .int (oI x2)), (3, .int (oI y3))] → Wo w σ H → va_S (wA w) st.heap H locs → wp_Store_name_L2 (wc w) (wtv w) o x1 x2 Q K2 y3 σ → W p l e (headSpec (ws_ yX5_name cX5_name 4 none) rm_Store_name).room st m args below meth c H locs 0 0 (MQ below (QcV w Q) args st 0 0 (wA w)) (F0 m 2 ls []) := by
  have vl217_o : vl w 217 o := hV.hv 217 rfl ⟨by omega, by show _ < (2 : Int); omega⟩
  have vl3_o : vl w 3 o := hV.hv 3 rfl ⟨by omega, by show _ < (2 : Int); omega⟩
  intro y3 σ H locs ls ry3 hl hW hS h
  unfold wp_Store_name_L2 at h
  refine lv_iload_n X.1 X.2.1 dX5_name_2 rfl (lv_at hl 3 rfl) ?_
  refine lv_aload_n X.1 X.2.1 dX5_name_3 rfl (lv_at hl 0 rfl) ?_
  refine wg (v := .int (oI (gI σ 218 o))) X hT hW 3 26 218 vl3_o rfl rfl (by decide) rfl (by decide) in_X5 q557 rfl dX5_name_4 ?_
  refine w_icmp_ge (tgt := 26) X ry3 (hW.r.i 218 o rfl) dX5_name_7 (by decide) (fun hc => ?_) (fun hc => ?_)
  · have h := h.1 hc
    exact wk_Store_name_b26 X hr hlk hT hV ho rx1 rx2 y3 σ _ _ _ ry3 (lv_sub hl [0, 1, 2, 3] rfl) hW hS h
  · have h := h.2 hc
    refine lv_aload_n X.1 X.2.1 dX5_name_10 rfl (lv_at hl 0 rfl) ?_
    refine wg (v := .ref (wad w 217 o)) X hT hW 3 25 217 vl3_o rfl rfl (by decide) rfl (by decide) in_X5 q555 rfl dX5_name_11 ?_
    refine lv_iload_n X.1 X.2.1 dX5_name_14 rfl (lv_at hl 3 rfl) ?_
    obtain ⟨bi, h⟩ := h
    refine w_iald (n := 16) X hT hW 217 vl217_o (by decide) rfl rfl bi dX5_name_15 ?_
    refine lv_iload_n X.1 X.2.1 dX5_name_16 rfl (lv_at hl 1 rfl) ?_
    refine w_icmp_eq (tgt := 26) X (hW.r.ai 217 o y3 rfl) rx1 dX5_name_17 (by decide) (fun hc => ?_) (fun hc => ?_)
    · have h := h.1 hc
      exact wk_Store_name_b26 X hr hlk hT hV ho rx1 rx2 y3 σ _ _ _ ry3 (lv_sub hl [0, 1, 2, 3] rfl) hW hS h
    · have h := h.2 hc
      obtain ⟨y3_20, ey3_20⟩ : ∃ y : Int, y = w32 (y3 + 1) := ⟨_, rfl⟩
      have h := h y3_20 ey3_20
      have ry3_20 : rI y3_20 := by rw [ey3_20]; exact w32_r _
      refine lv_iinc (v := oI y3_20) (lv' := [(3, .int (oI y3_20)), (0, .ref (wad w 3 o)), (1, .int (oI x1)), (2, .int (oI x2))]) X.1 X.2.1 dX5_name_20 hl (k := 3) rfl (by rw [ey3_20]; exact oI_add _ _) (by decide) (by first | rfl | simp [catK, catI, catR, catL]) (fun ls hl => ?_)
      refine lv_goto (tgt := 2) X.1 X.2.1 dX5_name_23 (by decide) ?_
      exact hK2 y3_20 σ _ _ _ ry3_20 (lv_sub hl [1, 2, 3, 0] rfl) hW hS h
theorem wk_Store_name_L2 {p : Program} {l : Launch} {e : Env} {st : State} {m : MethodId} {args : Array Value} {below : List Frame} {meth : Method} {c : Code} {w : Wp} {o : Int} {x1 : Int} {x2 : Int} {Q : St → Prop} (X : CallFix p m c cX5_name 4 st args lw_all RX5) (hr : meth.sig.returnType = none) (hlk : meth.locks = false) (hT : Tb w st) (hV : Hvl w) (ho : 0 ≤ o ∧ o < 2) (rx1 : rI x1) (rx2 : rZ x2) : ∀ (y3 : Int) (σ : St) (H : Heap) (locs : List Loc) (ls : Array Slot), rI y3 → lv_has ls 4 [(0, .ref (wad w 3 o)), (1, .int (oI x1)), (2, .int (oI x2)), (3, .int (oI y3))] → Wo w σ H → va_S (wA w) st.heap H locs → lQ1 (wp_Store_name_L2 (wc w) (wtv w) o x1 x2 Q) y3 σ → W p l e (headSpec (ws_ yX5_name cX5_name 4 none) rm_Store_name).room st m args below meth c H locs 0 0 (MQ below (QcV w Q) args st 0 0 (wA w)) (F0 m 2 ls []) := by
  intro y3 σ H locs ls ry3 hl hW hS h
  obtain ⟨fu, h⟩ := h
  induction fu generalizing y3 σ H locs ls with
  | zero => exact h.elim
  | succ fu ih =>
    exact wk_Store_name_L2B X hr hlk hT hV ho rx1 rx2 (lq1 (wp_Store_name_L2 (wc w) (wtv w) o x1 x2 Q) fu) (fun y3 σ H locs ls ry3 hl hW hS h => ih y3 σ H locs ls ry3 hl hW hS h) y3 σ H locs ls ry3 hl hW hS h
set_option maxHeartbeats 4000000 in
set_option maxRecDepth 100000 in
theorem met_Store_name (l : Launch) {w : Wp} (hV : Hvl w) (o : Int) (x1 : Int) (x2 : Int) (Q : St → Prop) (σ : St) (ho : 0 ≤ o ∧ o < 2) (rx1 : rI x1) (rx2 : rZ x2) (h : wp_Store_name (wc w) (wtv w) o x1 x2 Q σ) : Met l yX5_name (ws_ yX5_name cX5_name 4 none) rm_Store_name (PcW w σ [.ref (wad w 3 o), .int (oI x1), .int (oI x2)]) (QcV w Q) 0 0 (wA w) := by
  refine Met.ofW (cc := cX5_name) (maxL := 4) (ret := none) (by decide) rfl ?_
  intro p e st m args below meth c s₁ B hml hv
  obtain ⟨hargs, hW, hT⟩ := hv
  have X : CallFix p m c cX5_name 4 st _ lw_all RX5 := ⟨B.exec, B.bytes, hml, findClass_of_methodNamed B.named, fun w h => atoms_spec (ws := ws_ yX5_name cX5_name 4 none) B.pre w (List.mem_cons_of_mem _ h)⟩
  have hr := B.returns
  have hlk := B.notSynchronized
  have hS : va_S (wA w) st.heap st.heap [] := va_S.rf
  have vl3_o : vl w 3 o := hV.hv 3 rfl ⟨by omega, by show _ < (2 : Int); omega⟩
  have hl := lv_entry ([.ref (wad w 3 o), .int (oI x1), .int (oI x2)]) (n := 4) (Nat.le_of_ble_eq_true rfl)
  have hfr := lg_entry_eq m ([.ref (wad w 3 o), .int (oI x1), .int (oI x2)]) 4
  rw [← hargs] at hfr
  rw [hfr]
  generalize (lg_sl ([.ref (wad w 3 o), .int (oI x1), .int (oI x2)]) ++ List.replicate (4 - (lg_sl ([.ref (wad w 3 o), .int (oI x1), .int (oI x2)])).length) Slot.unset).toArray = ls at hl ⊢
  have hl : lv_has ls 4 [(0, .ref (wad w 3 o)), (1, .int (oI x1)), (2, .int (oI x2))] := hl
  unfold wp_Store_name at h
  refine lv_iconst (v := oI 0) X.1 X.2.1 dX5_name_0 rfl ?_
  refine lv_istore_n (i := 3) (lv' := [(3, .int (oI 0)), (0, .ref (wad w 3 o)), (1, .int (oI x1)), (2, .int (oI x2))]) X.1 X.2.1 dX5_name_1 rfl hl (by decide) (by first | rfl | simp [catK, catI, catR, catL]) (fun ls hl => ?_)
  exact wk_Store_name_L2 X hr hlk hT hV ho rx1 rx2 0 σ _ _ _ rZ_0.i (lv_sub hl [1, 2, 3, 0] rfl) hW hS h
/-! Store.shorten(II)V -/
set_option maxHeartbeats 4000000 in
set_option maxRecDepth 100000 in
theorem wk_Store_shorten_L11B {p : Program} {l : Launch} {e : Env} {st : State} {m : MethodId} {args : Array Value} {below : List Frame} {meth : Method} {c : Code} {w : Wp} {o : Int} {x1 : Int} {x2 : Int} {Q : St → Prop} (X : CallFix p m c cX5_shorten 5 st args lw_all RX5) (hr : meth.sig.returnType = none) (hlk : meth.locks = false) (hT : Tb w st) (hV : Hvl w) (ho : 0 ≤ o ∧ o < 2) (rx1 : rI x1) (rx2 : rI x2) (K11 : Int → St → Prop) (hK11 : ∀ (y3 : Int) (σ : St) (H : Heap) (locs : List Loc) (ls : Array Slot), rJ y3 → lv_has ls 5 [(0, .ref (wad w 3 o)), (1, .int (oI x1)), (3, .long (oL y3))] → Wo w σ H → va_S (wA w) st.heap H locs → K11 y3 σ → W p l e (headSpec (ws_ yX5_shorten cX5_shorten 5 none) rm_Store_shorten).room st m args below meth c H locs 0 0 (MQ below (QcV w Q) args st 0 0 (wA w)) (F0 m 11 ls [])) : ∀ (y3 : Int) (σ : St) (H : Heap) (locs : List Loc) (ls : Array Slot), rJ y3 → lv_has ls 5 [(0, .ref (wad w 3 o)), (1, .int (oI x1)), (3, .long (oL y3))] → Wo w σ H → va_S (wA w) st.heap H locs → wp_Store_shorten_L11 (wc w) (wtv w) o x1 x2 Q K11 y3 σ → W p l e (headSpec (ws_ yX5_shorten cX5_shorten 5 none) rm_Store_shorten).room st m args below meth c H locs 0 0 (MQ below (QcV w Q) args st 0 0 (wA w)) (F0 m 11 ls []) := by
  have vl3_o : vl w 3 o := hV.hv 3 rfl ⟨by omega, by show _ < (2 : Int); omega⟩
  have vl6_o : vl w 6 o := hV.hv 6 rfl ⟨by omega, by show _ < (2 : Int); omega⟩
  intro y3 σ H locs ls ry3 hl hW hS h
  unfold wp_Store_shorten_L11 at h
  refine lv_aload_n X.1 X.2.1 dX5_shorten_11 rfl (lv_at hl 0 rfl) ?_
  refine wg (v := .ref (wad w 6 o)) X hT hW 3 2 194 vl3_o rfl rfl (by decide) rfl (by decide) in_X5 q526 rfl dX5_shorten_12 ?_
  refine lv_iload_n X.1 X.2.1 dX5_shorten_15 rfl (lv_at hl 1 rfl) ?_
  refine lv_iconst (v := oI 1) X.1 X.2.1 dX5_shorten_16 rfl ?_
  refine wr_J (rSN (As := [.int (oI x1), .int (oI 1)]) (rest := [.ref (wad w 6 o)]) X hT hW hS (met_House_keyOf l (w := w) x1 1 _ σ rx1 rZ_1.i h) ⟨va_cnB 2 X.2.2.2.2 (lw_meth q895) rfl rfl rfl (hT.2.1 _ (List.mem_of_getElem? (i := 13) rfl)) (X.2.2.2.2 _ q131) (by decide +kernel) ⟨Nat.le_of_ble_eq_true rfl, Nat.le_of_ble_eq_true rfl⟩, X.2.2.2.2 _ q894, trivial⟩ rfl hl.1 rfl (by first | exact Nat.le_of_ble_eq_true rfl | simp [catK, catI, catR, catL]) dX5_shorten_17 ⟨Nat.le_refl _, Nat.le_refl _⟩) hS (fun r_10 σ_11 H locs rr_10 rkσ_11 h hWσ_11 hS => ?_)
  have h := h rr_10 rkσ_11
  refine lv_lload_n X.1 X.2.1 dX5_shorten_20 rfl (lv_at hl 2 rfl) ?_
  refine wr_Z (rV (As := [.long (oL r_10), .long (oL y3)]) (rest := []) X hT hWσ_11 hS (met_Index_seek l (w := w) hV o r_10 y3 _ σ_11 (by omega) rr_10 ry3 h) (cwV 2 X.2.2.2.2 (lw_V q1359 q906 q907 q139 q908) rfl rfl rfl (by decide +kernel) ⟨Nat.le_of_ble_eq_true rfl, Nat.le_of_ble_eq_true rfl⟩) vl6_o (by decide) rfl rfl hl.1 rfl (by first | exact Nat.le_of_ble_eq_true rfl | simp [catK, catI, catR, catL]) dX5_shorten_21 ⟨Nat.le_refl _, Nat.le_refl _⟩) hS (fun r_12 σ_13 H locs rr_12 rkσ_13 h hWσ_13 hS => ?_)
  have h := h rr_12 rkσ_13
  refine w_if_eq (tgt := 67) X rr_12.i dX5_shorten_24 (by decide) (fun hc => ?_) (fun hc => ?_)
  · have h := h.1 hc
    exact wret_V X hr hlk hWσ_13 hS h dX5_shorten_67
  · have h := h.2 hc
    refine lv_aload_n X.1 X.2.1 dX5_shorten_27 rfl (lv_at hl 0 rfl) ?_
    refine wg (v := .ref (wad w 6 o)) X hT hWσ_13 3 2 194 vl3_o rfl rfl (by decide) rfl (by decide) in_X5 q526 rfl dX5_shorten_28 ?_
    refine wg (v := .long (oL (gI σ_13 391 o))) X hT hWσ_13 6 7 391 vl6_o rfl rfl (by decide) rfl (by decide) in_X8 q455 rfl dX5_shorten_31 ?_
    refine lv_iload_n X.1 X.2.1 dX5_shorten_34 rfl (lv_at hl 1 rfl) ?_
    refine lv_iconst (v := oI 1) X.1 X.2.1 dX5_shorten_35 rfl ?_
    refine wr_J (rSN (As := [.int (oI x1), .int (oI 1)]) (rest := [.long (oL (gI σ_13 391 o))]) X hT hWσ_13 hS (met_House_keyOf l (w := w) x1 1 _ σ_13 rx1 rZ_1.i h) ⟨va_cnB 2 X.2.2.2.2 (lw_meth q895) rfl rfl rfl (hT.2.1 _ (List.mem_of_getElem? (i := 13) rfl)) (X.2.2.2.2 _ q131) (by decide +kernel) ⟨Nat.le_of_ble_eq_true rfl, Nat.le_of_ble_eq_true rfl⟩, X.2.2.2.2 _ q894, trivial⟩ rfl hl.1 rfl (by first | exact Nat.le_of_ble_eq_true rfl | simp [catK, catI, catR, catL]) dX5_shorten_36 ⟨Nat.le_refl _, Nat.le_refl _⟩) hS (fun r_14 σ_15 H locs rr_14 rkσ_15 h hWσ_15 hS => ?_)
    have h := h rr_14 rkσ_15
    refine w_lcmp_ne (tgt := 67) X (hWσ_13.r.j 391 o rfl) rr_14 dX5_shorten_39 dX5_shorten_40 (by decide) (fun hc => ?_) (fun hc => ?_)
    · have h := h.1 hc
      exact wret_V X hr hlk hWσ_15 hS h dX5_shorten_67
    · have h := h.2 hc
      refine lv_aload_n X.1 X.2.1 dX5_shorten_43 rfl (lv_at hl 0 rfl) ?_
      refine wg (v := .ref (wad w 6 o)) X hT hWσ_15 3 2 194 vl3_o rfl rfl (by decide) rfl (by decide) in_X5 q526 rfl dX5_shorten_44 ?_
      refine lv_aload_n X.1 X.2.1 dX5_shorten_47 rfl (lv_at hl 0 rfl) ?_
      refine wg (v := .ref (wad w 6 o)) X hT hWσ_15 3 2 194 vl3_o rfl rfl (by decide) rfl (by decide) in_X5 q526 rfl dX5_shorten_48 ?_
      refine wg (v := .long (oL (gI σ_15 391 o))) X hT hWσ_15 6 7 391 vl6_o rfl rfl (by decide) rfl (by decide) in_X8 q455 rfl dX5_shorten_51 ?_
      refine lv_aload_n X.1 X.2.1 dX5_shorten_54 rfl (lv_at hl 0 rfl) ?_
      refine wg (v := .ref (wad w 6 o)) X hT hWσ_15 3 2 194 vl3_o rfl rfl (by decide) rfl (by decide) in_X5 q526 rfl dX5_shorten_55 ?_
      refine wg (v := .long (oL (gI σ_15 392 o))) X hT hWσ_15 6 8 392 vl6_o rfl rfl (by decide) rfl (by decide) in_X8 q458 rfl dX5_shorten_58 ?_
      refine wr_V (rV (As := [.long (oL (gI σ_15 391 o)), .long (oL (gI σ_15 392 o))]) (rest := []) X hT hWσ_15 hS (met_Index_remove l (w := w) hV o (gI σ_15 391 o) (gI σ_15 392 o) _ σ_15 (by omega) (hWσ_15.r.j 391 o rfl) (hWσ_15.r.j 392 o rfl) h) (cwV 2 X.2.2.2.2 (lw_V q1360 q1361 q1362 q139 q1363) rfl rfl rfl (by decide +kernel) ⟨Nat.le_of_ble_eq_true rfl, Nat.le_of_ble_eq_true rfl⟩) vl6_o (by decide) rfl rfl hl.1 rfl (by first | exact Nat.le_of_ble_eq_true rfl | simp [catK, catI, catR, catL]) dX5_shorten_61 ⟨Nat.le_refl _, Nat.le_refl _⟩) hS (fun σ_17 H locs rkσ_17 h hWσ_17 hS => ?_)
      have h := h rkσ_17
      refine lv_goto (tgt := 11) X.1 X.2.1 dX5_shorten_64 (by decide) ?_
      exact hK11 y3 σ_17 _ _ _ ry3 (lv_sub hl [0, 1, 2] rfl) hWσ_17 hS h
theorem wk_Store_shorten_L11 {p : Program} {l : Launch} {e : Env} {st : State} {m : MethodId} {args : Array Value} {below : List Frame} {meth : Method} {c : Code} {w : Wp} {o : Int} {x1 : Int} {x2 : Int} {Q : St → Prop} (X : CallFix p m c cX5_shorten 5 st args lw_all RX5) (hr : meth.sig.returnType = none) (hlk : meth.locks = false) (hT : Tb w st) (hV : Hvl w) (ho : 0 ≤ o ∧ o < 2) (rx1 : rI x1) (rx2 : rI x2) : ∀ (y3 : Int) (σ : St) (H : Heap) (locs : List Loc) (ls : Array Slot), rJ y3 → lv_has ls 5 [(0, .ref (wad w 3 o)), (1, .int (oI x1)), (3, .long (oL y3))] → Wo w σ H → va_S (wA w) st.heap H locs → lQ1 (wp_Store_shorten_L11 (wc w) (wtv w) o x1 x2 Q) y3 σ → W p l e (headSpec (ws_ yX5_shorten cX5_shorten 5 none) rm_Store_shorten).room st m args below meth c H locs 0 0 (MQ below (QcV w Q) args st 0 0 (wA w)) (F0 m 11 ls []) := by
  intro y3 σ H locs ls ry3 hl hW hS h
  obtain ⟨fu, h⟩ := h
  induction fu generalizing y3 σ H locs ls with
  | zero => exact h.elim
  | succ fu ih =>
    exact wk_Store_shorten_L11B X hr hlk hT hV ho rx1 rx2 (lq1 (wp_Store_shorten_L11 (wc w) (wtv w) o x1 x2 Q) fu) (fun y3 σ H locs ls ry3 hl hW hS h => ih y3 σ H locs ls ry3 hl hW hS h) y3 σ H locs ls ry3 hl hW hS h
set_option maxHeartbeats 4000000 in
set_option maxRecDepth 100000 in
theorem met_Store_shorten (l : Launch) {w : Wp} (hV : Hvl w) (o : Int) (x1 : Int) (x2 : Int) (Q : St → Prop) (σ : St) (ho : 0 ≤ o ∧ o < 2) (rx1 : rI x1) (rx2 : rI x2) (h : wp_Store_shorten (wc w) (wtv w) o x1 x2 Q σ) : Met l yX5_shorten (ws_ yX5_shorten cX5_shorten 5 none) rm_Store_shorten (PcW w σ [.ref (wad w 3 o), .int (oI x1), .int (oI x2)]) (QcV w Q) 0 0 (wA w) := by
  refine Met.ofW (cc := cX5_shorten) (maxL := 5) (ret := none) (by decide) rfl ?_
  intro p e st m args below meth c s₁ B hml hv
  obtain ⟨hargs, hW, hT⟩ := hv
  have X : CallFix p m c cX5_shorten 5 st _ lw_all RX5 := ⟨B.exec, B.bytes, hml, findClass_of_methodNamed B.named, fun w h => atoms_spec (ws := ws_ yX5_shorten cX5_shorten 5 none) B.pre w (List.mem_cons_of_mem _ h)⟩
  have hr := B.returns
  have hlk := B.notSynchronized
  have hS : va_S (wA w) st.heap st.heap [] := va_S.rf
  have vl3_o : vl w 3 o := hV.hv 3 rfl ⟨by omega, by show _ < (2 : Int); omega⟩
  have hl := lv_entry ([.ref (wad w 3 o), .int (oI x1), .int (oI x2)]) (n := 5) (Nat.le_of_ble_eq_true rfl)
  have hfr := lg_entry_eq m ([.ref (wad w 3 o), .int (oI x1), .int (oI x2)]) 5
  rw [← hargs] at hfr
  rw [hfr]
  generalize (lg_sl ([.ref (wad w 3 o), .int (oI x1), .int (oI x2)]) ++ List.replicate (5 - (lg_sl ([.ref (wad w 3 o), .int (oI x1), .int (oI x2)])).length) Slot.unset).toArray = ls at hl ⊢
  have hl : lv_has ls 5 [(0, .ref (wad w 3 o)), (1, .int (oI x1)), (2, .int (oI x2))] := hl
  unfold wp_Store_shorten at h
  refine lv_iload_n X.1 X.2.1 dX5_shorten_0 rfl (lv_at hl 2 rfl) ?_
  refine lv_bipush (v := oI 64) X.1 X.2.1 dX5_shorten_1 (by decide) ?_
  refine w_iadd X dX5_shorten_3 ?_
  refine lv_iconst (v := oI 1) X.1 X.2.1 dX5_shorten_4 rfl ?_
  refine w_isub X dX5_shorten_5 ?_
  refine lv_bipush (v := oI 64) X.1 X.2.1 dX5_shorten_6 (by decide) ?_
  refine w_idiv X (w32_r _) ((rB_lit 64 (by decide)).i) (by decide) dX5_shorten_8 ?_
  refine w_i2l X (jdv_r _ _) dX5_shorten_9 ?_
  refine w_topl (fun y3_18 ey3_18 => ?_)
  have h := h y3_18 ey3_18
  have ry3_18 : rJ y3_18 := by rw [ey3_18]; exact (rI.j (jdv_r _ _))
  refine lv_lstore_n (i := 3) (lv' := [(3, .long (oL y3_18)), (0, .ref (wad w 3 o)), (1, .int (oI x1)), (2, .int (oI x2))]) X.1 X.2.1 dX5_shorten_10 rfl hl (by decide) (by first | rfl | simp [catK, catI, catR, catL]) (fun ls hl => ?_)
  exact wk_Store_shorten_L11 X hr hlk hT hV ho rx1 rx2 y3_18 σ _ _ _ ry3_18 (lv_sub hl [1, 2, 0] rfl) hW hS h
/-! Store.forget(I)V -/
set_option maxHeartbeats 4000000 in
set_option maxRecDepth 100000 in
theorem wk_Store_forget_b62 {p : Program} {l : Launch} {e : Env} {st : State} {m : MethodId} {args : Array Value} {below : List Frame} {meth : Method} {c : Code} {w : Wp} {o : Int} {x1 : Int} {Q : St → Prop} (X : CallFix p m c cX5_forget 2 st args lw_all RX5) (hr : meth.sig.returnType = none) (hlk : meth.locks = false) (hT : Tb w st) (hV : Hvl w) (ho : 0 ≤ o ∧ o < 2) (rx1 : rI x1) : ∀ (σ : St) (H : Heap) (locs : List Loc) (ls : Array Slot), lv_has ls 2 [(0, .ref (wad w 3 o)), (1, .int (oI x1))] → Wo w σ H → va_S (wA w) st.heap H locs → wp_Store_forget_b62 (wc w) (wtv w) o x1 Q σ → W p l e (headSpec (ws_ yX5_forget cX5_forget 2 none) rm_Store_forget).room st m args below meth c H locs 0 0 (MQ below (QcV w Q) args st 0 0 (wA w)) (F0 m 62 ls []) := by
  have vl3_o : vl w 3 o := hV.hv 3 rfl ⟨by omega, by show _ < (2 : Int); omega⟩
  have vl6_o : vl w 6 o := hV.hv 6 rfl ⟨by omega, by show _ < (2 : Int); omega⟩
  intro σ H locs ls hl hW hS h
  unfold wp_Store_forget_b62 at h
  refine lv_aload_n X.1 X.2.1 dX5_forget_62 rfl (lv_at hl 0 rfl) ?_
  refine wg (v := .ref (wad w 6 o)) X hT hW 3 2 194 vl3_o rfl rfl (by decide) rfl (by decide) in_X5 q526 rfl dX5_forget_63 ?_
  refine lv_iload_n X.1 X.2.1 dX5_forget_66 rfl (lv_at hl 1 rfl) ?_
  refine lv_iconst (v := oI 0) X.1 X.2.1 dX5_forget_67 rfl ?_
  refine wr_J (rSN (As := [.int (oI x1), .int (oI 0)]) (rest := [.ref (wad w 6 o)]) X hT hW hS (met_House_keyOf l (w := w) x1 0 _ σ rx1 rZ_0.i h) ⟨va_cnB 2 X.2.2.2.2 (lw_meth q895) rfl rfl rfl (hT.2.1 _ (List.mem_of_getElem? (i := 13) rfl)) (X.2.2.2.2 _ q131) (by decide +kernel) ⟨Nat.le_of_ble_eq_true rfl, Nat.le_of_ble_eq_true rfl⟩, X.2.2.2.2 _ q894, trivial⟩ rfl hl.1 rfl (by first | exact Nat.le_of_ble_eq_true rfl | simp [catK, catI, catR, catL]) dX5_forget_68 ⟨Nat.le_refl _, Nat.le_refl _⟩) hS (fun r_15 σ_16 H locs rr_15 rkσ_16 h hWσ_16 hS => ?_)
  have h := h rr_15 rkσ_16
  refine lv_lconst (v := oL 0) X.1 X.2.1 dX5_forget_71 (by decide) ?_
  refine wr_V (rV (As := [.long (oL r_15), .long (oL 0)]) (rest := []) X hT hWσ_16 hS (met_Index_remove l (w := w) hV o r_15 0 _ σ_16 (by omega) rr_15 (rJ_lit 0 (by decide)) h) (cwV 2 X.2.2.2.2 (lw_V q1360 q1361 q1362 q139 q1363) rfl rfl rfl (by decide +kernel) ⟨Nat.le_of_ble_eq_true rfl, Nat.le_of_ble_eq_true rfl⟩) vl6_o (by decide) rfl rfl hl.1 rfl (by first | exact Nat.le_of_ble_eq_true rfl | simp [catK, catI, catR, catL]) dX5_forget_72 ⟨Nat.le_refl _, Nat.le_refl _⟩) hS (fun σ_18 H locs rkσ_18 h hWσ_18 hS => ?_)
  have h := h rkσ_18
  exact wret_V X hr hlk hWσ_18 hS h dX5_forget_75
set_option maxHeartbeats 4000000 in
set_option maxRecDepth 100000 in
theorem wk_Store_forget_L6B {p : Program} {l : Launch} {e : Env} {st : State} {m : MethodId} {args : Array Value} {below : List Frame} {meth : Method} {c : Code} {w : Wp} {o : Int} {x1 : Int} {Q : St → Prop} (X : CallFix p m c cX5_forget 2 st args lw_all RX5) (hr : meth.sig.returnType = none) (hlk : meth.locks = false) (hT : Tb w st) (hV : Hvl w) (ho : 0 ≤ o ∧ o < 2) (rx1 : rI x1) (K6 : St → Prop) (hK6 : ∀ (σ : St) (H : Heap) (locs : List Loc) (ls : Array Slot), lv_has ls 2 [(0, .ref (wad w 3 o)), (1, .int (oI x1))] → Wo w σ H → va_S (wA w) st.heap H locs → K6 σ → W p l e (headSpec (ws_ yX5_forget cX5_forget 2 none) rm_Store_forget).room st m args below meth c H locs 0 0 (MQ below (QcV w Q) args st 0 0 (wA w)) (F0 m 6 ls [])) : ∀ (σ : St) (H : Heap) (locs : List Loc) (ls : Array Slot), lv_has ls 2 [(0, .ref (wad w 3 o)), (1, .int (oI x1))] → Wo w σ H → va_S (wA w) st.heap H locs → wp_Store_forget_L6 (wc w) (wtv w) o x1 Q K6 σ → W p l e (headSpec (ws_ yX5_forget cX5_forget 2 none) rm_Store_forget).room st m args below meth c H locs 0 0 (MQ below (QcV w Q) args st 0 0 (wA w)) (F0 m 6 ls []) := by
  have vl3_o : vl w 3 o := hV.hv 3 rfl ⟨by omega, by show _ < (2 : Int); omega⟩
  have vl6_o : vl w 6 o := hV.hv 6 rfl ⟨by omega, by show _ < (2 : Int); omega⟩
  intro σ H locs ls hl hW hS h
  unfold wp_Store_forget_L6 at h
  refine lv_aload_n X.1 X.2.1 dX5_forget_6 rfl (lv_at hl 0 rfl) ?_
  refine wg (v := .ref (wad w 6 o)) X hT hW 3 2 194 vl3_o rfl rfl (by decide) rfl (by decide) in_X5 q526 rfl dX5_forget_7 ?_
  refine lv_iload_n X.1 X.2.1 dX5_forget_10 rfl (lv_at hl 1 rfl) ?_
  refine lv_iconst (v := oI 3) X.1 X.2.1 dX5_forget_11 rfl ?_
  refine wr_J (rSN (As := [.int (oI x1), .int (oI 3)]) (rest := [.ref (wad w 6 o)]) X hT hW hS (met_House_keyOf l (w := w) x1 3 _ σ rx1 ((rB_lit 3 (by decide)).i) h) ⟨va_cnB 2 X.2.2.2.2 (lw_meth q895) rfl rfl rfl (hT.2.1 _ (List.mem_of_getElem? (i := 13) rfl)) (X.2.2.2.2 _ q131) (by decide +kernel) ⟨Nat.le_of_ble_eq_true rfl, Nat.le_of_ble_eq_true rfl⟩, X.2.2.2.2 _ q894, trivial⟩ rfl hl.1 rfl (by first | exact Nat.le_of_ble_eq_true rfl | simp [catK, catI, catR, catL]) dX5_forget_12 ⟨Nat.le_refl _, Nat.le_refl _⟩) hS (fun r_19 σ_20 H locs rr_19 rkσ_20 h hWσ_20 hS => ?_)
  have h := h rr_19 rkσ_20
  refine lv_lconst (v := oL 0) X.1 X.2.1 dX5_forget_15 (by decide) ?_
  refine wr_Z (rV (As := [.long (oL r_19), .long (oL 0)]) (rest := []) X hT hWσ_20 hS (met_Index_seek l (w := w) hV o r_19 0 _ σ_20 (by omega) rr_19 (rJ_lit 0 (by decide)) h) (cwV 2 X.2.2.2.2 (lw_V q1359 q906 q907 q139 q908) rfl rfl rfl (by decide +kernel) ⟨Nat.le_of_ble_eq_true rfl, Nat.le_of_ble_eq_true rfl⟩) vl6_o (by decide) rfl rfl hl.1 rfl (by first | exact Nat.le_of_ble_eq_true rfl | simp [catK, catI, catR, catL]) dX5_forget_16 ⟨Nat.le_refl _, Nat.le_refl _⟩) hS (fun r_21 σ_22 H locs rr_21 rkσ_22 h hWσ_22 hS => ?_)
  have h := h rr_21 rkσ_22
  refine w_if_eq (tgt := 62) X rr_21.i dX5_forget_19 (by decide) (fun hc => ?_) (fun hc => ?_)
  · have h := h.1 hc
    exact wk_Store_forget_b62 X hr hlk hT hV ho rx1 σ_22 _ _ _ (lv_sub hl [0, 1] rfl) hWσ_22 hS h
  · have h := h.2 hc
    refine lv_aload_n X.1 X.2.1 dX5_forget_22 rfl (lv_at hl 0 rfl) ?_
    refine wg (v := .ref (wad w 6 o)) X hT hWσ_22 3 2 194 vl3_o rfl rfl (by decide) rfl (by decide) in_X5 q526 rfl dX5_forget_23 ?_
    refine wg (v := .long (oL (gI σ_22 391 o))) X hT hWσ_22 6 7 391 vl6_o rfl rfl (by decide) rfl (by decide) in_X8 q455 rfl dX5_forget_26 ?_
    refine lv_iload_n X.1 X.2.1 dX5_forget_29 rfl (lv_at hl 1 rfl) ?_
    refine lv_iconst (v := oI 3) X.1 X.2.1 dX5_forget_30 rfl ?_
    refine wr_J (rSN (As := [.int (oI x1), .int (oI 3)]) (rest := [.long (oL (gI σ_22 391 o))]) X hT hWσ_22 hS (met_House_keyOf l (w := w) x1 3 _ σ_22 rx1 ((rB_lit 3 (by decide)).i) h) ⟨va_cnB 2 X.2.2.2.2 (lw_meth q895) rfl rfl rfl (hT.2.1 _ (List.mem_of_getElem? (i := 13) rfl)) (X.2.2.2.2 _ q131) (by decide +kernel) ⟨Nat.le_of_ble_eq_true rfl, Nat.le_of_ble_eq_true rfl⟩, X.2.2.2.2 _ q894, trivial⟩ rfl hl.1 rfl (by first | exact Nat.le_of_ble_eq_true rfl | simp [catK, catI, catR, catL]) dX5_forget_31 ⟨Nat.le_refl _, Nat.le_refl _⟩) hS (fun r_23 σ_24 H locs rr_23 rkσ_24 h hWσ_24 hS => ?_)
    have h := h rr_23 rkσ_24
    refine w_lcmp_ne (tgt := 62) X (hWσ_22.r.j 391 o rfl) rr_23 dX5_forget_34 dX5_forget_35 (by decide) (fun hc => ?_) (fun hc => ?_)
    · have h := h.1 hc
      exact wk_Store_forget_b62 X hr hlk hT hV ho rx1 σ_24 _ _ _ (lv_sub hl [0, 1] rfl) hWσ_24 hS h
    · have h := h.2 hc
      refine lv_aload_n X.1 X.2.1 dX5_forget_38 rfl (lv_at hl 0 rfl) ?_
      refine wg (v := .ref (wad w 6 o)) X hT hWσ_24 3 2 194 vl3_o rfl rfl (by decide) rfl (by decide) in_X5 q526 rfl dX5_forget_39 ?_
      refine lv_aload_n X.1 X.2.1 dX5_forget_42 rfl (lv_at hl 0 rfl) ?_
      refine wg (v := .ref (wad w 6 o)) X hT hWσ_24 3 2 194 vl3_o rfl rfl (by decide) rfl (by decide) in_X5 q526 rfl dX5_forget_43 ?_
      refine wg (v := .long (oL (gI σ_24 391 o))) X hT hWσ_24 6 7 391 vl6_o rfl rfl (by decide) rfl (by decide) in_X8 q455 rfl dX5_forget_46 ?_
      refine lv_aload_n X.1 X.2.1 dX5_forget_49 rfl (lv_at hl 0 rfl) ?_
      refine wg (v := .ref (wad w 6 o)) X hT hWσ_24 3 2 194 vl3_o rfl rfl (by decide) rfl (by decide) in_X5 q526 rfl dX5_forget_50 ?_
      refine wg (v := .long (oL (gI σ_24 392 o))) X hT hWσ_24 6 8 392 vl6_o rfl rfl (by decide) rfl (by decide) in_X8 q458 rfl dX5_forget_53 ?_
      refine wr_V (rV (As := [.long (oL (gI σ_24 391 o)), .long (oL (gI σ_24 392 o))]) (rest := []) X hT hWσ_24 hS (met_Index_remove l (w := w) hV o (gI σ_24 391 o) (gI σ_24 392 o) _ σ_24 (by omega) (hWσ_24.r.j 391 o rfl) (hWσ_24.r.j 392 o rfl) h) (cwV 2 X.2.2.2.2 (lw_V q1360 q1361 q1362 q139 q1363) rfl rfl rfl (by decide +kernel) ⟨Nat.le_of_ble_eq_true rfl, Nat.le_of_ble_eq_true rfl⟩) vl6_o (by decide) rfl rfl hl.1 rfl (by first | exact Nat.le_of_ble_eq_true rfl | simp [catK, catI, catR, catL]) dX5_forget_56 ⟨Nat.le_refl _, Nat.le_refl _⟩) hS (fun σ_26 H locs rkσ_26 h hWσ_26 hS => ?_)
      have h := h rkσ_26
      refine lv_goto (tgt := 6) X.1 X.2.1 dX5_forget_59 (by decide) ?_
      exact hK6 σ_26 _ _ _ (lv_sub hl [0, 1] rfl) hWσ_26 hS h
theorem wk_Store_forget_L6 {p : Program} {l : Launch} {e : Env} {st : State} {m : MethodId} {args : Array Value} {below : List Frame} {meth : Method} {c : Code} {w : Wp} {o : Int} {x1 : Int} {Q : St → Prop} (X : CallFix p m c cX5_forget 2 st args lw_all RX5) (hr : meth.sig.returnType = none) (hlk : meth.locks = false) (hT : Tb w st) (hV : Hvl w) (ho : 0 ≤ o ∧ o < 2) (rx1 : rI x1) : ∀ (σ : St) (H : Heap) (locs : List Loc) (ls : Array Slot), lv_has ls 2 [(0, .ref (wad w 3 o)), (1, .int (oI x1))] → Wo w σ H → va_S (wA w) st.heap H locs → lQ0 (wp_Store_forget_L6 (wc w) (wtv w) o x1 Q) σ → W p l e (headSpec (ws_ yX5_forget cX5_forget 2 none) rm_Store_forget).room st m args below meth c H locs 0 0 (MQ below (QcV w Q) args st 0 0 (wA w)) (F0 m 6 ls []) := by
  intro σ H locs ls hl hW hS h
  obtain ⟨fu, h⟩ := h
  induction fu generalizing σ H locs ls with
  | zero => exact h.elim
  | succ fu ih =>
    exact wk_Store_forget_L6B X hr hlk hT hV ho rx1 (lq0 (wp_Store_forget_L6 (wc w) (wtv w) o x1 Q) fu) (fun σ H locs ls hl hW hS h => ih σ H locs ls hl hW hS h) σ H locs ls hl hW hS h
set_option maxHeartbeats 4000000 in
set_option maxRecDepth 100000 in
theorem met_Store_forget (l : Launch) {w : Wp} (hV : Hvl w) (o : Int) (x1 : Int) (Q : St → Prop) (σ : St) (ho : 0 ≤ o ∧ o < 2) (rx1 : rI x1) (h : wp_Store_forget (wc w) (wtv w) o x1 Q σ) : Met l yX5_forget (ws_ yX5_forget cX5_forget 2 none) rm_Store_forget (PcW w σ [.ref (wad w 3 o), .int (oI x1)]) (QcV w Q) 0 0 (wA w) := by
  refine Met.ofW (cc := cX5_forget) (maxL := 2) (ret := none) (by decide) rfl ?_
  intro p e st m args below meth c s₁ B hml hv
  obtain ⟨hargs, hW, hT⟩ := hv
  have X : CallFix p m c cX5_forget 2 st _ lw_all RX5 := ⟨B.exec, B.bytes, hml, findClass_of_methodNamed B.named, fun w h => atoms_spec (ws := ws_ yX5_forget cX5_forget 2 none) B.pre w (List.mem_cons_of_mem _ h)⟩
  have hr := B.returns
  have hlk := B.notSynchronized
  have hS : va_S (wA w) st.heap st.heap [] := va_S.rf
  have vl3_o : vl w 3 o := hV.hv 3 rfl ⟨by omega, by show _ < (2 : Int); omega⟩
  have hl := lv_entry ([.ref (wad w 3 o), .int (oI x1)]) (n := 2) (Nat.le_of_ble_eq_true rfl)
  have hfr := lg_entry_eq m ([.ref (wad w 3 o), .int (oI x1)]) 2
  rw [← hargs] at hfr
  rw [hfr]
  generalize (lg_sl ([.ref (wad w 3 o), .int (oI x1)]) ++ List.replicate (2 - (lg_sl ([.ref (wad w 3 o), .int (oI x1)])).length) Slot.unset).toArray = ls at hl ⊢
  have hl : lv_has ls 2 [(0, .ref (wad w 3 o)), (1, .int (oI x1))] := hl
  unfold wp_Store_forget at h
  refine lv_aload_n X.1 X.2.1 dX5_forget_0 rfl (lv_at hl 0 rfl) ?_
  refine lv_iload_n X.1 X.2.1 dX5_forget_1 rfl (lv_at hl 1 rfl) ?_
  refine lv_iconst (v := oI 0) X.1 X.2.1 dX5_forget_2 rfl ?_
  refine wr_V (rV (As := [.int (oI x1), .int (oI 0)]) (rest := []) X hT hW hS (met_Store_shorten l (w := w) hV o x1 0 _ σ (by omega) rx1 rZ_0.i h) (cwV 2 X.2.2.2.2 (lw_V q1355 q1356 q1357 q136 q1358) rfl rfl rfl (by decide +kernel) ⟨Nat.le_of_ble_eq_true rfl, Nat.le_of_ble_eq_true rfl⟩) vl3_o (by decide) rfl rfl hl.1 rfl (by first | exact Nat.le_of_ble_eq_true rfl | simp [catK, catI, catR, catL]) dX5_forget_3 ⟨Nat.le_refl _, Nat.le_refl _⟩) hS (fun σ_28 H locs rkσ_28 h hWσ_28 hS => ?_)
  have h := h rkσ_28
  exact wk_Store_forget_L6 X hr hlk hT hV ho rx1 σ_28 _ _ _ (lv_sub hl [0, 1] rfl) hWσ_28 hS h
/-! Store.apply(LNandHouse$Row;II)V -/
set_option maxHeartbeats 4000000 in
set_option maxRecDepth 100000 in
theorem wk_Store_apply_b154 {p : Program} {l : Launch} {e : Env} {st : State} {m : MethodId} {args : Array Value} {below : List Frame} {meth : Method} {c : Code} {w : Wp} {o : Int} {x1 : Int} {x2 : Int} {x3 : Int} {Q : St → Prop} (X : CallFix p m c cX5_apply 6 st args lw_all RX5) (hr : meth.sig.returnType = none) (hlk : meth.locks = false) (hT : Tb w st) (hV : Hvl w) (ho : 0 ≤ o ∧ o < 2) (hx1 : 0 ≤ x1 ∧ x1 < 8) (rx2 : rI x2) (rx3 : rI x3) : ∀ (y5 : Int) (σ : St) (H : Heap) (locs : List Loc) (ls : Array Slot), rI y5 → lv_has ls 6 [(0, .ref (wad w 3 o)), (1, .ref (wad w 8 x1)), (2, .int (oI x2)), (3, .int (oI x3)), (5, .int (oI y5))] → Wo w σ H → va_S (wA w) st.heap H locs → wp_Store_apply_b154 (wc w) (wtv w) o x1 x2 x3 Q y5 σ → W p l e (headSpec (ws_ yX5_apply cX5_apply 6 none) rm_Store_apply).room st m args below meth c H locs 0 0 (MQ below (QcV w Q) args st 0 0 (wA w)) (F0 m 154 ls []) := by
  have vl3_o : vl w 3 o := hV.hv 3 rfl ⟨by omega, by show _ < (2 : Int); omega⟩
  have vl6_o : vl w 6 o := hV.hv 6 rfl ⟨by omega, by show _ < (2 : Int); omega⟩
  have vl8_x1 : vl w 8 x1 := hV.hv 8 rfl ⟨by omega, by show _ < (8 : Int); omega⟩
  intro y5 σ H locs ls ry5 hl hW hS h
  unfold wp_Store_apply_b154 at h
  refine lv_iload X.1 X.2.1 dX5_apply_154 (lv_at hl 4 rfl) ?_
  refine wr_Z (rS (As := [.int (oI y5)]) (rest := []) X hT hW hS (met_Store_isLeaf l (w := w) y5 _ σ ry5 h) (va_cwS 1 X.2.2.2.2 (lw_S q1312 q1313 q136 q1314) rfl rfl rfl (by decide +kernel) ⟨Nat.le_of_ble_eq_true rfl, Nat.le_of_ble_eq_true rfl⟩) rfl hl.1 rfl (by first | exact Nat.le_of_ble_eq_true rfl | simp [catK, catI, catR, catL]) dX5_apply_156 ⟨Nat.le_refl _, Nat.le_refl _⟩) hS (fun r_40 σ_41 H locs rr_40 rkσ_41 h hWσ_41 hS => ?_)
  have h := h rr_40 rkσ_41
  refine w_if_eq (tgt := 183) X rr_40.i dX5_apply_159 (by decide) (fun hc => ?_) (fun hc => ?_)
  · have h := h.1 hc
    exact wret_V X hr hlk hWσ_41 hS h dX5_apply_183
  · have h := h.2 hc
    refine lv_aload_n X.1 X.2.1 dX5_apply_162 rfl (lv_at hl 0 rfl) ?_
    refine wg (v := .ref (wad w 6 o)) X hT hWσ_41 3 2 194 vl3_o rfl rfl (by decide) rfl (by decide) in_X5 q526 rfl dX5_apply_163 ?_
    refine lv_aload_n X.1 X.2.1 dX5_apply_166 rfl (lv_at hl 1 rfl) ?_
    refine wr_J (rS (As := [.ref (wad w 8 x1)]) (rest := [.ref (wad w 6 o)]) X hT hWσ_41 hS (met_Store_highOf l (w := w) hV x1 _ σ_41 (by omega) h) (va_cwS 1 X.2.2.2.2 (lw_S q1315 q1316 q136 q1317) rfl rfl rfl (by decide +kernel) ⟨Nat.le_of_ble_eq_true rfl, Nat.le_of_ble_eq_true rfl⟩) rfl hl.1 rfl (by first | exact Nat.le_of_ble_eq_true rfl | simp [catK, catI, catR, catL]) dX5_apply_167 ⟨Nat.le_refl _, Nat.le_refl _⟩) hS (fun r_42 σ_43 H locs rr_42 rkσ_43 h hWσ_43 hS => ?_)
    have h := h rr_42 rkσ_43
    refine lv_aload_n X.1 X.2.1 dX5_apply_170 rfl (lv_at hl 1 rfl) ?_
    refine wr_J (rS (As := [.ref (wad w 8 x1)]) (rest := [.long (oL r_42), .ref (wad w 6 o)]) X hT hWσ_43 hS (met_Store_lowOf l (w := w) hV x1 _ σ_43 (by omega) h) (va_cwS 1 X.2.2.2.2 (lw_S q1318 q1319 q136 q1320) rfl rfl rfl (by decide +kernel) ⟨Nat.le_of_ble_eq_true rfl, Nat.le_of_ble_eq_true rfl⟩) rfl hl.1 rfl (by first | exact Nat.le_of_ble_eq_true rfl | simp [catK, catI, catR, catL]) dX5_apply_171 ⟨Nat.le_refl _, Nat.le_refl _⟩) hS (fun r_44 σ_45 H locs rr_44 rkσ_45 h hWσ_45 hS => ?_)
    have h := h rr_44 rkσ_45
    refine lv_iload_n X.1 X.2.1 dX5_apply_174 rfl (lv_at hl 2 rfl) ?_
    refine lv_iload_n X.1 X.2.1 dX5_apply_175 rfl (lv_at hl 3 rfl) ?_
    refine lv_aload_n X.1 X.2.1 dX5_apply_176 rfl (lv_at hl 1 rfl) ?_
    refine wr_I (rV (As := []) (rest := [.int (oI x3), .int (oI x2), .long (oL r_44), .long (oL r_42), .ref (wad w 6 o)]) X hT hWσ_45 hS (met_Row_length l (w := w) hV x1 _ σ_45 (by omega) h) (cwV 0 X.2.2.2.2 (lw_V q1294 q764 q765 q132 q766) rfl rfl rfl (by decide +kernel) ⟨Nat.le_of_ble_eq_true rfl, Nat.le_of_ble_eq_true rfl⟩) vl8_x1 (by decide) rfl rfl hl.1 rfl (by first | exact Nat.le_of_ble_eq_true rfl | simp [catK, catI, catR, catL]) dX5_apply_177 ⟨Nat.le_refl _, Nat.le_refl _⟩) hS (fun r_46 σ_47 H locs rr_46 rkσ_47 h hWσ_47 hS => ?_)
    have h := h rr_46 rkσ_47
    refine wr_V (rV (As := [.long (oL r_42), .long (oL r_44), .int (oI x2), .int (oI x3), .int (oI r_46)]) (rest := []) X hT hWσ_47 hS (met_Index_put l (w := w) hV o r_42 r_44 x2 x3 r_46 _ σ_47 (by omega) rr_42 rr_44 rx2 rx3 rr_46 h) (cwV 5 X.2.2.2.2 (lw_V q897 q898 q899 q139 q900) rfl rfl rfl (by decide +kernel) ⟨Nat.le_of_ble_eq_true rfl, Nat.le_of_ble_eq_true rfl⟩) vl6_o (by decide) rfl rfl hl.1 rfl (by first | exact Nat.le_of_ble_eq_true rfl | simp [catK, catI, catR, catL]) dX5_apply_180 ⟨Nat.le_refl _, Nat.le_refl _⟩) hS (fun σ_49 H locs rkσ_49 h hWσ_49 hS => ?_)
    have h := h rkσ_49
    exact wret_V X hr hlk hWσ_49 hS h dX5_apply_183
set_option maxHeartbeats 4000000 in
set_option maxRecDepth 100000 in
theorem wk_Store_apply_b136 {p : Program} {l : Launch} {e : Env} {st : State} {m : MethodId} {args : Array Value} {below : List Frame} {meth : Method} {c : Code} {w : Wp} {o : Int} {x1 : Int} {x2 : Int} {x3 : Int} {Q : St → Prop} (X : CallFix p m c cX5_apply 6 st args lw_all RX5) (hr : meth.sig.returnType = none) (hlk : meth.locks = false) (hT : Tb w st) (hV : Hvl w) (ho : 0 ≤ o ∧ o < 2) (hx1 : 0 ≤ x1 ∧ x1 < 8) (rx2 : rI x2) (rx3 : rI x3) : ∀ (σ : St) (H : Heap) (locs : List Loc) (ls : Array Slot), lv_has ls 6 [(0, .ref (wad w 3 o)), (1, .ref (wad w 8 x1))] → Wo w σ H → va_S (wA w) st.heap H locs → wp_Store_apply_b136 (wc w) (wtv w) o x1 x2 x3 Q σ → W p l e (headSpec (ws_ yX5_apply cX5_apply 6 none) rm_Store_apply).room st m args below meth c H locs 0 0 (MQ below (QcV w Q) args st 0 0 (wA w)) (F0 m 136 ls []) := by
  have vl3_o : vl w 3 o := hV.hv 3 rfl ⟨by omega, by show _ < (2 : Int); omega⟩
  have vl6_o : vl w 6 o := hV.hv 6 rfl ⟨by omega, by show _ < (2 : Int); omega⟩
  intro σ H locs ls hl hW hS h
  unfold wp_Store_apply_b136 at h
  refine lv_aload_n X.1 X.2.1 dX5_apply_136 rfl (lv_at hl 0 rfl) ?_
  refine wg (v := .ref (wad w 6 o)) X hT hW 3 2 194 vl3_o rfl rfl (by decide) rfl (by decide) in_X5 q526 rfl dX5_apply_137 ?_
  refine lv_aload_n X.1 X.2.1 dX5_apply_140 rfl (lv_at hl 1 rfl) ?_
  refine wr_J (rS (As := [.ref (wad w 8 x1)]) (rest := [.ref (wad w 6 o)]) X hT hW hS (met_Store_highOf l (w := w) hV x1 _ σ (by omega) h) (va_cwS 1 X.2.2.2.2 (lw_S q1315 q1316 q136 q1317) rfl rfl rfl (by decide +kernel) ⟨Nat.le_of_ble_eq_true rfl, Nat.le_of_ble_eq_true rfl⟩) rfl hl.1 rfl (by first | exact Nat.le_of_ble_eq_true rfl | simp [catK, catI, catR, catL]) dX5_apply_141 ⟨Nat.le_refl _, Nat.le_refl _⟩) hS (fun r_50 σ_51 H locs rr_50 rkσ_51 h hWσ_51 hS => ?_)
  have h := h rr_50 rkσ_51
  refine lv_aload_n X.1 X.2.1 dX5_apply_144 rfl (lv_at hl 1 rfl) ?_
  refine wr_J (rS (As := [.ref (wad w 8 x1)]) (rest := [.long (oL r_50), .ref (wad w 6 o)]) X hT hWσ_51 hS (met_Store_lowOf l (w := w) hV x1 _ σ_51 (by omega) h) (va_cwS 1 X.2.2.2.2 (lw_S q1318 q1319 q136 q1320) rfl rfl rfl (by decide +kernel) ⟨Nat.le_of_ble_eq_true rfl, Nat.le_of_ble_eq_true rfl⟩) rfl hl.1 rfl (by first | exact Nat.le_of_ble_eq_true rfl | simp [catK, catI, catR, catL]) dX5_apply_145 ⟨Nat.le_refl _, Nat.le_refl _⟩) hS (fun r_52 σ_53 H locs rr_52 rkσ_53 h hWσ_53 hS => ?_)
  have h := h rr_52 rkσ_53
  refine wr_V (rV (As := [.long (oL r_50), .long (oL r_52)]) (rest := []) X hT hWσ_53 hS (met_Index_remove l (w := w) hV o r_50 r_52 _ σ_53 (by omega) rr_50 rr_52 h) (cwV 2 X.2.2.2.2 (lw_V q1360 q1361 q1362 q139 q1363) rfl rfl rfl (by decide +kernel) ⟨Nat.le_of_ble_eq_true rfl, Nat.le_of_ble_eq_true rfl⟩) vl6_o (by decide) rfl rfl hl.1 rfl (by first | exact Nat.le_of_ble_eq_true rfl | simp [catK, catI, catR, catL]) dX5_apply_148 ⟨Nat.le_refl _, Nat.le_refl _⟩) hS (fun σ_55 H locs rkσ_55 h hWσ_55 hS => ?_)
  have h := h rkσ_55
  refine lv_goto (tgt := 183) X.1 X.2.1 dX5_apply_151 (by decide) ?_
  exact wret_V X hr hlk hWσ_55 hS h dX5_apply_183
set_option maxHeartbeats 4000000 in
set_option maxRecDepth 100000 in
theorem wk_Store_apply_b120 {p : Program} {l : Launch} {e : Env} {st : State} {m : MethodId} {args : Array Value} {below : List Frame} {meth : Method} {c : Code} {w : Wp} {o : Int} {x1 : Int} {x2 : Int} {x3 : Int} {Q : St → Prop} (X : CallFix p m c cX5_apply 6 st args lw_all RX5) (hr : meth.sig.returnType = none) (hlk : meth.locks = false) (hT : Tb w st) (hV : Hvl w) (ho : 0 ≤ o ∧ o < 2) (hx1 : 0 ≤ x1 ∧ x1 < 8) (rx2 : rI x2) (rx3 : rI x3) (K136 : St → Prop) (hK136 : ∀ (σ : St) (H : Heap) (locs : List Loc) (ls : Array Slot), lv_has ls 6 [(0, .ref (wad w 3 o)), (1, .ref (wad w 8 x1))] → Wo w σ H → va_S (wA w) st.heap H locs → K136 σ → W p l e (headSpec (ws_ yX5_apply cX5_apply 6 none) rm_Store_apply).room st m args below meth c H locs 0 0 (MQ below (QcV w Q) args st 0 0 (wA w)) (F0 m 136 ls [])) : ∀ (y5 : Int) (σ : St) (H : Heap) (locs : List Loc) (ls : Array Slot), rI y5 → lv_has ls 6 [(0, .ref (wad w 3 o)), (1, .ref (wad w 8 x1)), (2, .int (oI x2)), (3, .int (oI x3)), (5, .int (oI y5))] → Wo w σ H → va_S (wA w) st.heap H locs → wp_Store_apply_b120 (wc w) (wtv w) o x1 x2 x3 Q K136 y5 σ → W p l e (headSpec (ws_ yX5_apply cX5_apply 6 none) rm_Store_apply).room st m args below meth c H locs 0 0 (MQ below (QcV w Q) args st 0 0 (wA w)) (F0 m 120 ls []) := by
  have vl8_x1 : vl w 8 x1 := hV.hv 8 rfl ⟨by omega, by show _ < (8 : Int); omega⟩
  intro y5 σ H locs ls ry5 hl hW hS h
  unfold wp_Store_apply_b120 at h
  refine lv_iload X.1 X.2.1 dX5_apply_120 (lv_at hl 4 rfl) ?_
  refine lv_bipush (v := oI 9) X.1 X.2.1 dX5_apply_122 (by decide) ?_
  refine w_icmp_ne (tgt := 154) X ry5 ((rB_lit 9 (by decide)).i) dX5_apply_124 (by decide) (fun hc => ?_) (fun hc => ?_)
  · have h := h.1 hc
    exact wk_Store_apply_b154 X hr hlk hT hV ho hx1 rx2 rx3 y5 σ _ _ _ ry5 (lv_sub hl [0, 1, 2, 3, 4] rfl) hW hS h
  · have h := h.2 hc
    refine lv_aload_n X.1 X.2.1 dX5_apply_127 rfl (lv_at hl 1 rfl) ?_
    refine lv_iconst (v := oI 4) X.1 X.2.1 dX5_apply_128 rfl ?_
    refine wr_I (rV (As := [.int (oI 4)]) (rest := []) X hT hW hS (met_Row_get l (w := w) hV x1 4 _ σ (by omega) ((rB_lit 4 (by decide)).i) h) (cwV 1 X.2.2.2.2 (lw_V q1306 q1207 q1208 q132 q1209) rfl rfl rfl (by decide +kernel) ⟨Nat.le_of_ble_eq_true rfl, Nat.le_of_ble_eq_true rfl⟩) vl8_x1 (by decide) rfl rfl hl.1 rfl (by first | exact Nat.le_of_ble_eq_true rfl | simp [catK, catI, catR, catL]) dX5_apply_129 ⟨Nat.le_refl _, Nat.le_refl _⟩) hS (fun r_56 σ_57 H locs rr_56 rkσ_57 h hWσ_57 hS => ?_)
    have h := h rr_56 rkσ_57
    refine lv_iconst (v := oI 1) X.1 X.2.1 dX5_apply_132 rfl ?_
    refine w_icmp_ne (tgt := 154) X rr_56 rZ_1.i dX5_apply_133 (by decide) (fun hc => ?_) (fun hc => ?_)
    · have h := h.1 hc
      exact wk_Store_apply_b154 X hr hlk hT hV ho hx1 rx2 rx3 y5 σ_57 _ _ _ ry5 (lv_sub hl [0, 1, 2, 3, 4] rfl) hWσ_57 hS h
    · have h := h.2 hc
      exact hK136 σ_57 _ _ _ (lv_sub hl [0, 1] rfl) hWσ_57 hS h
set_option maxHeartbeats 4000000 in
set_option maxRecDepth 100000 in
theorem wk_Store_apply_b106 {p : Program} {l : Launch} {e : Env} {st : State} {m : MethodId} {args : Array Value} {below : List Frame} {meth : Method} {c : Code} {w : Wp} {o : Int} {x1 : Int} {x2 : Int} {x3 : Int} {Q : St → Prop} (X : CallFix p m c cX5_apply 6 st args lw_all RX5) (hr : meth.sig.returnType = none) (hlk : meth.locks = false) (hT : Tb w st) (hV : Hvl w) (ho : 0 ≤ o ∧ o < 2) (hx1 : 0 ≤ x1 ∧ x1 < 8) (rx2 : rI x2) (rx3 : rI x3) : ∀ (y5 : Int) (σ : St) (H : Heap) (locs : List Loc) (ls : Array Slot), rI y5 → lv_has ls 6 [(0, .ref (wad w 3 o)), (1, .ref (wad w 8 x1)), (2, .int (oI x2)), (3, .int (oI x3)), (5, .int (oI y5))] → Wo w σ H → va_S (wA w) st.heap H locs → wp_Store_apply_b106 (wc w) (wtv w) o x1 x2 x3 Q y5 σ → W p l e (headSpec (ws_ yX5_apply cX5_apply 6 none) rm_Store_apply).room st m args below meth c H locs 0 0 (MQ below (QcV w Q) args st 0 0 (wA w)) (F0 m 106 ls []) := by
  have vl8_x1 : vl w 8 x1 := hV.hv 8 rfl ⟨by omega, by show _ < (8 : Int); omega⟩
  intro y5 σ H locs ls ry5 hl hW hS h
  unfold wp_Store_apply_b106 at h
  refine lv_iload X.1 X.2.1 dX5_apply_106 (lv_at hl 4 rfl) ?_
  refine lv_iconst (v := oI 2) X.1 X.2.1 dX5_apply_108 rfl ?_
  refine w_icmp_ne (tgt := 120) X ry5 ((rB_lit 2 (by decide)).i) dX5_apply_109 (by decide) (fun hc => ?_) (fun hc => ?_)
  · have h := h.1 hc
    exact wk_Store_apply_b120 X hr hlk hT hV ho hx1 rx2 rx3 (wp_Store_apply_b136 (wc w) (wtv w) o x1 x2 x3 Q) (wk_Store_apply_b136 X hr hlk hT hV ho hx1 rx2 rx3) y5 σ _ _ _ ry5 (lv_sub hl [0, 1, 2, 3, 4] rfl) hW hS h
  · have h := h.2 hc
    refine lv_aload_n X.1 X.2.1 dX5_apply_112 rfl (lv_at hl 1 rfl) ?_
    refine lv_iconst (v := oI 4) X.1 X.2.1 dX5_apply_113 rfl ?_
    refine wr_I (rV (As := [.int (oI 4)]) (rest := []) X hT hW hS (met_Row_get l (w := w) hV x1 4 _ σ (by omega) ((rB_lit 4 (by decide)).i) h) (cwV 1 X.2.2.2.2 (lw_V q1306 q1207 q1208 q132 q1209) rfl rfl rfl (by decide +kernel) ⟨Nat.le_of_ble_eq_true rfl, Nat.le_of_ble_eq_true rfl⟩) vl8_x1 (by decide) rfl rfl hl.1 rfl (by first | exact Nat.le_of_ble_eq_true rfl | simp [catK, catI, catR, catL]) dX5_apply_114 ⟨Nat.le_refl _, Nat.le_refl _⟩) hS (fun r_58 σ_59 H locs rr_58 rkσ_59 h hWσ_59 hS => ?_)
    have h := h rr_58 rkσ_59
    refine w_if_eq (tgt := 136) X rr_58 dX5_apply_117 (by decide) (fun hc => ?_) (fun hc => ?_)
    · have h := h.1 hc
      exact wk_Store_apply_b136 X hr hlk hT hV ho hx1 rx2 rx3 σ_59 _ _ _ (lv_sub hl [0, 1] rfl) hWσ_59 hS h
    · have h := h.2 hc
      exact wk_Store_apply_b120 X hr hlk hT hV ho hx1 rx2 rx3 (wp_Store_apply_b136 (wc w) (wtv w) o x1 x2 x3 Q) (wk_Store_apply_b136 X hr hlk hT hV ho hx1 rx2 rx3) y5 σ_59 _ _ _ ry5 (lv_sub hl [0, 1, 2, 3, 4] rfl) hWσ_59 hS h
set_option maxHeartbeats 4000000 in
set_option maxRecDepth 100000 in
theorem wk_Store_apply_b59 {p : Program} {l : Launch} {e : Env} {st : State} {m : MethodId} {args : Array Value} {below : List Frame} {meth : Method} {c : Code} {w : Wp} {o : Int} {x1 : Int} {x2 : Int} {x3 : Int} {Q : St → Prop} (X : CallFix p m c cX5_apply 6 st args lw_all RX5) (hr : meth.sig.returnType = none) (hlk : meth.locks = false) (hT : Tb w st) (hV : Hvl w) (ho : 0 ≤ o ∧ o < 2) (hx1 : 0 ≤ x1 ∧ x1 < 8) (rx2 : rI x2) (rx3 : rI x3) (K60 : Int → Int → Int → Int → St → Prop) (hK60 : ∀ (y4 y5 t0 t1 : Int) (σ : St) (H : Heap) (locs : List Loc) (ls : Array Slot), rI y4 → rI y5 → rZ t0 → rI t1 → lv_has ls 6 [(0, .ref (wad w 3 o)), (1, .ref (wad w 8 x1)), (2, .int (oI x2)), (3, .int (oI x3)), (4, .int (oI y4)), (5, .int (oI y5))] → Wo w σ H → va_S (wA w) st.heap H locs → K60 y4 y5 t0 t1 σ → W p l e (headSpec (ws_ yX5_apply cX5_apply 6 none) rm_Store_apply).room st m args below meth c H locs 0 0 (MQ below (QcV w Q) args st 0 0 (wA w)) (F0 m 60 ls [.int (oI t0), .int (oI t1), .ref (wad w 3 o)])) : ∀ (y4 y5 t0 : Int) (σ : St) (H : Heap) (locs : List Loc) (ls : Array Slot), rI y4 → rI y5 → rI t0 → lv_has ls 6 [(0, .ref (wad w 3 o)), (1, .ref (wad w 8 x1)), (2, .int (oI x2)), (3, .int (oI x3)), (4, .int (oI y4)), (5, .int (oI y5))] → Wo w σ H → va_S (wA w) st.heap H locs → wp_Store_apply_b59 (wc w) (wtv w) o x1 x2 x3 Q K60 y4 y5 t0 σ → W p l e (headSpec (ws_ yX5_apply cX5_apply 6 none) rm_Store_apply).room st m args below meth c H locs 0 0 (MQ below (QcV w Q) args st 0 0 (wA w)) (F0 m 59 ls [.int (oI t0), .ref (wad w 3 o)]) := by

  intro y4 y5 t0 σ H locs ls ry4 ry5 rt0 hl hW hS h
  unfold wp_Store_apply_b59 at h
  refine lv_iconst (v := oI 0) X.1 X.2.1 dX5_apply_59 rfl ?_
  exact hK60 y4 y5 0 t0 σ _ _ _ ry4 ry5 rZ_0 rt0 (lv_sub hl [0, 1, 2, 3, 4, 5] rfl) hW hS h
set_option maxHeartbeats 4000000 in
set_option maxRecDepth 100000 in
theorem wk_Store_apply_b60 {p : Program} {l : Launch} {e : Env} {st : State} {m : MethodId} {args : Array Value} {below : List Frame} {meth : Method} {c : Code} {w : Wp} {o : Int} {x1 : Int} {x2 : Int} {x3 : Int} {Q : St → Prop} (X : CallFix p m c cX5_apply 6 st args lw_all RX5) (hr : meth.sig.returnType = none) (hlk : meth.locks = false) (hT : Tb w st) (hV : Hvl w) (ho : 0 ≤ o ∧ o < 2) (hx1 : 0 ≤ x1 ∧ x1 < 8) (rx2 : rI x2) (rx3 : rI x3) (K63 : Int → Int → St → Prop) (hK63 : ∀ (y4 y5 : Int) (σ : St) (H : Heap) (locs : List Loc) (ls : Array Slot), rI y4 → rI y5 → lv_has ls 6 [(0, .ref (wad w 3 o)), (1, .ref (wad w 8 x1)), (2, .int (oI x2)), (3, .int (oI x3)), (4, .int (oI y4)), (5, .int (oI y5))] → Wo w σ H → va_S (wA w) st.heap H locs → K63 y4 y5 σ → W p l e (headSpec (ws_ yX5_apply cX5_apply 6 none) rm_Store_apply).room st m args below meth c H locs 0 0 (MQ below (QcV w Q) args st 0 0 (wA w)) (F0 m 63 ls [])) : ∀ (y4 y5 t0 t1 : Int) (σ : St) (H : Heap) (locs : List Loc) (ls : Array Slot), rI y4 → rI y5 → rZ t0 → rI t1 → lv_has ls 6 [(0, .ref (wad w 3 o)), (1, .ref (wad w 8 x1)), (2, .int (oI x2)), (3, .int (oI x3)), (4, .int (oI y4)), (5, .int (oI y5))] → Wo w σ H → va_S (wA w) st.heap H locs → wp_Store_apply_b60 (wc w) (wtv w) o x1 x2 x3 Q K63 y4 y5 t0 t1 σ → W p l e (headSpec (ws_ yX5_apply cX5_apply 6 none) rm_Store_apply).room st m args below meth c H locs 0 0 (MQ below (QcV w Q) args st 0 0 (wA w)) (F0 m 60 ls [.int (oI t0), .int (oI t1), .ref (wad w 3 o)]) := by
  have vl3_o : vl w 3 o := hV.hv 3 rfl ⟨by omega, by show _ < (2 : Int); omega⟩
  intro y4 y5 t0 t1 σ H locs ls ry4 ry5 rt0 rt1 hl hW hS h
  unfold wp_Store_apply_b60 at h
  refine wr_V (rV (As := [.int (oI t1), .int (oI t0)]) (rest := []) X hT hW hS (met_Store_name l (w := w) hV o t1 t0 _ σ (by omega) rt1 rt0 h) (cwV 2 X.2.2.2.2 (lw_V q1351 q1353 qs49 q136 q1354) rfl rfl rfl (by decide +kernel) ⟨Nat.le_of_ble_eq_true rfl, Nat.le_of_ble_eq_true rfl⟩) vl3_o (by decide) rfl rfl hl.1 rfl (by first | exact Nat.le_of_ble_eq_true rfl | simp [catK, catI, catR, catL]) dX5_apply_60 ⟨Nat.le_refl _, Nat.le_refl _⟩) hS (fun σ_61 H locs rkσ_61 h hWσ_61 hS => ?_)
  have h := h rkσ_61
  exact hK63 y4 y5 σ_61 _ _ _ ry4 ry5 (lv_sub hl [0, 1, 2, 3, 4, 5] rfl) hWσ_61 hS h
set_option maxHeartbeats 4000000 in
set_option maxRecDepth 100000 in
theorem wk_Store_apply_b63 {p : Program} {l : Launch} {e : Env} {st : State} {m : MethodId} {args : Array Value} {below : List Frame} {meth : Method} {c : Code} {w : Wp} {o : Int} {x1 : Int} {x2 : Int} {x3 : Int} {Q : St → Prop} (X : CallFix p m c cX5_apply 6 st args lw_all RX5) (hr : meth.sig.returnType = none) (hlk : meth.locks = false) (hT : Tb w st) (hV : Hvl w) (ho : 0 ≤ o ∧ o < 2) (hx1 : 0 ≤ x1 ∧ x1 < 8) (rx2 : rI x2) (rx3 : rI x3) : ∀ (y4 y5 : Int) (σ : St) (H : Heap) (locs : List Loc) (ls : Array Slot), rI y4 → rI y5 → lv_has ls 6 [(0, .ref (wad w 3 o)), (1, .ref (wad w 8 x1)), (2, .int (oI x2)), (3, .int (oI x3)), (4, .int (oI y4)), (5, .int (oI y5))] → Wo w σ H → va_S (wA w) st.heap H locs → wp_Store_apply_b63 (wc w) (wtv w) o x1 x2 x3 Q y4 y5 σ → W p l e (headSpec (ws_ yX5_apply cX5_apply 6 none) rm_Store_apply).room st m args below meth c H locs 0 0 (MQ below (QcV w Q) args st 0 0 (wA w)) (F0 m 63 ls []) := by
  have vl3_o : vl w 3 o := hV.hv 3 rfl ⟨by omega, by show _ < (2 : Int); omega⟩
  have vl8_x1 : vl w 8 x1 := hV.hv 8 rfl ⟨by omega, by show _ < (8 : Int); omega⟩
  intro y4 y5 σ H locs ls ry4 ry5 hl hW hS h
  unfold wp_Store_apply_b63 at h
  refine lv_iload X.1 X.2.1 dX5_apply_63 (lv_at hl 5 rfl) ?_
  refine lv_iconst (v := oI 4) X.1 X.2.1 dX5_apply_65 rfl ?_
  refine w_icmp_ne (tgt := 83) X ry5 ((rB_lit 4 (by decide)).i) dX5_apply_66 (by decide) (fun hc => ?_) (fun hc => ?_)
  · have h := h.1 hc
    refine lv_iload X.1 X.2.1 dX5_apply_83 (lv_at hl 5 rfl) ?_
    refine lv_iconst (v := oI 1) X.1 X.2.1 dX5_apply_85 rfl ?_
    refine w_icmp_ne (tgt := 106) X ry5 rZ_1.i dX5_apply_86 (by decide) (fun hc => ?_) (fun hc => ?_)
    · have h := h.1 hc
      exact wk_Store_apply_b106 X hr hlk hT hV ho hx1 rx2 rx3 y5 σ _ _ _ ry5 (lv_sub hl [0, 1, 2, 3, 5] rfl) hW hS h
    · have h := h.2 hc
      refine lv_aload_n X.1 X.2.1 dX5_apply_89 rfl (lv_at hl 1 rfl) ?_
      refine lv_iconst (v := oI 4) X.1 X.2.1 dX5_apply_90 rfl ?_
      refine wr_I (rV (As := [.int (oI 4)]) (rest := []) X hT hW hS (met_Row_get l (w := w) hV x1 4 _ σ (by omega) ((rB_lit 4 (by decide)).i) h) (cwV 1 X.2.2.2.2 (lw_V q1306 q1207 q1208 q132 q1209) rfl rfl rfl (by decide +kernel) ⟨Nat.le_of_ble_eq_true rfl, Nat.le_of_ble_eq_true rfl⟩) vl8_x1 (by decide) rfl rfl hl.1 rfl (by first | exact Nat.le_of_ble_eq_true rfl | simp [catK, catI, catR, catL]) dX5_apply_91 ⟨Nat.le_refl _, Nat.le_refl _⟩) hS (fun r_62 σ_63 H locs rr_62 rkσ_63 h hWσ_63 hS => ?_)
      have h := h rr_62 rkσ_63
      refine w_if_ne (tgt := 106) X rr_62 dX5_apply_94 (by decide) (fun hc => ?_) (fun hc => ?_)
      · have h := h.1 hc
        exact wk_Store_apply_b106 X hr hlk hT hV ho hx1 rx2 rx3 y5 σ_63 _ _ _ ry5 (lv_sub hl [0, 1, 2, 3, 5] rfl) hWσ_63 hS h
      · have h := h.2 hc
        refine lv_aload_n X.1 X.2.1 dX5_apply_97 rfl (lv_at hl 0 rfl) ?_
        refine lv_iload X.1 X.2.1 dX5_apply_98 (lv_at hl 4 rfl) ?_
        refine wr_V (rV (As := [.int (oI y4)]) (rest := []) X hT hWσ_63 hS (met_Store_forget l (w := w) hV o y4 _ σ_63 (by omega) ry4 h) (cwV 1 X.2.2.2.2 (lw_V q1380 q1381 q1382 q136 q1383) rfl rfl rfl (by decide +kernel) ⟨Nat.le_of_ble_eq_true rfl, Nat.le_of_ble_eq_true rfl⟩) vl3_o (by decide) rfl rfl hl.1 rfl (by first | exact Nat.le_of_ble_eq_true rfl | simp [catK, catI, catR, catL]) dX5_apply_100 ⟨Nat.le_refl _, Nat.le_refl _⟩) hS (fun σ_65 H locs rkσ_65 h hWσ_65 hS => ?_)
        have h := h rkσ_65
        refine lv_goto (tgt := 183) X.1 X.2.1 dX5_apply_103 (by decide) ?_
        exact wret_V X hr hlk hWσ_65 hS h dX5_apply_183
  · have h := h.2 hc
    refine lv_aload_n X.1 X.2.1 dX5_apply_69 rfl (lv_at hl 0 rfl) ?_
    refine lv_iload X.1 X.2.1 dX5_apply_70 (lv_at hl 4 rfl) ?_
    refine lv_aload_n X.1 X.2.1 dX5_apply_72 rfl (lv_at hl 1 rfl) ?_
    refine lv_iconst (v := oI 4) X.1 X.2.1 dX5_apply_73 rfl ?_
    refine wr_I (rV (As := [.int (oI 4)]) (rest := [.int (oI y4), .ref (wad w 3 o)]) X hT hW hS (met_Row_get l (w := w) hV x1 4 _ σ (by omega) ((rB_lit 4 (by decide)).i) h) (cwV 1 X.2.2.2.2 (lw_V q1306 q1207 q1208 q132 q1209) rfl rfl rfl (by decide +kernel) ⟨Nat.le_of_ble_eq_true rfl, Nat.le_of_ble_eq_true rfl⟩) vl8_x1 (by decide) rfl rfl hl.1 rfl (by first | exact Nat.le_of_ble_eq_true rfl | simp [catK, catI, catR, catL]) dX5_apply_74 ⟨Nat.le_refl _, Nat.le_refl _⟩) hS (fun r_66 σ_67 H locs rr_66 rkσ_67 h hWσ_67 hS => ?_)
    have h := h rr_66 rkσ_67
    refine wr_V (rV (As := [.int (oI y4), .int (oI r_66)]) (rest := []) X hT hWσ_67 hS (met_Store_shorten l (w := w) hV o y4 r_66 _ σ_67 (by omega) ry4 rr_66 h) (cwV 2 X.2.2.2.2 (lw_V q1355 q1356 q1357 q136 q1358) rfl rfl rfl (by decide +kernel) ⟨Nat.le_of_ble_eq_true rfl, Nat.le_of_ble_eq_true rfl⟩) vl3_o (by decide) rfl rfl hl.1 rfl (by first | exact Nat.le_of_ble_eq_true rfl | simp [catK, catI, catR, catL]) dX5_apply_77 ⟨Nat.le_refl _, Nat.le_refl _⟩) hS (fun σ_69 H locs rkσ_69 h hWσ_69 hS => ?_)
    have h := h rkσ_69
    refine lv_goto (tgt := 183) X.1 X.2.1 dX5_apply_80 (by decide) ?_
    exact wret_V X hr hlk hWσ_69 hS h dX5_apply_183
set_option maxHeartbeats 4000000 in
set_option maxRecDepth 100000 in
theorem met_Store_apply (l : Launch) {w : Wp} (hV : Hvl w) (o : Int) (x1 : Int) (x2 : Int) (x3 : Int) (Q : St → Prop) (σ : St) (ho : 0 ≤ o ∧ o < 2) (hx1 : 0 ≤ x1 ∧ x1 < 8) (rx2 : rI x2) (rx3 : rI x3) (h : wp_Store_apply (wc w) (wtv w) o x1 x2 x3 Q σ) : Met l yX5_apply (ws_ yX5_apply cX5_apply 6 none) rm_Store_apply (PcW w σ [.ref (wad w 3 o), .ref (wad w 8 x1), .int (oI x2), .int (oI x3)]) (QcV w Q) 0 0 (wA w) := by
  refine Met.ofW (cc := cX5_apply) (maxL := 6) (ret := none) (by decide) rfl ?_
  intro p e st m args below meth c s₁ B hml hv
  obtain ⟨hargs, hW, hT⟩ := hv
  have X : CallFix p m c cX5_apply 6 st _ lw_all RX5 := ⟨B.exec, B.bytes, hml, findClass_of_methodNamed B.named, fun w h => atoms_spec (ws := ws_ yX5_apply cX5_apply 6 none) B.pre w (List.mem_cons_of_mem _ h)⟩
  have hr := B.returns
  have hlk := B.notSynchronized
  have hS : va_S (wA w) st.heap st.heap [] := va_S.rf
  have vl3_o : vl w 3 o := hV.hv 3 rfl ⟨by omega, by show _ < (2 : Int); omega⟩
  have vl8_x1 : vl w 8 x1 := hV.hv 8 rfl ⟨by omega, by show _ < (8 : Int); omega⟩
  have hl := lv_entry ([.ref (wad w 3 o), .ref (wad w 8 x1), .int (oI x2), .int (oI x3)]) (n := 6) (Nat.le_of_ble_eq_true rfl)
  have hfr := lg_entry_eq m ([.ref (wad w 3 o), .ref (wad w 8 x1), .int (oI x2), .int (oI x3)]) 6
  rw [← hargs] at hfr
  rw [hfr]
  generalize (lg_sl ([.ref (wad w 3 o), .ref (wad w 8 x1), .int (oI x2), .int (oI x3)]) ++ List.replicate (6 - (lg_sl ([.ref (wad w 3 o), .ref (wad w 8 x1), .int (oI x2), .int (oI x3)])).length) Slot.unset).toArray = ls at hl ⊢
  have hl : lv_has ls 6 [(0, .ref (wad w 3 o)), (1, .ref (wad w 8 x1)), (2, .int (oI x2)), (3, .int (oI x3))] := hl
  unfold wp_Store_apply at h
  refine lv_aload_n X.1 X.2.1 dX5_apply_0 rfl (lv_at hl 1 rfl) ?_
  refine lv_iconst (v := oI 0) X.1 X.2.1 dX5_apply_1 rfl ?_
  refine wr_I (rV (As := [.int (oI 0)]) (rest := []) X hT hW hS (met_Row_get l (w := w) hV x1 0 _ σ (by omega) rZ_0.i h) (cwV 1 X.2.2.2.2 (lw_V q1306 q1207 q1208 q132 q1209) rfl rfl rfl (by decide +kernel) ⟨Nat.le_of_ble_eq_true rfl, Nat.le_of_ble_eq_true rfl⟩) vl8_x1 (by decide) rfl rfl hl.1 rfl (by first | exact Nat.le_of_ble_eq_true rfl | simp [catK, catI, catR, catL]) dX5_apply_2 ⟨Nat.le_refl _, Nat.le_refl _⟩) hS (fun r_70 σ_71 H locs rr_70 rkσ_71 h hWσ_71 hS => ?_)
  have h := h rr_70 rkσ_71
  refine lv_istore (i := 4) (lv' := [(4, .int (oI r_70)), (0, .ref (wad w 3 o)), (1, .ref (wad w 8 x1)), (2, .int (oI x2)), (3, .int (oI x3))]) X.1 X.2.1 dX5_apply_5 hl (by decide) (by first | rfl | simp [catK, catI, catR, catL]) (fun ls hl => ?_)
  refine lv_aload_n X.1 X.2.1 dX5_apply_7 rfl (lv_at hl 2 rfl) ?_
  refine wr_I (rV (As := []) (rest := []) X hT hWσ_71 hS (met_Row_type l (w := w) hV x1 _ σ_71 (by omega) h) (cwV 0 X.2.2.2.2 (lw_V q1302 q1303 q1304 q132 q1305) rfl rfl rfl (by decide +kernel) ⟨Nat.le_of_ble_eq_true rfl, Nat.le_of_ble_eq_true rfl⟩) vl8_x1 (by decide) rfl rfl hl.1 rfl (by first | exact Nat.le_of_ble_eq_true rfl | simp [catK, catI, catR, catL]) dX5_apply_8 ⟨Nat.le_refl _, Nat.le_refl _⟩) hS (fun r_72 σ_73 H locs rr_72 rkσ_73 h hWσ_73 hS => ?_)
  have h := h rr_72 rkσ_73
  refine lv_istore (i := 5) (lv' := [(5, .int (oI r_72)), (4, .int (oI r_70)), (0, .ref (wad w 3 o)), (1, .ref (wad w 8 x1)), (2, .int (oI x2)), (3, .int (oI x3))]) X.1 X.2.1 dX5_apply_11 hl (by decide) (by first | rfl | simp [catK, catI, catR, catL]) (fun ls hl => ?_)
  refine lv_iload X.1 X.2.1 dX5_apply_13 (lv_at hl 0 rfl) ?_
  refine lv_iconst (v := oI 1) X.1 X.2.1 dX5_apply_15 rfl ?_
  refine w_icmp_ne (tgt := 63) X rr_72 rZ_1.i dX5_apply_16 (by decide) (fun hc => ?_) (fun hc => ?_)
  · have h := h.1 hc
    exact wk_Store_apply_b63 X hr hlk hT hV ho hx1 rx2 rx3 r_70 r_72 σ_73 _ _ _ rr_70 rr_72 (lv_sub hl [2, 3, 4, 5, 1, 0] rfl) hWσ_73 hS h
  · have h := h.2 hc
    refine lv_aload_n X.1 X.2.1 dX5_apply_19 rfl (lv_at hl 2 rfl) ?_
    refine lv_aload_n X.1 X.2.1 dX5_apply_20 rfl (lv_at hl 2 rfl) ?_
    refine wg (v := .int (oI (gI σ_73 203 o))) X hT hWσ_73 3 11 203 vl3_o rfl rfl (by decide) rfl (by decide) in_X5 q537 rfl dX5_apply_21 ?_
    refine lv_iload X.1 X.2.1 dX5_apply_24 (lv_at hl 1 rfl) ?_
    refine lv_iconst (v := oI 1) X.1 X.2.1 dX5_apply_26 rfl ?_
    refine w_iadd X dX5_apply_27 ?_
    refine w_mmax X (hWσ_73.r.i 203 o rfl) (w32_r _) hl.1 q1350 q924 q149 q925 (Nat.le_of_ble_eq_true rfl) (Nat.le_of_ble_eq_true rfl) (Nat.le_refl _) (Nat.le_refl _) dX5_apply_28 ?_
    refine wput (z := max (gI σ_73 203 o) (w32 (r_70 + 1))) X hT hWσ_73 hS 3 11 203 vl3_o rfl rfl (by decide) rfl (by decide) in_X5 tyX5 tyX5_ok nmX5 q537 rfl rfl (max_rI (hWσ_73.r.i 203 o rfl) (w32_r _)) (fv0 w rfl) rfl rfl dX5_apply_31 (fun H locs hN hS => ?_)
    obtain ⟨σ_74, eσ_74⟩ : ∃ x, x = sI σ_73 203 o (max (gI σ_73 203 o) (w32 (r_70 + 1))) := ⟨_, rfl⟩
    have hWσ_74 : Wo w σ_74 H := eσ_74 ▸ hN
    have h := h σ_74 eσ_74
    clear hN
    refine lv_aload_n X.1 X.2.1 dX5_apply_34 rfl (lv_at hl 2 rfl) ?_
    refine lv_iload X.1 X.2.1 dX5_apply_35 (lv_at hl 1 rfl) ?_
    refine lv_aload_n X.1 X.2.1 dX5_apply_37 rfl (lv_at hl 3 rfl) ?_
    refine lv_iconst (v := oI 4) X.1 X.2.1 dX5_apply_38 rfl ?_
    refine wr_I (rV (As := [.int (oI 4)]) (rest := [.int (oI r_70), .ref (wad w 3 o)]) X hT hWσ_74 hS (met_Row_get l (w := w) hV x1 4 _ σ_74 (by omega) ((rB_lit 4 (by decide)).i) h) (cwV 1 X.2.2.2.2 (lw_V q1306 q1207 q1208 q132 q1209) rfl rfl rfl (by decide +kernel) ⟨Nat.le_of_ble_eq_true rfl, Nat.le_of_ble_eq_true rfl⟩) vl8_x1 (by decide) rfl rfl hl.1 rfl (by first | exact Nat.le_of_ble_eq_true rfl | simp [catK, catI, catR, catL]) dX5_apply_39 ⟨Nat.le_refl _, Nat.le_refl _⟩) hS (fun r_75 σ_76 H locs rr_75 rkσ_76 h hWσ_76 hS => ?_)
    have h := h rr_75 rkσ_76
    refine lv_iconst (v := oI 2) X.1 X.2.1 dX5_apply_42 rfl ?_
    refine w_icmp_ne (tgt := 59) X rr_75 ((rB_lit 2 (by decide)).i) dX5_apply_43 (by decide) (fun hc => ?_) (fun hc => ?_)
    · have h := h.1 hc
      exact wk_Store_apply_b59 X hr hlk hT hV ho hx1 rx2 rx3 (wp_Store_apply_b60 (wc w) (wtv w) o x1 x2 x3 Q (wp_Store_apply_b63 (wc w) (wtv w) o x1 x2 x3 Q)) (wk_Store_apply_b60 X hr hlk hT hV ho hx1 rx2 rx3 (wp_Store_apply_b63 (wc w) (wtv w) o x1 x2 x3 Q) (wk_Store_apply_b63 X hr hlk hT hV ho hx1 rx2 rx3)) r_70 r_72 r_70 σ_76 _ _ _ rr_70 rr_72 rr_70 (lv_sub hl [2, 3, 4, 5, 1, 0] rfl) hWσ_76 hS h
    · have h := h.2 hc
      refine lv_aload_n X.1 X.2.1 dX5_apply_46 rfl (lv_at hl 3 rfl) ?_
      refine lv_bipush (v := oI 8) X.1 X.2.1 dX5_apply_47 (by decide) ?_
      refine wr_I (rV (As := [.int (oI 8)]) (rest := [.int (oI r_70), .ref (wad w 3 o)]) X hT hWσ_76 hS (met_Row_get l (w := w) hV x1 8 _ σ_76 (by omega) ((rB_lit 8 (by decide)).i) h) (cwV 1 X.2.2.2.2 (lw_V q1306 q1207 q1208 q132 q1209) rfl rfl rfl (by decide +kernel) ⟨Nat.le_of_ble_eq_true rfl, Nat.le_of_ble_eq_true rfl⟩) vl8_x1 (by decide) rfl rfl hl.1 rfl (by first | exact Nat.le_of_ble_eq_true rfl | simp [catK, catI, catR, catL]) dX5_apply_49 ⟨Nat.le_refl _, Nat.le_refl _⟩) hS (fun r_77 σ_78 H locs rr_77 rkσ_78 h hWσ_78 hS => ?_)
      have h := h rr_77 rkσ_78
      refine w_if_ne (tgt := 59) X rr_77 dX5_apply_52 (by decide) (fun hc => ?_) (fun hc => ?_)
      · have h := h.1 hc
        exact wk_Store_apply_b59 X hr hlk hT hV ho hx1 rx2 rx3 (wp_Store_apply_b60 (wc w) (wtv w) o x1 x2 x3 Q (wp_Store_apply_b63 (wc w) (wtv w) o x1 x2 x3 Q)) (wk_Store_apply_b60 X hr hlk hT hV ho hx1 rx2 rx3 (wp_Store_apply_b63 (wc w) (wtv w) o x1 x2 x3 Q) (wk_Store_apply_b63 X hr hlk hT hV ho hx1 rx2 rx3)) r_70 r_72 r_70 σ_78 _ _ _ rr_70 rr_72 rr_70 (lv_sub hl [2, 3, 4, 5, 1, 0] rfl) hWσ_78 hS h
      · have h := h.2 hc
        refine lv_iconst (v := oI 1) X.1 X.2.1 dX5_apply_55 rfl ?_
        refine lv_goto (tgt := 60) X.1 X.2.1 dX5_apply_56 (by decide) ?_
        exact wk_Store_apply_b60 X hr hlk hT hV ho hx1 rx2 rx3 (wp_Store_apply_b63 (wc w) (wtv w) o x1 x2 x3 Q) (wk_Store_apply_b63 X hr hlk hT hV ho hx1 rx2 rx3) r_70 r_72 1 r_70 σ_78 _ _ _ rr_70 rr_72 rZ_1 rr_70 (lv_sub hl [2, 3, 4, 5, 1, 0] rfl) hWσ_78 hS h
/-! Store.lose()V -/
set_option maxHeartbeats 4000000 in
set_option maxRecDepth 100000 in
theorem met_Store_lose (l : Launch) {w : Wp} (hV : Hvl w) (o : Int) (Q : St → Prop) (σ : St) (ho : 0 ≤ o ∧ o < 2) (h : wp_Store_lose (wc w) (wtv w) o Q σ) : Met l yX5_lose (ws_ yX5_lose cX5_lose 1 none) rm_Store_lose (PcW w σ [.ref (wad w 3 o)]) (QcV w Q) 0 0 (wA w) := by
  refine Met.ofW (cc := cX5_lose) (maxL := 1) (ret := none) (by decide) rfl ?_
  intro p e st m args below meth c s₁ B hml hv
  obtain ⟨hargs, hW, hT⟩ := hv
  have X : CallFix p m c cX5_lose 1 st _ lw_all RX5 := ⟨B.exec, B.bytes, hml, findClass_of_methodNamed B.named, fun w h => atoms_spec (ws := ws_ yX5_lose cX5_lose 1 none) B.pre w (List.mem_cons_of_mem _ h)⟩
  have hr := B.returns
  have hlk := B.notSynchronized
  have hS : va_S (wA w) st.heap st.heap [] := va_S.rf
  have vl3_o : vl w 3 o := hV.hv 3 rfl ⟨by omega, by show _ < (2 : Int); omega⟩
  have vl7_o_2 : vl w 7 (o + 2) := hV.hv 7 rfl ⟨by omega, by show _ < (6 : Int); omega⟩
  have vl7_o_4 : vl w 7 (o + 4) := hV.hv 7 rfl ⟨by omega, by show _ < (6 : Int); omega⟩
  have vl7_o : vl w 7 o := hV.hv 7 rfl ⟨by omega, by show _ < (6 : Int); omega⟩
  have hl := lv_entry ([.ref (wad w 3 o)]) (n := 1) (Nat.le_of_ble_eq_true rfl)
  have hfr := lg_entry_eq m ([.ref (wad w 3 o)]) 1
  rw [← hargs] at hfr
  rw [hfr]
  generalize (lg_sl ([.ref (wad w 3 o)]) ++ List.replicate (1 - (lg_sl ([.ref (wad w 3 o)])).length) Slot.unset).toArray = ls at hl ⊢
  have hl : lv_has ls 1 [(0, .ref (wad w 3 o))] := hl
  unfold wp_Store_lose at h
  refine lv_aload_n X.1 X.2.1 dX5_lose_0 rfl (lv_at hl 0 rfl) ?_
  refine wg (v := .ref (wad w 7 o)) X hT hW 3 3 195 vl3_o rfl rfl (by decide) rfl (by decide) in_X5 q528 rfl dX5_lose_1 ?_
  refine wr_V (rV (As := []) (rest := []) X hT hW hS (met_Writer_lose l (w := w) hV o _ σ (by omega) h) (cwV 0 X.2.2.2.2 (lw_V q1646 q1647 q1648 q141 q1649) rfl rfl rfl (by decide +kernel) ⟨Nat.le_of_ble_eq_true rfl, Nat.le_of_ble_eq_true rfl⟩) vl7_o (by decide) rfl rfl hl.1 rfl (by first | exact Nat.le_of_ble_eq_true rfl | simp [catK, catI, catR, catL]) dX5_lose_4 ⟨Nat.le_refl _, Nat.le_refl _⟩) hS (fun σ_12 H locs rkσ_12 h hWσ_12 hS => ?_)
  have h := h rkσ_12
  refine lv_aload_n X.1 X.2.1 dX5_lose_7 rfl (lv_at hl 0 rfl) ?_
  refine wg (v := .ref (wad w 7 (o + 2))) X hT hWσ_12 3 4 196 vl3_o rfl rfl (by decide) rfl (by decide) in_X5 q529 rfl dX5_lose_8 ?_
  refine wr_V (rV (As := []) (rest := []) X hT hWσ_12 hS (met_Writer_lose l (w := w) hV (o + 2) _ σ_12 (by omega) h) (cwV 0 X.2.2.2.2 (lw_V q1646 q1647 q1648 q141 q1649) rfl rfl rfl (by decide +kernel) ⟨Nat.le_of_ble_eq_true rfl, Nat.le_of_ble_eq_true rfl⟩) vl7_o_2 (by decide) rfl rfl hl.1 rfl (by first | exact Nat.le_of_ble_eq_true rfl | simp [catK, catI, catR, catL]) dX5_lose_11 ⟨Nat.le_refl _, Nat.le_refl _⟩) hS (fun σ_14 H locs rkσ_14 h hWσ_14 hS => ?_)
  have h := h rkσ_14
  refine lv_aload_n X.1 X.2.1 dX5_lose_14 rfl (lv_at hl 0 rfl) ?_
  refine wg (v := .ref (wad w 7 (o + 4))) X hT hWσ_14 3 5 197 vl3_o rfl rfl (by decide) rfl (by decide) in_X5 q530 rfl dX5_lose_15 ?_
  refine wr_V (rV (As := []) (rest := []) X hT hWσ_14 hS (met_Writer_lose l (w := w) hV (o + 4) _ σ_14 (by omega) h) (cwV 0 X.2.2.2.2 (lw_V q1646 q1647 q1648 q141 q1649) rfl rfl rfl (by decide +kernel) ⟨Nat.le_of_ble_eq_true rfl, Nat.le_of_ble_eq_true rfl⟩) vl7_o_4 (by decide) rfl rfl hl.1 rfl (by first | exact Nat.le_of_ble_eq_true rfl | simp [catK, catI, catR, catL]) dX5_lose_18 ⟨Nat.le_refl _, Nat.le_refl _⟩) hS (fun σ_16 H locs rkσ_16 h hWσ_16 hS => ?_)
  have h := h rkσ_16
  refine lv_aload_n X.1 X.2.1 dX5_lose_21 rfl (lv_at hl 0 rfl) ?_
  refine lv_iconst (v := oI 0) X.1 X.2.1 dX5_lose_22 rfl ?_
  refine wput (z := 0) X hT hWσ_16 hS 3 13 205 vl3_o rfl rfl (by decide) rfl (by decide) in_X5 tyX5 tyX5_ok nmX5 q540 rfl rfl rZ_0.i (fv0 w rfl) rfl rfl dX5_lose_23 (fun H locs hN hS => ?_)
  obtain ⟨σ_17, eσ_17⟩ : ∃ x, x = sI σ_16 205 o 0 := ⟨_, rfl⟩
  have hWσ_17 : Wo w σ_17 H := eσ_17 ▸ hN
  have h := h σ_17 eσ_17
  clear hN
  refine lv_aload_n X.1 X.2.1 dX5_lose_26 rfl (lv_at hl 0 rfl) ?_
  refine lv_iconst (v := oI 0) X.1 X.2.1 dX5_lose_27 rfl ?_
  refine wput (z := 0) X hT hWσ_17 hS 3 21 213 vl3_o rfl rfl (by decide) rfl (by decide) in_X5 tyX5 tyX5_ok nmX5 q551 rfl rfl rZ_0 (fv3 w rfl) (nrZ rZ_0) (ftZ rZ_0) dX5_lose_28 (fun H locs hN hS => ?_)
  obtain ⟨σ_18, eσ_18⟩ : ∃ x, x = sI σ_17 213 o 0 := ⟨_, rfl⟩
  have hWσ_18 : Wo w σ_18 H := eσ_18 ▸ hN
  have h := h σ_18 eσ_18
  clear hN
  refine lv_aload_n X.1 X.2.1 dX5_lose_31 rfl (lv_at hl 0 rfl) ?_
  refine lv_iconst (v := oI (-1)) X.1 X.2.1 dX5_lose_32 rfl ?_
  refine wput (z := (-1)) X hT hWσ_18 hS 3 31 223 vl3_o rfl rfl (by decide) rfl (by decide) in_X5 tyX5 tyX5_ok nmX5 q563 rfl rfl ((rB_lit (-1) (by decide)).i) (fv0 w rfl) rfl rfl dX5_lose_33 (fun H locs hN hS => ?_)
  obtain ⟨σ_19, eσ_19⟩ : ∃ x, x = sI σ_18 223 o (-1) := ⟨_, rfl⟩
  have hWσ_19 : Wo w σ_19 H := eσ_19 ▸ hN
  have h := h σ_19 eσ_19
  clear hN
  refine lv_aload_n X.1 X.2.1 dX5_lose_36 rfl (lv_at hl 0 rfl) ?_
  refine lv_iconst (v := oI 0) X.1 X.2.1 dX5_lose_37 rfl ?_
  refine wput (z := 0) X hT hWσ_19 hS 3 33 225 vl3_o rfl rfl (by decide) rfl (by decide) in_X5 tyX5 tyX5_ok nmX5 q565 rfl rfl rZ_0 (fv3 w rfl) (nrZ rZ_0) (ftZ rZ_0) dX5_lose_38 (fun H locs hN hS => ?_)
  obtain ⟨σ_20, eσ_20⟩ : ∃ x, x = sI σ_19 225 o 0 := ⟨_, rfl⟩
  have hWσ_20 : Wo w σ_20 H := eσ_20 ▸ hN
  have h := h σ_20 eσ_20
  clear hN
  exact wret_V X hr hlk hWσ_20 hS h dX5_lose_41
/-! Store.load(III)LNandHouse$Knot; -/
set_option maxHeartbeats 4000000 in
set_option maxRecDepth 100000 in
theorem wk_Store_load_L222B {p : Program} {l : Launch} {e : Env} {st : State} {m : MethodId} {args : Array Value} {below : List Frame} {meth : Method} {c : Code} {w : Wp} {o : Int} {x1 : Int} {x2 : Int} {x3 : Int} {Q : Int → St → Prop} {n : Nat} {F : Int → Int → Int → Int → (Int → St → Prop) → St → Prop} (X : CallFix p m c cX5_load 6 st args lw_all RX5) (hr : meth.sig.returnType = (some (.object "NandHouse$Knot"))) (hlk : meth.locks = false) (hT : Tb w st) (hV : Hvl w) (hF : ∀ (o : Int) (x1 : Int) (x2 : Int) (x3 : Int) (Q : Int → St → Prop) (σ : St), 0 ≤ o ∧ o < 2 → rI x1 → rI x2 → rI x3 →  F o x1 x2 x3 Q σ → Met l yX5_load (ws_ yX5_load cX5_load 6 (some (.object "NandHouse$Knot"))) (rm_Store_load n) (PcW w σ [.ref (wad w 3 o), .int (oI x1), .int (oI x2), .int (oI x3)]) (QcK w Q) 0 0 (wA w)) (ho : 0 ≤ o ∧ o < 2) (rx1 : rI x1) (rx2 : rI x2) (rx3 : rI x3) (K222 : Int → Int → St → Prop) (hK222 : ∀ (y4 y5 : Int) (σ : St) (H : Heap) (locs : List Loc) (ls : Array Slot), rK y4 → rI y5 → lv_has ls 6 [(0, .ref (wad w 3 o)), (4, va_rf (knO w y4)), (5, .int (oI y5))] → Wo w σ H → va_S (wA w) st.heap H locs → K222 y4 y5 σ → W p l e (headSpec (ws_ yX5_load cX5_load 6 (some (.object "NandHouse$Knot"))) (rm_Store_load (n + 1))).room st m args below meth c H locs 0 0 (MQ below (QcK w Q) args st 0 0 (wA w)) (F0 m 222 ls [])) : ∀ (y4 y5 : Int) (σ : St) (H : Heap) (locs : List Loc) (ls : Array Slot), rK y4 → rI y5 → lv_has ls 6 [(0, .ref (wad w 3 o)), (4, va_rf (knO w y4)), (5, .int (oI y5))] → Wo w σ H → va_S (wA w) st.heap H locs → wp_Store_load_L222 (wc w) (wtv w) o x1 x2 x3 F Q K222 y4 y5 σ → W p l e (headSpec (ws_ yX5_load cX5_load 6 (some (.object "NandHouse$Knot"))) (rm_Store_load (n + 1))).room st m args below meth c H locs 0 0 (MQ below (QcK w Q) args st 0 0 (wA w)) (F0 m 222 ls []) := by
  have vl3_o : vl w 3 o := hV.hv 3 rfl ⟨by omega, by show _ < (2 : Int); omega⟩
  intro y4 y5 σ H locs ls ry4 ry5 hl hW hS h
  unfold wp_Store_load_L222 at h
  refine lv_iload X.1 X.2.1 dX5_load_222 (lv_at hl 2 rfl) ?_
  refine w_kload (w := w) X dX5_load_224 (lv_at hl 1 rfl) ?_
  obtain ⟨hz_81, h⟩ := h
  rw [knR hz_81]
  refine wg (v := .int (oI (gI σ 577 y4))) X hT hW 9 1 577 (hV.hv 9 rfl ⟨hz_81, ry4.2⟩) rfl rfl (by decide) rfl (by decide) in_X9 q388 rfl dX5_load_226 ?_
  refine w_icmp_ge (tgt := 282) X ry5 (hW.r.i 577 y4 rfl) dX5_load_229 (by decide) (fun hc => ?_) (fun hc => ?_)
  · have h := h.1 hc
    refine w_kload (w := w) X dX5_load_282 (lv_at hl 1 rfl) ?_
    exact wret_K X hr hlk hW hS ry4 h dX5_load_284
  · have h := h.2 hc
    refine w_kload (w := w) X dX5_load_232 (lv_at hl 1 rfl) ?_
    rw [knR hz_81]
    refine wg (v := .int (oI (gI σ 576 y4))) X hT hW 9 0 576 (hV.hv 9 rfl ⟨hz_81, ry4.2⟩) rfl rfl (by decide) rfl (by decide) in_X9 q385 rfl dX5_load_234 ?_
    refine w_if_le (tgt := 282) X (hW.r.i 576 y4 rfl) dX5_load_237 (by decide) (fun hc => ?_) (fun hc => ?_)
    · have h := h.1 hc
      refine w_kload (w := w) X dX5_load_282 (lv_at hl 1 rfl) ?_
      exact wret_K X hr hlk hW hS ry4 h dX5_load_284
    · have h := h.2 hc
      refine w_kload (w := w) X dX5_load_240 (lv_at hl 1 rfl) ?_
      rw [knR hz_81]
      refine wg (v := .ref (wad w 583 y4)) X hT hW 9 7 583 (hV.hv 9 rfl ⟨hz_81, ry4.2⟩) rfl rfl (by decide) rfl (by decide) in_X9 q406 rfl dX5_load_242 ?_
      refine lv_iload X.1 X.2.1 dX5_load_245 (lv_at hl 2 rfl) ?_
      refine lv_aload_n X.1 X.2.1 dX5_load_247 rfl (lv_at hl 0 rfl) ?_
      refine w_kload (w := w) X dX5_load_248 (lv_at hl 1 rfl) ?_
      rw [knR hz_81]
      refine wg (v := .ref (wad w 580 y4)) X hT hW 9 4 580 (hV.hv 9 rfl ⟨hz_81, ry4.2⟩) rfl rfl (by decide) rfl (by decide) in_X9 q397 rfl dX5_load_250 ?_
      refine lv_iload X.1 X.2.1 dX5_load_253 (lv_at hl 2 rfl) ?_
      obtain ⟨bi, h⟩ := h
      refine w_iald (n := 9) X hT hW 580 (hV.hv 580 rfl ⟨hz_81, ry4.2⟩) (by decide) rfl rfl bi dX5_load_255 ?_
      refine w_kload (w := w) X dX5_load_256 (lv_at hl 1 rfl) ?_
      rw [knR hz_81]
      refine wg (v := .ref (wad w 581 y4)) X hT hW 9 5 581 (hV.hv 9 rfl ⟨hz_81, ry4.2⟩) rfl rfl (by decide) rfl (by decide) in_X9 q400 rfl dX5_load_258 ?_
      refine lv_iload X.1 X.2.1 dX5_load_261 (lv_at hl 2 rfl) ?_
      obtain ⟨bi, h⟩ := h
      refine w_iald (n := 9) X hT hW 581 (hV.hv 581 rfl ⟨hz_81, ry4.2⟩) (by decide) rfl rfl bi dX5_load_263 ?_
      refine w_kload (w := w) X dX5_load_264 (lv_at hl 1 rfl) ?_
      rw [knR hz_81]
      refine wg (v := .ref (wad w 582 y4)) X hT hW 9 6 582 (hV.hv 9 rfl ⟨hz_81, ry4.2⟩) rfl rfl (by decide) rfl (by decide) in_X9 q403 rfl dX5_load_266 ?_
      refine lv_iload X.1 X.2.1 dX5_load_269 (lv_at hl 2 rfl) ?_
      obtain ⟨bi, h⟩ := h
      refine w_iald (n := 9) X hT hW 582 (hV.hv 582 rfl ⟨hz_81, ry4.2⟩) (by decide) rfl rfl bi dX5_load_271 ?_
      refine wr_K (rV (As := [.int (oI (gA σ 580 y4 y5)), .int (oI (gA σ 581 y4 y5)), .int (oI (gA σ 582 y4 y5))]) (rest := [.int (oI y5), .ref (wad w 583 y4)]) X hT hW hS (hF o (gA σ 580 y4 y5) (gA σ 581 y4 y5) (gA σ 582 y4 y5) _ σ (by omega) (hW.r.ai 580 y4 y5 rfl) (hW.r.ai 581 y4 y5 rfl) (hW.r.ai 582 y4 y5 rfl) h) (cwV 3 X.2.2.2.2 (lw_V q1695 q1697 qs75 q136 q1698) rfl rfl rfl (by decide +kernel) ⟨by show _ ≤ _; simp only [headSpec, rm_Store_load]; omega, by show _ ≤ _; simp only [headSpec, rm_Store_load]; omega⟩) vl3_o (by decide) rfl rfl hl.1 rfl (by first | exact Nat.le_of_ble_eq_true rfl | simp [catK, catI, catR, catL]) dX5_load_272 ⟨Nat.le_refl _, Nat.le_refl _⟩) hS (fun r_82 σ_83 H locs rr_82 rkσ_83 h hWσ_83 hS => ?_)
      have h := h rr_82 rkσ_83
      obtain ⟨bi, h⟩ := h
      refine w_aast (n := 9) X hV hT hWσ_83 hS 583 (hV.hv 583 rfl ⟨hz_81, ry4.2⟩) (by decide) rfl rfl bi rr_82 dX5_load_275 (fun H locs hN hS => ?_)
      obtain ⟨σ_84, eσ_84⟩ : ∃ x, x = sA σ_83 583 y4 y5 r_82 := ⟨_, rfl⟩
      have hWσ_84 : Wo w σ_84 H := eσ_84 ▸ hN
      have h := h σ_84 eσ_84
      clear hN
      obtain ⟨y5_85, ey5_85⟩ : ∃ y : Int, y = w32 (y5 + 1) := ⟨_, rfl⟩
      have h := h y5_85 ey5_85
      have ry5_85 : rI y5_85 := by rw [ey5_85]; exact w32_r _
      refine lv_iinc (v := oI y5_85) (lv' := [(5, .int (oI y5_85)), (0, .ref (wad w 3 o)), (4, va_rf (knO w y4))]) X.1 X.2.1 dX5_load_276 hl (k := 2) rfl (by rw [ey5_85]; exact oI_add _ _) (by decide) (by first | rfl | simp [catK, catI, catR, catL]) (fun ls hl => ?_)
      refine lv_goto (tgt := 222) X.1 X.2.1 dX5_load_279 (by decide) ?_
      exact hK222 y4 y5_85 σ_84 _ _ _ ry4 ry5_85 (lv_sub hl [1, 2, 0] rfl) hWσ_84 hS h
theorem wk_Store_load_L222 {p : Program} {l : Launch} {e : Env} {st : State} {m : MethodId} {args : Array Value} {below : List Frame} {meth : Method} {c : Code} {w : Wp} {o : Int} {x1 : Int} {x2 : Int} {x3 : Int} {Q : Int → St → Prop} {n : Nat} {F : Int → Int → Int → Int → (Int → St → Prop) → St → Prop} (X : CallFix p m c cX5_load 6 st args lw_all RX5) (hr : meth.sig.returnType = (some (.object "NandHouse$Knot"))) (hlk : meth.locks = false) (hT : Tb w st) (hV : Hvl w) (hF : ∀ (o : Int) (x1 : Int) (x2 : Int) (x3 : Int) (Q : Int → St → Prop) (σ : St), 0 ≤ o ∧ o < 2 → rI x1 → rI x2 → rI x3 →  F o x1 x2 x3 Q σ → Met l yX5_load (ws_ yX5_load cX5_load 6 (some (.object "NandHouse$Knot"))) (rm_Store_load n) (PcW w σ [.ref (wad w 3 o), .int (oI x1), .int (oI x2), .int (oI x3)]) (QcK w Q) 0 0 (wA w)) (ho : 0 ≤ o ∧ o < 2) (rx1 : rI x1) (rx2 : rI x2) (rx3 : rI x3) : ∀ (y4 y5 : Int) (σ : St) (H : Heap) (locs : List Loc) (ls : Array Slot), rK y4 → rI y5 → lv_has ls 6 [(0, .ref (wad w 3 o)), (4, va_rf (knO w y4)), (5, .int (oI y5))] → Wo w σ H → va_S (wA w) st.heap H locs → lQ2 (wp_Store_load_L222 (wc w) (wtv w) o x1 x2 x3 F Q) y4 y5 σ → W p l e (headSpec (ws_ yX5_load cX5_load 6 (some (.object "NandHouse$Knot"))) (rm_Store_load (n + 1))).room st m args below meth c H locs 0 0 (MQ below (QcK w Q) args st 0 0 (wA w)) (F0 m 222 ls []) := by
  intro y4 y5 σ H locs ls ry4 ry5 hl hW hS h
  obtain ⟨fu, h⟩ := h
  induction fu generalizing y4 y5 σ H locs ls with
  | zero => exact h.elim
  | succ fu ih =>
    exact wk_Store_load_L222B X hr hlk hT hV hF ho rx1 rx2 rx3 (lq2 (wp_Store_load_L222 (wc w) (wtv w) o x1 x2 x3 F Q) fu) (fun y4 y5 σ H locs ls ry4 ry5 hl hW hS h => ih y4 y5 σ H locs ls ry4 ry5 hl hW hS h) y4 y5 σ H locs ls ry4 ry5 hl hW hS h
set_option maxHeartbeats 4000000 in
set_option maxRecDepth 100000 in
theorem wk_Store_load_L72B {p : Program} {l : Launch} {e : Env} {st : State} {m : MethodId} {args : Array Value} {below : List Frame} {meth : Method} {c : Code} {w : Wp} {o : Int} {x1 : Int} {x2 : Int} {x3 : Int} {Q : Int → St → Prop} {n : Nat} {F : Int → Int → Int → Int → (Int → St → Prop) → St → Prop} (X : CallFix p m c cX5_load 6 st args lw_all RX5) (hr : meth.sig.returnType = (some (.object "NandHouse$Knot"))) (hlk : meth.locks = false) (hT : Tb w st) (hV : Hvl w) (hF : ∀ (o : Int) (x1 : Int) (x2 : Int) (x3 : Int) (Q : Int → St → Prop) (σ : St), 0 ≤ o ∧ o < 2 → rI x1 → rI x2 → rI x3 →  F o x1 x2 x3 Q σ → Met l yX5_load (ws_ yX5_load cX5_load 6 (some (.object "NandHouse$Knot"))) (rm_Store_load n) (PcW w σ [.ref (wad w 3 o), .int (oI x1), .int (oI x2), .int (oI x3)]) (QcK w Q) 0 0 (wA w)) (ho : 0 ≤ o ∧ o < 2) (rx1 : rI x1) (rx2 : rI x2) (rx3 : rI x3) (K72 : Int → Int → St → Prop) (hK72 : ∀ (y4 y5 : Int) (σ : St) (H : Heap) (locs : List Loc) (ls : Array Slot), rK y4 → rI y5 → lv_has ls 6 [(0, .ref (wad w 3 o)), (1, .int (oI x1)), (2, .int (oI x2)), (3, .int (oI x3)), (4, va_rf (knO w y4)), (5, .int (oI y5))] → Wo w σ H → va_S (wA w) st.heap H locs → K72 y4 y5 σ → W p l e (headSpec (ws_ yX5_load cX5_load 6 (some (.object "NandHouse$Knot"))) (rm_Store_load (n + 1))).room st m args below meth c H locs 0 0 (MQ below (QcK w Q) args st 0 0 (wA w)) (F0 m 72 ls [])) : ∀ (y4 y5 : Int) (σ : St) (H : Heap) (locs : List Loc) (ls : Array Slot), rK y4 → rI y5 → lv_has ls 6 [(0, .ref (wad w 3 o)), (1, .int (oI x1)), (2, .int (oI x2)), (3, .int (oI x3)), (4, va_rf (knO w y4)), (5, .int (oI y5))] → Wo w σ H → va_S (wA w) st.heap H locs → wp_Store_load_L72 (wc w) (wtv w) o x1 x2 x3 F Q K72 y4 y5 σ → W p l e (headSpec (ws_ yX5_load cX5_load 6 (some (.object "NandHouse$Knot"))) (rm_Store_load (n + 1))).room st m args below meth c H locs 0 0 (MQ below (QcK w Q) args st 0 0 (wA w)) (F0 m 72 ls []) := by
  have vl3_o : vl w 3 o := hV.hv 3 rfl ⟨by omega, by show _ < (2 : Int); omega⟩
  have vl8_o : vl w 8 o := hV.hv 8 rfl ⟨by omega, by show _ < (8 : Int); omega⟩
  intro y4 y5 σ H locs ls ry4 ry5 hl hW hS h
  unfold wp_Store_load_L72 at h
  refine lv_iload X.1 X.2.1 dX5_load_72 (lv_at hl 5 rfl) ?_
  refine w_kload (w := w) X dX5_load_74 (lv_at hl 4 rfl) ?_
  obtain ⟨hz_86, h⟩ := h
  rw [knR hz_86]
  refine wg (v := .int (oI (gI σ 577 y4))) X hT hW 9 1 577 (hV.hv 9 rfl ⟨hz_86, ry4.2⟩) rfl rfl (by decide) rfl (by decide) in_X9 q388 rfl dX5_load_76 ?_
  refine w_icmp_ge (tgt := 195) X ry5 (hW.r.i 577 y4 rfl) dX5_load_79 (by decide) (fun hc => ?_) (fun hc => ?_)
  · have h := h.1 hc
    refine w_kload (w := w) X dX5_load_195 (lv_at hl 4 rfl) ?_
    refine lv_iconst (v := oI 0) X.1 X.2.1 dX5_load_197 rfl ?_
    rw [knR hz_86]
    refine wput (z := 0) X hT hW hS 9 8 584 (hV.hv 9 rfl ⟨hz_86, ry4.2⟩) rfl rfl (by decide) rfl (by decide) in_X9 tyX9 tyX9_ok nmX9 q409 rfl rfl rZ_0 (fv3 w rfl) (nrZ rZ_0) (ftZ rZ_0) dX5_load_198 (fun H locs hN hS => ?_)
    obtain ⟨σ_87, eσ_87⟩ : ∃ x, x = sI σ 584 y4 0 := ⟨_, rfl⟩
    have hWσ_87 : Wo w σ_87 H := eσ_87 ▸ hN
    have h := h σ_87 eσ_87
    clear hN
    refine w_kload (w := w) X dX5_load_201 (lv_at hl 4 rfl) ?_
    refine lv_iload_n X.1 X.2.1 dX5_load_203 rfl (lv_at hl 1 rfl) ?_
    rw [knR hz_86]
    refine wput (z := x1) X hT hWσ_87 hS 9 9 585 (hV.hv 9 rfl ⟨hz_86, ry4.2⟩) rfl rfl (by decide) rfl (by decide) in_X9 tyX9 tyX9_ok nmX9 q412 rfl rfl rx1 (fv0 w rfl) rfl rfl dX5_load_204 (fun H locs hN hS => ?_)
    obtain ⟨σ_88, eσ_88⟩ : ∃ x, x = sI σ_87 585 y4 x1 := ⟨_, rfl⟩
    have hWσ_88 : Wo w σ_88 H := eσ_88 ▸ hN
    have h := h σ_88 eσ_88
    clear hN
    refine w_kload (w := w) X dX5_load_207 (lv_at hl 4 rfl) ?_
    refine lv_iload_n X.1 X.2.1 dX5_load_209 rfl (lv_at hl 2 rfl) ?_
    rw [knR hz_86]
    refine wput (z := x2) X hT hWσ_88 hS 9 10 586 (hV.hv 9 rfl ⟨hz_86, ry4.2⟩) rfl rfl (by decide) rfl (by decide) in_X9 tyX9 tyX9_ok nmX9 q413 rfl rfl rx2 (fv0 w rfl) rfl rfl dX5_load_210 (fun H locs hN hS => ?_)
    obtain ⟨σ_89, eσ_89⟩ : ∃ x, x = sI σ_88 586 y4 x2 := ⟨_, rfl⟩
    have hWσ_89 : Wo w σ_89 H := eσ_89 ▸ hN
    have h := h σ_89 eσ_89
    clear hN
    refine w_kload (w := w) X dX5_load_213 (lv_at hl 4 rfl) ?_
    refine lv_iload_n X.1 X.2.1 dX5_load_215 rfl (lv_at hl 3 rfl) ?_
    rw [knR hz_86]
    refine wput (z := x3) X hT hWσ_89 hS 9 11 587 (hV.hv 9 rfl ⟨hz_86, ry4.2⟩) rfl rfl (by decide) rfl (by decide) in_X9 tyX9 tyX9_ok nmX9 q416 rfl rfl rx3 (fv0 w rfl) rfl rfl dX5_load_216 (fun H locs hN hS => ?_)
    obtain ⟨σ_90, eσ_90⟩ : ∃ x, x = sI σ_89 587 y4 x3 := ⟨_, rfl⟩
    have hWσ_90 : Wo w σ_90 H := eσ_90 ▸ hN
    have h := h σ_90 eσ_90
    clear hN
    refine lv_iconst (v := oI 0) X.1 X.2.1 dX5_load_219 rfl ?_
    refine lv_istore (i := 5) (lv' := [(5, .int (oI 0)), (0, .ref (wad w 3 o)), (1, .int (oI x1)), (2, .int (oI x2)), (3, .int (oI x3)), (4, va_rf (knO w y4))]) X.1 X.2.1 dX5_load_220 hl (by decide) (by first | rfl | simp [catK, catI, catR, catL]) (fun ls hl => ?_)
    exact wk_Store_load_L222 X hr hlk hT hV hF ho rx1 rx2 rx3 y4 0 σ_90 _ _ _ ry4 rZ_0.i (lv_sub hl [1, 5, 0] rfl) hWσ_90 hS h
  · have h := h.2 hc
    refine w_kload (w := w) X dX5_load_82 (lv_at hl 4 rfl) ?_
    refine lv_iload X.1 X.2.1 dX5_load_84 (lv_at hl 5 rfl) ?_
    refine lv_aload_n X.1 X.2.1 dX5_load_86 rfl (lv_at hl 0 rfl) ?_
    refine wg (v := .ref (wad w 8 o)) X hT hW 3 6 198 vl3_o rfl rfl (by decide) rfl (by decide) in_X5 q531 rfl dX5_load_87 ?_
    refine lv_bipush (v := oI 8) X.1 X.2.1 dX5_load_90 (by decide) ?_
    refine lv_bipush (v := oI 28) X.1 X.2.1 dX5_load_92 (by decide) ?_
    refine lv_iload X.1 X.2.1 dX5_load_94 (lv_at hl 5 rfl) ?_
    refine w_imul X dX5_load_96 ?_
    refine w_iadd X dX5_load_97 ?_
    refine wr_J (rV (As := [.int (oI (w32 (8 + (w32 (28 * y5)))))]) (rest := [.int (oI y5), va_rf (knO w y4)]) X hT hW hS (met_Row_getLongAt l (w := w) hV o (w32 (8 + (w32 (28 * y5)))) _ σ (by omega) (w32_r _) h) (cwV 1 X.2.2.2.2 (lw_V q1307 q1219 q1220 q132 q1221) rfl rfl rfl (by decide +kernel) ⟨by show _ ≤ _; simp only [headSpec, rm_Store_load]; omega, by show _ ≤ _; simp only [headSpec, rm_Store_load]; omega⟩) vl8_o (by decide) rfl rfl hl.1 rfl (by first | exact Nat.le_of_ble_eq_true rfl | simp [catK, catI, catR, catL]) dX5_load_98 ⟨Nat.le_refl _, Nat.le_refl _⟩) hS (fun r_91 σ_92 H locs rr_91 rkσ_92 h hWσ_92 hS => ?_)
    have h := h rr_91 rkσ_92
    refine lv_aload_n X.1 X.2.1 dX5_load_101 rfl (lv_at hl 0 rfl) ?_
    refine wg (v := .ref (wad w 8 o)) X hT hWσ_92 3 6 198 vl3_o rfl rfl (by decide) rfl (by decide) in_X5 q531 rfl dX5_load_102 ?_
    refine lv_bipush (v := oI 16) X.1 X.2.1 dX5_load_105 (by decide) ?_
    refine lv_bipush (v := oI 28) X.1 X.2.1 dX5_load_107 (by decide) ?_
    refine lv_iload X.1 X.2.1 dX5_load_109 (lv_at hl 5 rfl) ?_
    refine w_imul X dX5_load_111 ?_
    refine w_iadd X dX5_load_112 ?_
    refine wr_J (rV (As := [.int (oI (w32 (16 + (w32 (28 * y5)))))]) (rest := [.long (oL r_91), .int (oI y5), va_rf (knO w y4)]) X hT hWσ_92 hS (met_Row_getLongAt l (w := w) hV o (w32 (16 + (w32 (28 * y5)))) _ σ_92 (by omega) (w32_r _) h) (cwV 1 X.2.2.2.2 (lw_V q1307 q1219 q1220 q132 q1221) rfl rfl rfl (by decide +kernel) ⟨by show _ ≤ _; simp only [headSpec, rm_Store_load]; omega, by show _ ≤ _; simp only [headSpec, rm_Store_load]; omega⟩) vl8_o (by decide) rfl rfl hl.1 rfl (by first | exact Nat.le_of_ble_eq_true rfl | simp [catK, catI, catR, catL]) dX5_load_113 ⟨Nat.le_refl _, Nat.le_refl _⟩) hS (fun r_93 σ_94 H locs rr_93 rkσ_94 h hWσ_94 hS => ?_)
    have h := h rr_93 rkσ_94
    refine w_knull (w := w) X dX5_load_116 ?_
    refine wr_V (rV (As := [.int (oI y5), .long (oL r_91), .long (oL r_93), va_rf (knO w (-1))]) (rest := []) X hT hWσ_94 hS (met_Knot_set l (w := w) hV y4 y5 r_91 r_93 (-1) _ σ_94 ⟨hz_86, ry4.2⟩ ry5 rr_91 rr_93 rK_n h) (cwV 4 X.2.2.2.2 (lw_V q1701 q947 q948 q140 q949) rfl rfl rfl (by decide +kernel) ⟨by show _ ≤ _; simp only [headSpec, rm_Store_load]; omega, by show _ ≤ _; simp only [headSpec, rm_Store_load]; omega⟩) (hV.hv 9 rfl ⟨hz_86, ry4.2⟩) (by decide) rfl rfl hl.1 (by simp only [knR hz_86]; rfl) (by first | exact Nat.le_of_ble_eq_true rfl | simp [catK, catI, catR, catL]) dX5_load_117 ⟨Nat.le_refl _, Nat.le_refl _⟩) hS (fun σ_96 H locs rkσ_96 h hWσ_96 hS => ?_)
    have h := h rkσ_96
    refine w_kload (w := w) X dX5_load_120 (lv_at hl 4 rfl) ?_
    rw [knR hz_86]
    refine wg (v := .ref (wad w 580 y4)) X hT hWσ_96 9 4 580 (hV.hv 9 rfl ⟨hz_86, ry4.2⟩) rfl rfl (by decide) rfl (by decide) in_X9 q397 rfl dX5_load_122 ?_
    refine lv_iload X.1 X.2.1 dX5_load_125 (lv_at hl 5 rfl) ?_
    refine lv_aload_n X.1 X.2.1 dX5_load_127 rfl (lv_at hl 0 rfl) ?_
    refine wg (v := .ref (wad w 8 o)) X hT hWσ_96 3 6 198 vl3_o rfl rfl (by decide) rfl (by decide) in_X5 q531 rfl dX5_load_128 ?_
    refine lv_bipush (v := oI 24) X.1 X.2.1 dX5_load_131 (by decide) ?_
    refine lv_bipush (v := oI 28) X.1 X.2.1 dX5_load_133 (by decide) ?_
    refine lv_iload X.1 X.2.1 dX5_load_135 (lv_at hl 5 rfl) ?_
    refine w_imul X dX5_load_137 ?_
    refine w_iadd X dX5_load_138 ?_
    refine wr_I (rV (As := [.int (oI (w32 (24 + (w32 (28 * y5)))))]) (rest := [.int (oI y5), .ref (wad w 580 y4)]) X hT hWσ_96 hS (met_Row_get l (w := w) hV o (w32 (24 + (w32 (28 * y5)))) _ σ_96 (by omega) (w32_r _) h) (cwV 1 X.2.2.2.2 (lw_V q1306 q1207 q1208 q132 q1209) rfl rfl rfl (by decide +kernel) ⟨by show _ ≤ _; simp only [headSpec, rm_Store_load]; omega, by show _ ≤ _; simp only [headSpec, rm_Store_load]; omega⟩) vl8_o (by decide) rfl rfl hl.1 rfl (by first | exact Nat.le_of_ble_eq_true rfl | simp [catK, catI, catR, catL]) dX5_load_139 ⟨Nat.le_refl _, Nat.le_refl _⟩) hS (fun r_97 σ_98 H locs rr_97 rkσ_98 h hWσ_98 hS => ?_)
    have h := h rr_97 rkσ_98
    obtain ⟨bi, h⟩ := h
    refine w_iast (n := 9) X hT hWσ_98 hS 580 (hV.hv 580 rfl ⟨hz_86, ry4.2⟩) (by decide) rfl rfl bi rr_97 dX5_load_142 (fun H locs hN hS => ?_)
    obtain ⟨σ_99, eσ_99⟩ : ∃ x, x = sA σ_98 580 y4 y5 r_97 := ⟨_, rfl⟩
    have hWσ_99 : Wo w σ_99 H := eσ_99 ▸ hN
    have h := h σ_99 eσ_99
    clear hN
    refine w_kload (w := w) X dX5_load_143 (lv_at hl 4 rfl) ?_
    rw [knR hz_86]
    refine wg (v := .ref (wad w 581 y4)) X hT hWσ_99 9 5 581 (hV.hv 9 rfl ⟨hz_86, ry4.2⟩) rfl rfl (by decide) rfl (by decide) in_X9 q400 rfl dX5_load_145 ?_
    refine lv_iload X.1 X.2.1 dX5_load_148 (lv_at hl 5 rfl) ?_
    refine lv_aload_n X.1 X.2.1 dX5_load_150 rfl (lv_at hl 0 rfl) ?_
    refine wg (v := .ref (wad w 8 o)) X hT hWσ_99 3 6 198 vl3_o rfl rfl (by decide) rfl (by decide) in_X5 q531 rfl dX5_load_151 ?_
    refine lv_bipush (v := oI 28) X.1 X.2.1 dX5_load_154 (by decide) ?_
    refine lv_bipush (v := oI 28) X.1 X.2.1 dX5_load_156 (by decide) ?_
    refine lv_iload X.1 X.2.1 dX5_load_158 (lv_at hl 5 rfl) ?_
    refine w_imul X dX5_load_160 ?_
    refine w_iadd X dX5_load_161 ?_
    refine wr_I (rV (As := [.int (oI (w32 (28 + (w32 (28 * y5)))))]) (rest := [.int (oI y5), .ref (wad w 581 y4)]) X hT hWσ_99 hS (met_Row_get l (w := w) hV o (w32 (28 + (w32 (28 * y5)))) _ σ_99 (by omega) (w32_r _) h) (cwV 1 X.2.2.2.2 (lw_V q1306 q1207 q1208 q132 q1209) rfl rfl rfl (by decide +kernel) ⟨by show _ ≤ _; simp only [headSpec, rm_Store_load]; omega, by show _ ≤ _; simp only [headSpec, rm_Store_load]; omega⟩) vl8_o (by decide) rfl rfl hl.1 rfl (by first | exact Nat.le_of_ble_eq_true rfl | simp [catK, catI, catR, catL]) dX5_load_162 ⟨Nat.le_refl _, Nat.le_refl _⟩) hS (fun r_100 σ_101 H locs rr_100 rkσ_101 h hWσ_101 hS => ?_)
    have h := h rr_100 rkσ_101
    obtain ⟨bi, h⟩ := h
    refine w_iast (n := 9) X hT hWσ_101 hS 581 (hV.hv 581 rfl ⟨hz_86, ry4.2⟩) (by decide) rfl rfl bi rr_100 dX5_load_165 (fun H locs hN hS => ?_)
    obtain ⟨σ_102, eσ_102⟩ : ∃ x, x = sA σ_101 581 y4 y5 r_100 := ⟨_, rfl⟩
    have hWσ_102 : Wo w σ_102 H := eσ_102 ▸ hN
    have h := h σ_102 eσ_102
    clear hN
    refine w_kload (w := w) X dX5_load_166 (lv_at hl 4 rfl) ?_
    rw [knR hz_86]
    refine wg (v := .ref (wad w 582 y4)) X hT hWσ_102 9 6 582 (hV.hv 9 rfl ⟨hz_86, ry4.2⟩) rfl rfl (by decide) rfl (by decide) in_X9 q403 rfl dX5_load_168 ?_
    refine lv_iload X.1 X.2.1 dX5_load_171 (lv_at hl 5 rfl) ?_
    refine lv_aload_n X.1 X.2.1 dX5_load_173 rfl (lv_at hl 0 rfl) ?_
    refine wg (v := .ref (wad w 8 o)) X hT hWσ_102 3 6 198 vl3_o rfl rfl (by decide) rfl (by decide) in_X5 q531 rfl dX5_load_174 ?_
    refine lv_bipush (v := oI 32) X.1 X.2.1 dX5_load_177 (by decide) ?_
    refine lv_bipush (v := oI 28) X.1 X.2.1 dX5_load_179 (by decide) ?_
    refine lv_iload X.1 X.2.1 dX5_load_181 (lv_at hl 5 rfl) ?_
    refine w_imul X dX5_load_183 ?_
    refine w_iadd X dX5_load_184 ?_
    refine wr_I (rV (As := [.int (oI (w32 (32 + (w32 (28 * y5)))))]) (rest := [.int (oI y5), .ref (wad w 582 y4)]) X hT hWσ_102 hS (met_Row_get l (w := w) hV o (w32 (32 + (w32 (28 * y5)))) _ σ_102 (by omega) (w32_r _) h) (cwV 1 X.2.2.2.2 (lw_V q1306 q1207 q1208 q132 q1209) rfl rfl rfl (by decide +kernel) ⟨by show _ ≤ _; simp only [headSpec, rm_Store_load]; omega, by show _ ≤ _; simp only [headSpec, rm_Store_load]; omega⟩) vl8_o (by decide) rfl rfl hl.1 rfl (by first | exact Nat.le_of_ble_eq_true rfl | simp [catK, catI, catR, catL]) dX5_load_185 ⟨Nat.le_refl _, Nat.le_refl _⟩) hS (fun r_103 σ_104 H locs rr_103 rkσ_104 h hWσ_104 hS => ?_)
    have h := h rr_103 rkσ_104
    obtain ⟨bi, h⟩ := h
    refine w_iast (n := 9) X hT hWσ_104 hS 582 (hV.hv 582 rfl ⟨hz_86, ry4.2⟩) (by decide) rfl rfl bi rr_103 dX5_load_188 (fun H locs hN hS => ?_)
    obtain ⟨σ_105, eσ_105⟩ : ∃ x, x = sA σ_104 582 y4 y5 r_103 := ⟨_, rfl⟩
    have hWσ_105 : Wo w σ_105 H := eσ_105 ▸ hN
    have h := h σ_105 eσ_105
    clear hN
    obtain ⟨y5_106, ey5_106⟩ : ∃ y : Int, y = w32 (y5 + 1) := ⟨_, rfl⟩
    have h := h y5_106 ey5_106
    have ry5_106 : rI y5_106 := by rw [ey5_106]; exact w32_r _
    refine lv_iinc (v := oI y5_106) (lv' := [(5, .int (oI y5_106)), (0, .ref (wad w 3 o)), (1, .int (oI x1)), (2, .int (oI x2)), (3, .int (oI x3)), (4, va_rf (knO w y4))]) X.1 X.2.1 dX5_load_189 hl (k := 5) rfl (by rw [ey5_106]; exact oI_add _ _) (by decide) (by first | rfl | simp [catK, catI, catR, catL]) (fun ls hl => ?_)
    refine lv_goto (tgt := 72) X.1 X.2.1 dX5_load_192 (by decide) ?_
    exact hK72 y4 y5_106 σ_105 _ _ _ ry4 ry5_106 (lv_sub hl [1, 2, 3, 4, 5, 0] rfl) hWσ_105 hS h
theorem wk_Store_load_L72 {p : Program} {l : Launch} {e : Env} {st : State} {m : MethodId} {args : Array Value} {below : List Frame} {meth : Method} {c : Code} {w : Wp} {o : Int} {x1 : Int} {x2 : Int} {x3 : Int} {Q : Int → St → Prop} {n : Nat} {F : Int → Int → Int → Int → (Int → St → Prop) → St → Prop} (X : CallFix p m c cX5_load 6 st args lw_all RX5) (hr : meth.sig.returnType = (some (.object "NandHouse$Knot"))) (hlk : meth.locks = false) (hT : Tb w st) (hV : Hvl w) (hF : ∀ (o : Int) (x1 : Int) (x2 : Int) (x3 : Int) (Q : Int → St → Prop) (σ : St), 0 ≤ o ∧ o < 2 → rI x1 → rI x2 → rI x3 →  F o x1 x2 x3 Q σ → Met l yX5_load (ws_ yX5_load cX5_load 6 (some (.object "NandHouse$Knot"))) (rm_Store_load n) (PcW w σ [.ref (wad w 3 o), .int (oI x1), .int (oI x2), .int (oI x3)]) (QcK w Q) 0 0 (wA w)) (ho : 0 ≤ o ∧ o < 2) (rx1 : rI x1) (rx2 : rI x2) (rx3 : rI x3) : ∀ (y4 y5 : Int) (σ : St) (H : Heap) (locs : List Loc) (ls : Array Slot), rK y4 → rI y5 → lv_has ls 6 [(0, .ref (wad w 3 o)), (1, .int (oI x1)), (2, .int (oI x2)), (3, .int (oI x3)), (4, va_rf (knO w y4)), (5, .int (oI y5))] → Wo w σ H → va_S (wA w) st.heap H locs → lQ2 (wp_Store_load_L72 (wc w) (wtv w) o x1 x2 x3 F Q) y4 y5 σ → W p l e (headSpec (ws_ yX5_load cX5_load 6 (some (.object "NandHouse$Knot"))) (rm_Store_load (n + 1))).room st m args below meth c H locs 0 0 (MQ below (QcK w Q) args st 0 0 (wA w)) (F0 m 72 ls []) := by
  intro y4 y5 σ H locs ls ry4 ry5 hl hW hS h
  obtain ⟨fu, h⟩ := h
  induction fu generalizing y4 y5 σ H locs ls with
  | zero => exact h.elim
  | succ fu ih =>
    exact wk_Store_load_L72B X hr hlk hT hV hF ho rx1 rx2 rx3 (lq2 (wp_Store_load_L72 (wc w) (wtv w) o x1 x2 x3 F Q) fu) (fun y4 y5 σ H locs ls ry4 ry5 hl hW hS h => ih y4 y5 σ H locs ls ry4 ry5 hl hW hS h) y4 y5 σ H locs ls ry4 ry5 hl hW hS h
set_option maxHeartbeats 4000000 in
set_option maxRecDepth 100000 in
theorem met_Store_load_R (l : Launch) {w : Wp} (hV : Hvl w) {n : Nat} {F : Int → Int → Int → Int → (Int → St → Prop) → St → Prop} (hF : ∀ (o : Int) (x1 : Int) (x2 : Int) (x3 : Int) (Q : Int → St → Prop) (σ : St), 0 ≤ o ∧ o < 2 → rI x1 → rI x2 → rI x3 →  F o x1 x2 x3 Q σ → Met l yX5_load (ws_ yX5_load cX5_load 6 (some (.object "NandHouse$Knot"))) (rm_Store_load n) (PcW w σ [.ref (wad w 3 o), .int (oI x1), .int (oI x2), .int (oI x3)]) (QcK w Q) 0 0 (wA w)) (o : Int) (x1 : Int) (x2 : Int) (x3 : Int) (Q : Int → St → Prop) (σ : St) (ho : 0 ≤ o ∧ o < 2) (rx1 : rI x1) (rx2 : rI x2) (rx3 : rI x3) (h : wp_Store_load_R (wc w) (wtv w) o x1 x2 x3 F Q σ) : Met l yX5_load (ws_ yX5_load cX5_load 6 (some (.object "NandHouse$Knot"))) (rm_Store_load (n + 1)) (PcW w σ [.ref (wad w 3 o), .int (oI x1), .int (oI x2), .int (oI x3)]) (QcK w Q) 0 0 (wA w) := by
  refine Met.ofW (cc := cX5_load) (maxL := 6) (ret := (some (.object "NandHouse$Knot"))) (by decide) rfl ?_
  intro p e st m args below meth c s₁ B hml hv
  obtain ⟨hargs, hW, hT⟩ := hv
  have X : CallFix p m c cX5_load 6 st _ lw_all RX5 := ⟨B.exec, B.bytes, hml, findClass_of_methodNamed B.named, fun w h => atoms_spec (ws := ws_ yX5_load cX5_load 6 (some (.object "NandHouse$Knot"))) B.pre w (List.mem_cons_of_mem _ h)⟩
  have hr := B.returns
  have hlk := B.notSynchronized
  have hS : va_S (wA w) st.heap st.heap [] := va_S.rf
  have vl3_o : vl w 3 o := hV.hv 3 rfl ⟨by omega, by show _ < (2 : Int); omega⟩
  have vl325_o : vl w 325 o := hV.hv 325 rfl ⟨by omega, by show _ < (2 : Int); omega⟩
  have vl5_o : vl w 5 o := hV.hv 5 rfl ⟨by omega, by show _ < (2 : Int); omega⟩
  have vl6_o : vl w 6 o := hV.hv 6 rfl ⟨by omega, by show _ < (2 : Int); omega⟩
  have vl8_o : vl w 8 o := hV.hv 8 rfl ⟨by omega, by show _ < (8 : Int); omega⟩
  have hl := lv_entry ([.ref (wad w 3 o), .int (oI x1), .int (oI x2), .int (oI x3)]) (n := 6) (Nat.le_of_ble_eq_true rfl)
  have hfr := lg_entry_eq m ([.ref (wad w 3 o), .int (oI x1), .int (oI x2), .int (oI x3)]) 6
  rw [← hargs] at hfr
  rw [hfr]
  generalize (lg_sl ([.ref (wad w 3 o), .int (oI x1), .int (oI x2), .int (oI x3)]) ++ List.replicate (6 - (lg_sl ([.ref (wad w 3 o), .int (oI x1), .int (oI x2), .int (oI x3)])).length) Slot.unset).toArray = ls at hl ⊢
  have hl : lv_has ls 6 [(0, .ref (wad w 3 o)), (1, .int (oI x1)), (2, .int (oI x2)), (3, .int (oI x3))] := hl
  unfold wp_Store_load_R at h
  refine lv_aload_n X.1 X.2.1 dX5_load_0 rfl (lv_at hl 0 rfl) ?_
  refine lv_iload_n X.1 X.2.1 dX5_load_1 rfl (lv_at hl 1 rfl) ?_
  refine lv_iload_n X.1 X.2.1 dX5_load_2 rfl (lv_at hl 2 rfl) ?_
  refine lv_iload_n X.1 X.2.1 dX5_load_3 rfl (lv_at hl 3 rfl) ?_
  refine lv_aload_n X.1 X.2.1 dX5_load_4 rfl (lv_at hl 0 rfl) ?_
  refine wg (v := .ref (wad w 8 o)) X hT hW 3 6 198 vl3_o rfl rfl (by decide) rfl (by decide) in_X5 q531 rfl dX5_load_5 ?_
  refine wr_V (rV (As := [.int (oI x1), .int (oI x2), .int (oI x3), .ref (wad w 8 o)]) (rest := []) X hT hW hS (met_Store_read l (w := w) hV o x1 x2 x3 o _ σ (by omega) rx1 rx2 rx3 (by omega) h) (cwV 4 X.2.2.2.2 (lw_V q1293 q1184 q1185 q136 q1186) rfl rfl rfl (by decide +kernel) ⟨by show _ ≤ _; simp only [headSpec, rm_Store_load]; omega, by show _ ≤ _; simp only [headSpec, rm_Store_load]; omega⟩) vl3_o (by decide) rfl rfl hl.1 rfl (by first | exact Nat.le_of_ble_eq_true rfl | simp [catK, catI, catR, catL]) dX5_load_8 ⟨Nat.le_refl _, Nat.le_refl _⟩) hS (fun σ_108 H locs rkσ_108 h hWσ_108 hS => ?_)
  have h := h rkσ_108
  refine lv_aload_n X.1 X.2.1 dX5_load_11 rfl (lv_at hl 0 rfl) ?_
  refine lv_aload_n X.1 X.2.1 dX5_load_12 rfl (lv_at hl 0 rfl) ?_
  refine wg (v := .long (oL (gI σ_108 202 o))) X hT hWσ_108 3 10 202 vl3_o rfl rfl (by decide) rfl (by decide) in_X5 q536 rfl dX5_load_13 ?_
  refine lv_aload_n X.1 X.2.1 dX5_load_16 rfl (lv_at hl 0 rfl) ?_
  refine wg (v := .ref (wad w 8 o)) X hT hWσ_108 3 6 198 vl3_o rfl rfl (by decide) rfl (by decide) in_X5 q531 rfl dX5_load_17 ?_
  refine wr_J (rV (As := []) (rest := [.long (oL (gI σ_108 202 o)), .ref (wad w 3 o)]) X hT hWσ_108 hS (met_Row_serial l (w := w) hV o _ σ_108 (by omega) h) (cwV 0 X.2.2.2.2 (lw_V q1691 q1692 q1693 q132 q1694) rfl rfl rfl (by decide +kernel) ⟨by show _ ≤ _; simp only [headSpec, rm_Store_load]; omega, by show _ ≤ _; simp only [headSpec, rm_Store_load]; omega⟩) vl8_o (by decide) rfl rfl hl.1 rfl (by first | exact Nat.le_of_ble_eq_true rfl | simp [catK, catI, catR, catL]) dX5_load_20 ⟨Nat.le_refl _, Nat.le_refl _⟩) hS (fun r_109 σ_110 H locs rr_109 rkσ_110 h hWσ_110 hS => ?_)
  have h := h rr_109 rkσ_110
  refine w_mmaxl X (hWσ_108.r.j 202 o rfl) rr_109 hl.1 q1699 q1688 q149 q1689 (Nat.le_of_ble_eq_true rfl) (Nat.le_of_ble_eq_true rfl) (Nat.le_refl _) (Nat.le_refl _) dX5_load_23 ?_
  refine wput (z := max (gI σ_108 202 o) r_109) X hT hWσ_110 hS 3 10 202 vl3_o rfl rfl (by decide) rfl (by decide) in_X5 tyX5 tyX5_ok nmX5 q536 rfl rfl (max_rJ (hWσ_108.r.j 202 o rfl) rr_109) (fv1 w rfl) rfl rfl dX5_load_26 (fun H locs hN hS => ?_)
  obtain ⟨σ_111, eσ_111⟩ : ∃ x, x = sI σ_110 202 o (max (gI σ_108 202 o) r_109) := ⟨_, rfl⟩
  have hWσ_111 : Wo w σ_111 H := eσ_111 ▸ hN
  have h := h σ_111 eσ_111
  clear hN
  refine lv_aload_n X.1 X.2.1 dX5_load_29 rfl (lv_at hl 0 rfl) ?_
  refine wg (v := .ref (wad w 5 o)) X hT hWσ_111 3 1 193 vl3_o rfl rfl (by decide) rfl (by decide) in_X5 q525 rfl dX5_load_30 ?_
  refine wg (v := .ref (wad w 325 o)) X hT hWσ_111 5 5 325 vl5_o rfl rfl (by decide) rfl (by decide) in_X7 q349 rfl dX5_load_33 ?_
  refine lv_iload_n X.1 X.2.1 dX5_load_36 rfl (lv_at hl 1 rfl) ?_
  refine lv_iconst (v := oI 1) X.1 X.2.1 dX5_load_37 rfl ?_
  obtain ⟨bi, h⟩ := h
  refine w_zast (n := ((wc w).1 - 6)) X hT hWσ_111 hS 325 vl325_o (by decide) rfl rfl bi rZ_1 dX5_load_38 (fun H locs hN hS => ?_)
  obtain ⟨σ_112, eσ_112⟩ : ∃ x, x = sA σ_111 325 o x1 1 := ⟨_, rfl⟩
  have hWσ_112 : Wo w σ_112 H := eσ_112 ▸ hN
  have h := h σ_112 eσ_112
  clear hN
  refine lv_aload_n X.1 X.2.1 dX5_load_39 rfl (lv_at hl 0 rfl) ?_
  refine wg (v := .ref (wad w 6 o)) X hT hWσ_112 3 2 194 vl3_o rfl rfl (by decide) rfl (by decide) in_X5 q526 rfl dX5_load_40 ?_
  refine lv_aload_n X.1 X.2.1 dX5_load_43 rfl (lv_at hl 0 rfl) ?_
  refine wg (v := .ref (wad w 8 o)) X hT hWσ_112 3 6 198 vl3_o rfl rfl (by decide) rfl (by decide) in_X5 q531 rfl dX5_load_44 ?_
  refine lv_iconst (v := oI 0) X.1 X.2.1 dX5_load_47 rfl ?_
  refine wr_I (rV (As := [.int (oI 0)]) (rest := [.ref (wad w 6 o)]) X hT hWσ_112 hS (met_Row_get l (w := w) hV o 0 _ σ_112 (by omega) rZ_0.i h) (cwV 1 X.2.2.2.2 (lw_V q1306 q1207 q1208 q132 q1209) rfl rfl rfl (by decide +kernel) ⟨by show _ ≤ _; simp only [headSpec, rm_Store_load]; omega, by show _ ≤ _; simp only [headSpec, rm_Store_load]; omega⟩) vl8_o (by decide) rfl rfl hl.1 rfl (by first | exact Nat.le_of_ble_eq_true rfl | simp [catK, catI, catR, catL]) dX5_load_48 ⟨Nat.le_refl _, Nat.le_refl _⟩) hS (fun r_113 σ_114 H locs rr_113 rkσ_114 h hWσ_114 hS => ?_)
  have h := h rr_113 rkσ_114
  refine wr_K (rV (As := [.int (oI r_113)]) (rest := []) X hT hWσ_114 hS (met_Index_fetch l (w := w) hV o r_113 _ σ_114 (by omega) rr_113 h) (cwV 1 X.2.2.2.2 (lw_V q1700 q729 q730 q139 q731) rfl rfl rfl (by decide +kernel) ⟨by show _ ≤ _; simp only [headSpec, rm_Store_load]; omega, by show _ ≤ _; simp only [headSpec, rm_Store_load]; omega⟩) vl6_o (by decide) rfl rfl hl.1 rfl (by first | exact Nat.le_of_ble_eq_true rfl | simp [catK, catI, catR, catL]) dX5_load_51 ⟨Nat.le_refl _, Nat.le_refl _⟩) hS (fun r_115 σ_116 H locs rr_115 rkσ_116 h hWσ_116 hS => ?_)
  have h := h rr_115 rkσ_116
  refine w_kstore (i := 4) (lv' := [(4, va_rf (knO w r_115)), (0, .ref (wad w 3 o)), (1, .int (oI x1)), (2, .int (oI x2)), (3, .int (oI x3))]) (w := w) X dX5_load_54 hl (by decide) (by first | rfl | simp [catK, catI, catR, catL]) (fun ls hl => ?_)
  refine w_kload (w := w) X dX5_load_56 (lv_at hl 0 rfl) ?_
  refine lv_aload_n X.1 X.2.1 dX5_load_58 rfl (lv_at hl 1 rfl) ?_
  refine wg (v := .ref (wad w 8 o)) X hT hWσ_116 3 6 198 vl3_o rfl rfl (by decide) rfl (by decide) in_X5 q531 rfl dX5_load_59 ?_
  refine lv_iconst (v := oI 4) X.1 X.2.1 dX5_load_62 rfl ?_
  refine wr_I (rV (As := [.int (oI 4)]) (rest := [va_rf (knO w r_115)]) X hT hWσ_116 hS (met_Row_get l (w := w) hV o 4 _ σ_116 (by omega) ((rB_lit 4 (by decide)).i) h) (cwV 1 X.2.2.2.2 (lw_V q1306 q1207 q1208 q132 q1209) rfl rfl rfl (by decide +kernel) ⟨by show _ ≤ _; simp only [headSpec, rm_Store_load]; omega, by show _ ≤ _; simp only [headSpec, rm_Store_load]; omega⟩) vl8_o (by decide) rfl rfl hl.1 rfl (by first | exact Nat.le_of_ble_eq_true rfl | simp [catK, catI, catR, catL]) dX5_load_63 ⟨Nat.le_refl _, Nat.le_refl _⟩) hS (fun r_117 σ_118 H locs rr_117 rkσ_118 h hWσ_118 hS => ?_)
  have h := h rr_117 rkσ_118
  obtain ⟨hz_119, h⟩ := h
  rw [knR hz_119]
  refine wput (z := r_117) X hT hWσ_118 hS 9 1 577 (hV.hv 9 rfl ⟨hz_119, rr_115.2⟩) rfl rfl (by decide) rfl (by decide) in_X9 tyX9 tyX9_ok nmX9 q388 rfl rfl rr_117 (fv0 w rfl) rfl rfl dX5_load_66 (fun H locs hN hS => ?_)
  obtain ⟨σ_120, eσ_120⟩ : ∃ x, x = sI σ_118 577 r_115 r_117 := ⟨_, rfl⟩
  have hWσ_120 : Wo w σ_120 H := eσ_120 ▸ hN
  have h := h σ_120 eσ_120
  clear hN
  refine lv_iconst (v := oI 0) X.1 X.2.1 dX5_load_69 rfl ?_
  refine lv_istore (i := 5) (lv' := [(5, .int (oI 0)), (4, va_rf (knO w r_115)), (0, .ref (wad w 3 o)), (1, .int (oI x1)), (2, .int (oI x2)), (3, .int (oI x3))]) X.1 X.2.1 dX5_load_70 hl (by decide) (by first | rfl | simp [catK, catI, catR, catL]) (fun ls hl => ?_)
  exact wk_Store_load_L72 X hr hlk hT hV hF ho rx1 rx2 rx3 r_115 0 σ_120 _ _ _ rr_115 rZ_0.i (lv_sub hl [2, 3, 4, 5, 1, 0] rfl) hWσ_120 hS h
theorem met_Store_load (l : Launch) {w : Wp} (hV : Hvl w) (n : Nat) : ∀ (o : Int) (x1 : Int) (x2 : Int) (x3 : Int) (Q : Int → St → Prop) (σ : St), 0 ≤ o ∧ o < 2 → rI x1 → rI x2 → rI x3 → wp_Store_load (wc w) (wtv w) n o x1 x2 x3 Q σ → Met l yX5_load (ws_ yX5_load cX5_load 6 (some (.object "NandHouse$Knot"))) (rm_Store_load n) (PcW w σ [.ref (wad w 3 o), .int (oI x1), .int (oI x2), .int (oI x3)]) (QcK w Q) 0 0 (wA w) := by
  induction n with
  | zero => intro o x1 x2 x3 Q σ ho rx1 rx2 rx3 h; exact h.elim
  | succ n ih => intro o x1 x2 x3 Q σ ho rx1 rx2 rx3 h; exact met_Store_load_R l hV ih o x1 x2 x3 Q σ ho rx1 rx2 rx3 h
/-! Store.readOrphans()V -/
set_option maxHeartbeats 4000000 in
set_option maxRecDepth 100000 in
theorem wk_Store_readOrphans_L41B {p : Program} {l : Launch} {e : Env} {st : State} {m : MethodId} {args : Array Value} {below : List Frame} {meth : Method} {c : Code} {w : Wp} {o : Int} {Q : St → Prop} (X : CallFix p m c cX5_readOrphans 2 st args lw_all RX5) (hr : meth.sig.returnType = none) (hlk : meth.locks = false) (hT : Tb w st) (hV : Hvl w) (ho : 0 ≤ o ∧ o < 2) (K41 : Int → St → Prop) (hK41 : ∀ (y1 : Int) (σ : St) (H : Heap) (locs : List Loc) (ls : Array Slot), rI y1 → lv_has ls 2 [(0, .ref (wad w 3 o)), (1, .int (oI y1))] → Wo w σ H → va_S (wA w) st.heap H locs → K41 y1 σ → W p l e (headSpec (ws_ yX5_readOrphans cX5_readOrphans 2 none) rm_Store_readOrphans).room st m args below meth c H locs 0 0 (MQ below (QcV w Q) args st 0 0 (wA w)) (F0 m 41 ls [])) : ∀ (y1 : Int) (σ : St) (H : Heap) (locs : List Loc) (ls : Array Slot), rI y1 → lv_has ls 2 [(0, .ref (wad w 3 o)), (1, .int (oI y1))] → Wo w σ H → va_S (wA w) st.heap H locs → wp_Store_readOrphans_L41 (wc w) (wtv w) o Q K41 y1 σ → W p l e (headSpec (ws_ yX5_readOrphans cX5_readOrphans 2 none) rm_Store_readOrphans).room st m args below meth c H locs 0 0 (MQ below (QcV w Q) args st 0 0 (wA w)) (F0 m 41 ls []) := by
  have vl217_o : vl w 217 o := hV.hv 217 rfl ⟨by omega, by show _ < (2 : Int); omega⟩
  have vl3_o : vl w 3 o := hV.hv 3 rfl ⟨by omega, by show _ < (2 : Int); omega⟩
  have vl8_o_4 : vl w 8 (o + 4) := hV.hv 8 rfl ⟨by omega, by show _ < (8 : Int); omega⟩
  intro y1 σ H locs ls ry1 hl hW hS h
  unfold wp_Store_readOrphans_L41 at h
  refine lv_iload_n X.1 X.2.1 dX5_readOrphans_41 rfl (lv_at hl 1 rfl) ?_
  refine lv_aload_n X.1 X.2.1 dX5_readOrphans_42 rfl (lv_at hl 0 rfl) ?_
  refine wg (v := .int (oI (gI σ 218 o))) X hT hW 3 26 218 vl3_o rfl rfl (by decide) rfl (by decide) in_X5 q557 rfl dX5_readOrphans_43 ?_
  refine w_icmp_ge (tgt := 74) X ry1 (hW.r.i 218 o rfl) dX5_readOrphans_46 (by decide) (fun hc => ?_) (fun hc => ?_)
  · have h := h.1 hc
    exact wret_V X hr hlk hW hS h dX5_readOrphans_74
  · have h := h.2 hc
    refine lv_aload_n X.1 X.2.1 dX5_readOrphans_49 rfl (lv_at hl 0 rfl) ?_
    refine wg (v := .ref (wad w 217 o)) X hT hW 3 25 217 vl3_o rfl rfl (by decide) rfl (by decide) in_X5 q555 rfl dX5_readOrphans_50 ?_
    refine lv_iload_n X.1 X.2.1 dX5_readOrphans_53 rfl (lv_at hl 1 rfl) ?_
    refine lv_aload_n X.1 X.2.1 dX5_readOrphans_54 rfl (lv_at hl 0 rfl) ?_
    refine wg (v := .ref (wad w 8 (o + 4))) X hT hW 3 8 200 vl3_o rfl rfl (by decide) rfl (by decide) in_X5 q534 rfl dX5_readOrphans_55 ?_
    refine lv_bipush (v := oI 8) X.1 X.2.1 dX5_readOrphans_58 (by decide) ?_
    refine lv_iconst (v := oI 4) X.1 X.2.1 dX5_readOrphans_60 rfl ?_
    refine lv_iload_n X.1 X.2.1 dX5_readOrphans_61 rfl (lv_at hl 1 rfl) ?_
    refine w_imul X dX5_readOrphans_62 ?_
    refine w_iadd X dX5_readOrphans_63 ?_
    refine wr_I (rV (As := [.int (oI (w32 (8 + (w32 (4 * y1)))))]) (rest := [.int (oI y1), .ref (wad w 217 o)]) X hT hW hS (met_Row_get l (w := w) hV (o + 4) (w32 (8 + (w32 (4 * y1)))) _ σ (by omega) (w32_r _) h) (cwV 1 X.2.2.2.2 (lw_V q1306 q1207 q1208 q132 q1209) rfl rfl rfl (by decide +kernel) ⟨Nat.le_of_ble_eq_true rfl, Nat.le_of_ble_eq_true rfl⟩) vl8_o_4 (by decide) rfl rfl hl.1 rfl (by first | exact Nat.le_of_ble_eq_true rfl | simp [catK, catI, catR, catL]) dX5_readOrphans_64 ⟨Nat.le_refl _, Nat.le_refl _⟩) hS (fun r_23 σ_24 H locs rr_23 rkσ_24 h hWσ_24 hS => ?_)
    have h := h rr_23 rkσ_24
    obtain ⟨bi, h⟩ := h
    refine w_iast (n := 16) X hT hWσ_24 hS 217 vl217_o (by decide) rfl rfl bi rr_23 dX5_readOrphans_67 (fun H locs hN hS => ?_)
    obtain ⟨σ_25, eσ_25⟩ : ∃ x, x = sA σ_24 217 o y1 r_23 := ⟨_, rfl⟩
    have hWσ_25 : Wo w σ_25 H := eσ_25 ▸ hN
    have h := h σ_25 eσ_25
    clear hN
    obtain ⟨y1_26, ey1_26⟩ : ∃ y : Int, y = w32 (y1 + 1) := ⟨_, rfl⟩
    have h := h y1_26 ey1_26
    have ry1_26 : rI y1_26 := by rw [ey1_26]; exact w32_r _
    refine lv_iinc (v := oI y1_26) (lv' := [(1, .int (oI y1_26)), (0, .ref (wad w 3 o))]) X.1 X.2.1 dX5_readOrphans_68 hl (k := 1) rfl (by rw [ey1_26]; exact oI_add _ _) (by decide) (by first | rfl | simp [catK, catI, catR, catL]) (fun ls hl => ?_)
    refine lv_goto (tgt := 41) X.1 X.2.1 dX5_readOrphans_71 (by decide) ?_
    exact hK41 y1_26 σ_25 _ _ _ ry1_26 (lv_sub hl [1, 0] rfl) hWσ_25 hS h
theorem wk_Store_readOrphans_L41 {p : Program} {l : Launch} {e : Env} {st : State} {m : MethodId} {args : Array Value} {below : List Frame} {meth : Method} {c : Code} {w : Wp} {o : Int} {Q : St → Prop} (X : CallFix p m c cX5_readOrphans 2 st args lw_all RX5) (hr : meth.sig.returnType = none) (hlk : meth.locks = false) (hT : Tb w st) (hV : Hvl w) (ho : 0 ≤ o ∧ o < 2) : ∀ (y1 : Int) (σ : St) (H : Heap) (locs : List Loc) (ls : Array Slot), rI y1 → lv_has ls 2 [(0, .ref (wad w 3 o)), (1, .int (oI y1))] → Wo w σ H → va_S (wA w) st.heap H locs → lQ1 (wp_Store_readOrphans_L41 (wc w) (wtv w) o Q) y1 σ → W p l e (headSpec (ws_ yX5_readOrphans cX5_readOrphans 2 none) rm_Store_readOrphans).room st m args below meth c H locs 0 0 (MQ below (QcV w Q) args st 0 0 (wA w)) (F0 m 41 ls []) := by
  intro y1 σ H locs ls ry1 hl hW hS h
  obtain ⟨fu, h⟩ := h
  induction fu generalizing y1 σ H locs ls with
  | zero => exact h.elim
  | succ fu ih =>
    exact wk_Store_readOrphans_L41B X hr hlk hT hV ho (lq1 (wp_Store_readOrphans_L41 (wc w) (wtv w) o Q) fu) (fun y1 σ H locs ls ry1 hl hW hS h => ih y1 σ H locs ls ry1 hl hW hS h) y1 σ H locs ls ry1 hl hW hS h
set_option maxHeartbeats 4000000 in
set_option maxRecDepth 100000 in
theorem met_Store_readOrphans (l : Launch) {w : Wp} (hV : Hvl w) (o : Int) (Q : St → Prop) (σ : St) (ho : 0 ≤ o ∧ o < 2) (h : wp_Store_readOrphans (wc w) (wtv w) o Q σ) : Met l yX5_readOrphans (ws_ yX5_readOrphans cX5_readOrphans 2 none) rm_Store_readOrphans (PcW w σ [.ref (wad w 3 o)]) (QcV w Q) 0 0 (wA w) := by
  refine Met.ofW (cc := cX5_readOrphans) (maxL := 2) (ret := none) (by decide) rfl ?_
  intro p e st m args below meth c s₁ B hml hv
  obtain ⟨hargs, hW, hT⟩ := hv
  have X : CallFix p m c cX5_readOrphans 2 st _ lw_all RX5 := ⟨B.exec, B.bytes, hml, findClass_of_methodNamed B.named, fun w h => atoms_spec (ws := ws_ yX5_readOrphans cX5_readOrphans 2 none) B.pre w (List.mem_cons_of_mem _ h)⟩
  have hr := B.returns
  have hlk := B.notSynchronized
  have hS : va_S (wA w) st.heap st.heap [] := va_S.rf
  have vl3_o : vl w 3 o := hV.hv 3 rfl ⟨by omega, by show _ < (2 : Int); omega⟩
  have vl4_o : vl w 4 o := hV.hv 4 rfl ⟨by omega, by show _ < (2 : Int); omega⟩
  have vl512_o_4 : vl w 512 (o + 4) := hV.hv 512 rfl ⟨by omega, by show _ < (8 : Int); omega⟩
  have vl8_o_4 : vl w 8 (o + 4) := hV.hv 8 rfl ⟨by omega, by show _ < (8 : Int); omega⟩
  have hl := lv_entry ([.ref (wad w 3 o)]) (n := 2) (Nat.le_of_ble_eq_true rfl)
  have hfr := lg_entry_eq m ([.ref (wad w 3 o)]) 2
  rw [← hargs] at hfr
  rw [hfr]
  generalize (lg_sl ([.ref (wad w 3 o)]) ++ List.replicate (2 - (lg_sl ([.ref (wad w 3 o)])).length) Slot.unset).toArray = ls at hl ⊢
  have hl : lv_has ls 2 [(0, .ref (wad w 3 o))] := hl
  unfold wp_Store_readOrphans at h
  refine lv_aload_n X.1 X.2.1 dX5_readOrphans_0 rfl (lv_at hl 0 rfl) ?_
  refine wg (v := .ref (wad w 4 o)) X hT hW 3 0 192 vl3_o rfl rfl (by decide) rfl (by decide) in_X5 q523 rfl dX5_readOrphans_1 ?_
  refine lv_aload_n X.1 X.2.1 dX5_readOrphans_4 rfl (lv_at hl 0 rfl) ?_
  refine wg (v := .int (oI (gI σ 208 o))) X hT hW 3 16 208 vl3_o rfl rfl (by decide) rfl (by decide) in_X5 q546 rfl dX5_readOrphans_5 ?_
  refine lv_iconst (v := oI 0) X.1 X.2.1 dX5_readOrphans_8 rfl ?_
  refine lv_aload_n X.1 X.2.1 dX5_readOrphans_9 rfl (lv_at hl 0 rfl) ?_
  refine wg (v := .ref (wad w 8 (o + 4))) X hT hW 3 8 200 vl3_o rfl rfl (by decide) rfl (by decide) in_X5 q534 rfl dX5_readOrphans_10 ?_
  refine wg (v := .ref (wad w 512 (o + 4))) X hT hW 8 0 512 vl8_o_4 rfl rfl (by decide) rfl (by decide) in_X2 q166 rfl dX5_readOrphans_13 ?_
  refine lv_iconst (v := oI 0) X.1 X.2.1 dX5_readOrphans_16 rfl ?_
  refine wr_V (rV (As := [.int (oI (gI σ 208 o)), .int (oI 0), .ref (wad w 512 (o + 4)), .int (oI 0)]) (rest := []) X hT hW hS (met_Blocks_read l (w := w) hV o (gI σ 208 o) 0 512 (o + 4) 0 _ σ (by omega) (hW.r.i 208 o rfl) rZ_0.i vl512_o_4 (by decide) rfl rZ_0.i h) (cwV 4 X.2.2.2.2 (lw_V q1199 q1200 q1201 q137 q1202) rfl rfl rfl (by decide +kernel) ⟨Nat.le_of_ble_eq_true rfl, Nat.le_of_ble_eq_true rfl⟩) vl4_o (by decide) rfl rfl hl.1 rfl (by first | exact Nat.le_of_ble_eq_true rfl | simp [catK, catI, catR, catL]) dX5_readOrphans_17 ⟨Nat.le_refl _, Nat.le_refl _⟩) hS (fun σ_28 H locs rkσ_28 h hWσ_28 hS => ?_)
  have h := h rkσ_28
  refine lv_aload_n X.1 X.2.1 dX5_readOrphans_20 rfl (lv_at hl 0 rfl) ?_
  refine wg (v := .ref (wad w 8 (o + 4))) X hT hWσ_28 3 8 200 vl3_o rfl rfl (by decide) rfl (by decide) in_X5 q534 rfl dX5_readOrphans_21 ?_
  refine wr_V (rV (As := []) (rest := []) X hT hWσ_28 hS (met_Row_clear l (w := w) hV (o + 4) _ σ_28 (by omega) h) (cwV 0 X.2.2.2.2 (lw_V q736 q737 q738 q132 q739) rfl rfl rfl (by decide +kernel) ⟨Nat.le_of_ble_eq_true rfl, Nat.le_of_ble_eq_true rfl⟩) vl8_o_4 (by decide) rfl rfl hl.1 rfl (by first | exact Nat.le_of_ble_eq_true rfl | simp [catK, catI, catR, catL]) dX5_readOrphans_24 ⟨Nat.le_refl _, Nat.le_refl _⟩) hS (fun σ_30 H locs rkσ_30 h hWσ_30 hS => ?_)
  have h := h rkσ_30
  refine lv_aload_n X.1 X.2.1 dX5_readOrphans_27 rfl (lv_at hl 0 rfl) ?_
  refine lv_aload_n X.1 X.2.1 dX5_readOrphans_28 rfl (lv_at hl 0 rfl) ?_
  refine wg (v := .ref (wad w 8 (o + 4))) X hT hWσ_30 3 8 200 vl3_o rfl rfl (by decide) rfl (by decide) in_X5 q534 rfl dX5_readOrphans_29 ?_
  refine lv_iconst (v := oI 4) X.1 X.2.1 dX5_readOrphans_32 rfl ?_
  refine wr_I (rV (As := [.int (oI 4)]) (rest := [.ref (wad w 3 o)]) X hT hWσ_30 hS (met_Row_get l (w := w) hV (o + 4) 4 _ σ_30 (by omega) ((rB_lit 4 (by decide)).i) h) (cwV 1 X.2.2.2.2 (lw_V q1306 q1207 q1208 q132 q1209) rfl rfl rfl (by decide +kernel) ⟨Nat.le_of_ble_eq_true rfl, Nat.le_of_ble_eq_true rfl⟩) vl8_o_4 (by decide) rfl rfl hl.1 rfl (by first | exact Nat.le_of_ble_eq_true rfl | simp [catK, catI, catR, catL]) dX5_readOrphans_33 ⟨Nat.le_refl _, Nat.le_refl _⟩) hS (fun r_31 σ_32 H locs rr_31 rkσ_32 h hWσ_32 hS => ?_)
  have h := h rr_31 rkσ_32
  refine wput (z := r_31) X hT hWσ_32 hS 3 26 218 vl3_o rfl rfl (by decide) rfl (by decide) in_X5 tyX5 tyX5_ok nmX5 q557 rfl rfl rr_31 (fv0 w rfl) rfl rfl dX5_readOrphans_36 (fun H locs hN hS => ?_)
  obtain ⟨σ_33, eσ_33⟩ : ∃ x, x = sI σ_32 218 o r_31 := ⟨_, rfl⟩
  have hWσ_33 : Wo w σ_33 H := eσ_33 ▸ hN
  have h := h σ_33 eσ_33
  clear hN
  refine lv_iconst (v := oI 0) X.1 X.2.1 dX5_readOrphans_39 rfl ?_
  refine lv_istore_n (i := 1) (lv' := [(1, .int (oI 0)), (0, .ref (wad w 3 o))]) X.1 X.2.1 dX5_readOrphans_40 rfl hl (by decide) (by first | rfl | simp [catK, catI, catR, catL]) (fun ls hl => ?_)
  exact wk_Store_readOrphans_L41 X hr hlk hT hV ho 0 σ_33 _ _ _ rZ_0.i (lv_sub hl [1, 0] rfl) hWσ_33 hS h
/-! Store.redo(II)I -/
set_option maxHeartbeats 4000000 in
set_option maxRecDepth 100000 in
theorem met_Store_redo (l : Launch) {w : Wp} (hV : Hvl w) (o : Int) (x1 : Int) (x2 : Int) (Q : Int → St → Prop) (σ : St) (ho : 0 ≤ o ∧ o < 2) (rx1 : rI x1) (rx2 : rI x2) (h : wp_Store_redo (wc w) (wtv w) o x1 x2 Q σ) : Met l yX5_redo (ws_ yX5_redo cX5_redo 4 (some .int)) rm_Store_redo (PcW w σ [.ref (wad w 3 o), .int (oI x1), .int (oI x2)]) (QcI w Q) 0 0 (wA w) := by
  refine Met.ofW (cc := cX5_redo) (maxL := 4) (ret := (some .int)) (by decide) rfl ?_
  intro p e st m args below meth c s₁ B hml hv
  obtain ⟨hargs, hW, hT⟩ := hv
  have X : CallFix p m c cX5_redo 4 st _ lw_all RX5 := ⟨B.exec, B.bytes, hml, findClass_of_methodNamed B.named, fun w h => atoms_spec (ws := ws_ yX5_redo cX5_redo 4 (some .int)) B.pre w (List.mem_cons_of_mem _ h)⟩
  have hr := B.returns
  have hlk := B.notSynchronized
  have hS : va_S (wA w) st.heap st.heap [] := va_S.rf
  have vl3_o : vl w 3 o := hV.hv 3 rfl ⟨by omega, by show _ < (2 : Int); omega⟩
  have vl8_o : vl w 8 o := hV.hv 8 rfl ⟨by omega, by show _ < (8 : Int); omega⟩
  have hl := lv_entry ([.ref (wad w 3 o), .int (oI x1), .int (oI x2)]) (n := 4) (Nat.le_of_ble_eq_true rfl)
  have hfr := lg_entry_eq m ([.ref (wad w 3 o), .int (oI x1), .int (oI x2)]) 4
  rw [← hargs] at hfr
  rw [hfr]
  generalize (lg_sl ([.ref (wad w 3 o), .int (oI x1), .int (oI x2)]) ++ List.replicate (4 - (lg_sl ([.ref (wad w 3 o), .int (oI x1), .int (oI x2)])).length) Slot.unset).toArray = ls at hl ⊢
  have hl : lv_has ls 4 [(0, .ref (wad w 3 o)), (1, .int (oI x1)), (2, .int (oI x2))] := hl
  unfold wp_Store_redo at h
  refine lv_aload_n X.1 X.2.1 dX5_redo_0 rfl (lv_at hl 0 rfl) ?_
  refine lv_iload_n X.1 X.2.1 dX5_redo_1 rfl (lv_at hl 1 rfl) ?_
  refine lv_iload_n X.1 X.2.1 dX5_redo_2 rfl (lv_at hl 2 rfl) ?_
  refine lv_aload_n X.1 X.2.1 dX5_redo_3 rfl (lv_at hl 0 rfl) ?_
  refine wg (v := .ref (wad w 8 o)) X hT hW 3 6 198 vl3_o rfl rfl (by decide) rfl (by decide) in_X5 q531 rfl dX5_redo_4 ?_
  refine wr_I (rV (As := [.int (oI x1), .int (oI x2), .ref (wad w 8 o)]) (rest := []) X hT hW hS (met_Store_look l (w := w) hV o x1 x2 o _ σ (by omega) rx1 rx2 (by omega) h) (cwV 3 X.2.2.2.2 (lw_V q1289 q1291 qs45 q136 q1292) rfl rfl rfl (by decide +kernel) ⟨Nat.le_of_ble_eq_true rfl, Nat.le_of_ble_eq_true rfl⟩) vl3_o (by decide) rfl rfl hl.1 rfl (by first | exact Nat.le_of_ble_eq_true rfl | simp [catK, catI, catR, catL]) dX5_redo_7 ⟨Nat.le_refl _, Nat.le_refl _⟩) hS (fun r_5 σ_6 H locs rr_5 rkσ_6 h hWσ_6 hS => ?_)
  have h := h rr_5 rkσ_6
  refine lv_istore_n (i := 3) (lv' := [(3, .int (oI r_5)), (0, .ref (wad w 3 o)), (1, .int (oI x1)), (2, .int (oI x2))]) X.1 X.2.1 dX5_redo_10 rfl hl (by decide) (by first | rfl | simp [catK, catI, catR, catL]) (fun ls hl => ?_)
  refine lv_aload_n X.1 X.2.1 dX5_redo_11 rfl (lv_at hl 1 rfl) ?_
  refine lv_aload_n X.1 X.2.1 dX5_redo_12 rfl (lv_at hl 1 rfl) ?_
  refine wg (v := .ref (wad w 8 o)) X hT hWσ_6 3 6 198 vl3_o rfl rfl (by decide) rfl (by decide) in_X5 q531 rfl dX5_redo_13 ?_
  refine lv_iload_n X.1 X.2.1 dX5_redo_16 rfl (lv_at hl 2 rfl) ?_
  refine lv_iload_n X.1 X.2.1 dX5_redo_17 rfl (lv_at hl 3 rfl) ?_
  refine wr_V (rV (As := [.ref (wad w 8 o), .int (oI x1), .int (oI x2)]) (rest := []) X hT hWσ_6 hS (met_Store_apply l (w := w) hV o o x1 x2 _ σ_6 (by omega) (by omega) rx1 rx2 h) (cwV 3 X.2.2.2.2 (lw_V q1722 q1347 q1348 q136 q1349) rfl rfl rfl (by decide +kernel) ⟨Nat.le_of_ble_eq_true rfl, Nat.le_of_ble_eq_true rfl⟩) vl3_o (by decide) rfl rfl hl.1 rfl (by first | exact Nat.le_of_ble_eq_true rfl | simp [catK, catI, catR, catL]) dX5_redo_18 ⟨Nat.le_refl _, Nat.le_refl _⟩) hS (fun σ_8 H locs rkσ_8 h hWσ_8 hS => ?_)
  have h := h rkσ_8
  refine lv_iload_n X.1 X.2.1 dX5_redo_21 rfl (lv_at hl 0 rfl) ?_
  exact wret_I X hr hlk hWσ_8 hS rr_5 h dX5_redo_22
/-! Store.replayBud(IIJ)V -/
set_option maxHeartbeats 4000000 in
set_option maxRecDepth 100000 in
theorem wk_Store_replayBud_L100B {p : Program} {l : Launch} {e : Env} {st : State} {m : MethodId} {args : Array Value} {below : List Frame} {meth : Method} {c : Code} {w : Wp} {o : Int} {x1 : Int} {x2 : Int} {x3 : Int} {Q : St → Prop} (X : CallFix p m c cX5_replayBud 10 st args lw_all RX5) (hr : meth.sig.returnType = none) (hlk : meth.locks = false) (hT : Tb w st) (hV : Hvl w) (ho : 0 ≤ o ∧ o < 2) (rx1 : rI x1) (rx2 : rI x2) (rx3 : rJ x3) (K141 : Int → Int → Int → St → Prop) (K100 : Int → Int → Int → St → Prop) (hK141 : ∀ (y5 y6 y7 : Int) (σ : St) (H : Heap) (locs : List Loc) (ls : Array Slot), rI y5 → rI y6 → rJ y7 → lv_has ls 10 [(0, .ref (wad w 3 o)), (1, .int (oI x1)), (5, .int (oI y5)), (6, .int (oI y6)), (7, .long (oL y7))] → Wo w σ H → va_S (wA w) st.heap H locs → K141 y5 y6 y7 σ → W p l e (headSpec (ws_ yX5_replayBud cX5_replayBud 10 none) rm_Store_replayBud).room st m args below meth c H locs 0 0 (MQ below (QcV w Q) args st 0 0 (wA w)) (F0 m 141 ls [])) (hK100 : ∀ (y5 y6 y7 : Int) (σ : St) (H : Heap) (locs : List Loc) (ls : Array Slot), rI y5 → rI y6 → rJ y7 → lv_has ls 10 [(0, .ref (wad w 3 o)), (1, .int (oI x1)), (5, .int (oI y5)), (6, .int (oI y6)), (7, .long (oL y7))] → Wo w σ H → va_S (wA w) st.heap H locs → K100 y5 y6 y7 σ → W p l e (headSpec (ws_ yX5_replayBud cX5_replayBud 10 none) rm_Store_replayBud).room st m args below meth c H locs 0 0 (MQ below (QcV w Q) args st 0 0 (wA w)) (F0 m 100 ls [])) : ∀ (y5 y6 y7 : Int) (σ : St) (H : Heap) (locs : List Loc) (ls : Array Slot), rI y5 → rI y6 → rJ y7 → lv_has ls 10 [(0, .ref (wad w 3 o)), (1, .int (oI x1)), (5, .int (oI y5)), (6, .int (oI y6)), (7, .long (oL y7))] → Wo w σ H → va_S (wA w) st.heap H locs → wp_Store_replayBud_L100 (wc w) (wtv w) o x1 x2 x3 Q K141 K100 y5 y6 y7 σ → W p l e (headSpec (ws_ yX5_replayBud cX5_replayBud 10 none) rm_Store_replayBud).room st m args below meth c H locs 0 0 (MQ below (QcV w Q) args st 0 0 (wA w)) (F0 m 100 ls []) := by
  have vl3_o : vl w 3 o := hV.hv 3 rfl ⟨by omega, by show _ < (2 : Int); omega⟩
  intro y5 y6 y7 σ H locs ls ry5 ry6 ry7 hl hW hS h
  unfold wp_Store_replayBud_L100 at h
  refine lv_iload X.1 X.2.1 dX5_replayBud_100 (lv_at hl 2 rfl) ?_
  refine lv_iload X.1 X.2.1 dX5_replayBud_102 (lv_at hl 3 rfl) ?_
  refine w_icmp_ge (tgt := 122) X ry5 ry6 dX5_replayBud_104 (by decide) (fun hc => ?_) (fun hc => ?_)
  · have h := h.1 hc
    refine lv_aload_n X.1 X.2.1 dX5_replayBud_122 rfl (lv_at hl 0 rfl) ?_
    refine lv_lload X.1 X.2.1 dX5_replayBud_123 (lv_at hl 4 rfl) ?_
    refine wput (z := y7) X hT hW hS 3 36 228 vl3_o rfl rfl (by decide) rfl (by decide) in_X5 tyX5 tyX5_ok nmX5 q568 rfl rfl ry7 (fv1 w rfl) rfl rfl dX5_replayBud_125 (fun H locs hN hS => ?_)
    obtain ⟨σ_18, eσ_18⟩ : ∃ x, x = sI σ 228 o y7 := ⟨_, rfl⟩
    have hWσ_18 : Wo w σ_18 H := eσ_18 ▸ hN
    have h := h σ_18 eσ_18
    clear hN
    refine lv_aload_n X.1 X.2.1 dX5_replayBud_128 rfl (lv_at hl 0 rfl) ?_
    refine lv_aload_n X.1 X.2.1 dX5_replayBud_129 rfl (lv_at hl 0 rfl) ?_
    refine wg (v := .long (oL (gI σ_18 202 o))) X hT hWσ_18 3 10 202 vl3_o rfl rfl (by decide) rfl (by decide) in_X5 q536 rfl dX5_replayBud_130 ?_
    refine lv_lload X.1 X.2.1 dX5_replayBud_133 (lv_at hl 4 rfl) ?_
    refine w_mmaxl X (hWσ_18.r.j 202 o rfl) ry7 hl.1 q1699 q1688 q149 q1689 (Nat.le_of_ble_eq_true rfl) (Nat.le_of_ble_eq_true rfl) (Nat.le_refl _) (Nat.le_refl _) dX5_replayBud_135 ?_
    refine wput (z := max (gI σ_18 202 o) y7) X hT hWσ_18 hS 3 10 202 vl3_o rfl rfl (by decide) rfl (by decide) in_X5 tyX5 tyX5_ok nmX5 q536 rfl rfl (max_rJ (hWσ_18.r.j 202 o rfl) ry7) (fv1 w rfl) rfl rfl dX5_replayBud_138 (fun H locs hN hS => ?_)
    obtain ⟨σ_19, eσ_19⟩ : ∃ x, x = sI σ_18 202 o (max (gI σ_18 202 o) y7) := ⟨_, rfl⟩
    have hWσ_19 : Wo w σ_19 H := eσ_19 ▸ hN
    have h := h σ_19 eσ_19
    clear hN
    exact hK141 y5 y6 y7 σ_19 _ _ _ ry5 ry6 ry7 (lv_sub hl [0, 1, 2, 3, 4] rfl) hWσ_19 hS h
  · have h := h.2 hc
    refine lv_iload X.1 X.2.1 dX5_replayBud_107 (lv_at hl 2 rfl) ?_
    refine lv_aload_n X.1 X.2.1 dX5_replayBud_109 rfl (lv_at hl 0 rfl) ?_
    refine lv_iload_n X.1 X.2.1 dX5_replayBud_110 rfl (lv_at hl 1 rfl) ?_
    refine lv_iload X.1 X.2.1 dX5_replayBud_111 (lv_at hl 2 rfl) ?_
    refine wr_I (rV (As := [.int (oI x1), .int (oI y5)]) (rest := [.int (oI y5)]) X hT hW hS (met_Store_redo l (w := w) hV o x1 y5 _ σ (by omega) rx1 ry5 h) (cwV 2 X.2.2.2.2 (lw_V q1718 q1720 qs79 q136 q1721) rfl rfl rfl (by decide +kernel) ⟨Nat.le_of_ble_eq_true rfl, Nat.le_of_ble_eq_true rfl⟩) vl3_o (by decide) rfl rfl hl.1 rfl (by first | exact Nat.le_of_ble_eq_true rfl | simp [catK, catI, catR, catL]) dX5_replayBud_113 ⟨Nat.le_refl _, Nat.le_refl _⟩) hS (fun r_20 σ_21 H locs rr_20 rkσ_21 h hWσ_21 hS => ?_)
    have h := h rr_20 rkσ_21
    refine w_iadd X dX5_replayBud_116 ?_
    refine w_top (fun y5_22 ey5_22 => ?_)
    have h := h y5_22 ey5_22
    have ry5_22 : rI y5_22 := by rw [ey5_22]; exact (w32_r _)
    refine lv_istore (i := 5) (lv' := [(5, .int (oI y5_22)), (0, .ref (wad w 3 o)), (1, .int (oI x1)), (6, .int (oI y6)), (7, .long (oL y7))]) X.1 X.2.1 dX5_replayBud_117 hl (by decide) (by first | rfl | simp [catK, catI, catR, catL]) (fun ls hl => ?_)
    refine lv_goto (tgt := 100) X.1 X.2.1 dX5_replayBud_119 (by decide) ?_
    exact hK100 y5_22 y6 y7 σ_21 _ _ _ ry5_22 ry6 ry7 (lv_sub hl [1, 2, 0, 3, 4] rfl) hWσ_21 hS h
theorem wk_Store_replayBud_L100 {p : Program} {l : Launch} {e : Env} {st : State} {m : MethodId} {args : Array Value} {below : List Frame} {meth : Method} {c : Code} {w : Wp} {o : Int} {x1 : Int} {x2 : Int} {x3 : Int} {Q : St → Prop} (X : CallFix p m c cX5_replayBud 10 st args lw_all RX5) (hr : meth.sig.returnType = none) (hlk : meth.locks = false) (hT : Tb w st) (hV : Hvl w) (ho : 0 ≤ o ∧ o < 2) (rx1 : rI x1) (rx2 : rI x2) (rx3 : rJ x3) (K141 : Int → Int → Int → St → Prop) (hK141 : ∀ (y5 y6 y7 : Int) (σ : St) (H : Heap) (locs : List Loc) (ls : Array Slot), rI y5 → rI y6 → rJ y7 → lv_has ls 10 [(0, .ref (wad w 3 o)), (1, .int (oI x1)), (5, .int (oI y5)), (6, .int (oI y6)), (7, .long (oL y7))] → Wo w σ H → va_S (wA w) st.heap H locs → K141 y5 y6 y7 σ → W p l e (headSpec (ws_ yX5_replayBud cX5_replayBud 10 none) rm_Store_replayBud).room st m args below meth c H locs 0 0 (MQ below (QcV w Q) args st 0 0 (wA w)) (F0 m 141 ls [])) : ∀ (y5 y6 y7 : Int) (σ : St) (H : Heap) (locs : List Loc) (ls : Array Slot), rI y5 → rI y6 → rJ y7 → lv_has ls 10 [(0, .ref (wad w 3 o)), (1, .int (oI x1)), (5, .int (oI y5)), (6, .int (oI y6)), (7, .long (oL y7))] → Wo w σ H → va_S (wA w) st.heap H locs → lQ3 (wp_Store_replayBud_L100 (wc w) (wtv w) o x1 x2 x3 Q K141) y5 y6 y7 σ → W p l e (headSpec (ws_ yX5_replayBud cX5_replayBud 10 none) rm_Store_replayBud).room st m args below meth c H locs 0 0 (MQ below (QcV w Q) args st 0 0 (wA w)) (F0 m 100 ls []) := by
  intro y5 y6 y7 σ H locs ls ry5 ry6 ry7 hl hW hS h
  obtain ⟨fu, h⟩ := h
  induction fu generalizing y5 y6 y7 σ H locs ls with
  | zero => exact h.elim
  | succ fu ih =>
    exact wk_Store_replayBud_L100B X hr hlk hT hV ho rx1 rx2 rx3 K141 (lq3 (wp_Store_replayBud_L100 (wc w) (wtv w) o x1 x2 x3 Q K141) fu) hK141 (fun y5 y6 y7 σ H locs ls ry5 ry6 ry7 hl hW hS h => ih y5 y6 y7 σ H locs ls ry5 ry6 ry7 hl hW hS h) y5 y6 y7 σ H locs ls ry5 ry6 ry7 hl hW hS h
set_option maxHeartbeats 4000000 in
set_option maxRecDepth 100000 in
theorem wk_Store_replayBud_b141 {p : Program} {l : Launch} {e : Env} {st : State} {m : MethodId} {args : Array Value} {below : List Frame} {meth : Method} {c : Code} {w : Wp} {o : Int} {x1 : Int} {x2 : Int} {x3 : Int} {Q : St → Prop} (X : CallFix p m c cX5_replayBud 10 st args lw_all RX5) (hr : meth.sig.returnType = none) (hlk : meth.locks = false) (hT : Tb w st) (hV : Hvl w) (ho : 0 ≤ o ∧ o < 2) (rx1 : rI x1) (rx2 : rI x2) (rx3 : rJ x3) (K16 : Int → Int → Int → St → Prop) (hK16 : ∀ (y5 y6 y7 : Int) (σ : St) (H : Heap) (locs : List Loc) (ls : Array Slot), rI y5 → rI y6 → rJ y7 → lv_has ls 10 [(0, .ref (wad w 3 o)), (1, .int (oI x1)), (5, .int (oI y5)), (6, .int (oI y6)), (7, .long (oL y7))] → Wo w σ H → va_S (wA w) st.heap H locs → K16 y5 y6 y7 σ → W p l e (headSpec (ws_ yX5_replayBud cX5_replayBud 10 none) rm_Store_replayBud).room st m args below meth c H locs 0 0 (MQ below (QcV w Q) args st 0 0 (wA w)) (F0 m 16 ls [])) : ∀ (y5 y6 y7 : Int) (σ : St) (H : Heap) (locs : List Loc) (ls : Array Slot), rI y5 → rI y6 → rJ y7 → lv_has ls 10 [(0, .ref (wad w 3 o)), (1, .int (oI x1)), (5, .int (oI y5)), (6, .int (oI y6)), (7, .long (oL y7))] → Wo w σ H → va_S (wA w) st.heap H locs → wp_Store_replayBud_b141 (wc w) (wtv w) o x1 x2 x3 Q K16 y5 y6 y7 σ → W p l e (headSpec (ws_ yX5_replayBud cX5_replayBud 10 none) rm_Store_replayBud).room st m args below meth c H locs 0 0 (MQ below (QcV w Q) args st 0 0 (wA w)) (F0 m 141 ls []) := by

  intro y5 y6 y7 σ H locs ls ry5 ry6 ry7 hl hW hS h
  unfold wp_Store_replayBud_b141 at h
  refine lv_goto (tgt := 16) X.1 X.2.1 dX5_replayBud_141 (by decide) ?_
  exact hK16 y5 y6 y7 σ _ _ _ ry5 ry6 ry7 (lv_sub hl [0, 1, 2, 3, 4] rfl) hW hS h
set_option maxHeartbeats 4000000 in
set_option maxRecDepth 100000 in
theorem wk_Store_replayBud_b55 {p : Program} {l : Launch} {e : Env} {st : State} {m : MethodId} {args : Array Value} {below : List Frame} {meth : Method} {c : Code} {w : Wp} {o : Int} {x1 : Int} {x2 : Int} {x3 : Int} {Q : St → Prop} (X : CallFix p m c cX5_replayBud 10 st args lw_all RX5) (hr : meth.sig.returnType = none) (hlk : meth.locks = false) (hT : Tb w st) (hV : Hvl w) (ho : 0 ≤ o ∧ o < 2) (rx1 : rI x1) (rx2 : rI x2) (rx3 : rJ x3) (K16 : Int → Int → Int → St → Prop) (hK16 : ∀ (y5 y6 y7 : Int) (σ : St) (H : Heap) (locs : List Loc) (ls : Array Slot), rI y5 → rI y6 → rJ y7 → lv_has ls 10 [(0, .ref (wad w 3 o)), (1, .int (oI x1)), (5, .int (oI y5)), (6, .int (oI y6)), (7, .long (oL y7))] → Wo w σ H → va_S (wA w) st.heap H locs → K16 y5 y6 y7 σ → W p l e (headSpec (ws_ yX5_replayBud cX5_replayBud 10 none) rm_Store_replayBud).room st m args below meth c H locs 0 0 (MQ below (QcV w Q) args st 0 0 (wA w)) (F0 m 16 ls [])) : ∀ (y5 y6 y7 y9 : Int) (σ : St) (H : Heap) (locs : List Loc) (ls : Array Slot), rI y5 → rI y6 → rJ y7 → rI y9 → lv_has ls 10 [(0, .ref (wad w 3 o)), (1, .int (oI x1)), (5, .int (oI y5)), (6, .int (oI y6)), (7, .long (oL y7)), (9, .int (oI y9))] → Wo w σ H → va_S (wA w) st.heap H locs → wp_Store_replayBud_b55 (wc w) (wtv w) o x1 x2 x3 Q K16 y5 y6 y7 y9 σ → W p l e (headSpec (ws_ yX5_replayBud cX5_replayBud 10 none) rm_Store_replayBud).room st m args below meth c H locs 0 0 (MQ below (QcV w Q) args st 0 0 (wA w)) (F0 m 55 ls []) := by
  have vl3_o : vl w 3 o := hV.hv 3 rfl ⟨by omega, by show _ < (2 : Int); omega⟩
  have vl8_o : vl w 8 o := hV.hv 8 rfl ⟨by omega, by show _ < (8 : Int); omega⟩
  intro y5 y6 y7 y9 σ H locs ls ry5 ry6 ry7 ry9 hl hW hS h
  unfold wp_Store_replayBud_b55 at h
  refine lv_iload X.1 X.2.1 dX5_replayBud_55 (lv_at hl 5 rfl) ?_
  refine w_if_le (tgt := 73) X ry9 dX5_replayBud_57 (by decide) (fun hc => ?_) (fun hc => ?_)
  · have h := h.1 hc
    exact wret_V X hr hlk hW hS h dX5_replayBud_73
  · have h := h.2 hc
    refine lv_aload_n X.1 X.2.1 dX5_replayBud_60 rfl (lv_at hl 0 rfl) ?_
    refine wg (v := .ref (wad w 8 o)) X hT hW 3 6 198 vl3_o rfl rfl (by decide) rfl (by decide) in_X5 q531 rfl dX5_replayBud_61 ?_
    refine wr_J (rV (As := []) (rest := []) X hT hW hS (met_Row_serial l (w := w) hV o _ σ (by omega) h) (cwV 0 X.2.2.2.2 (lw_V q1691 q1692 q1693 q132 q1694) rfl rfl rfl (by decide +kernel) ⟨Nat.le_of_ble_eq_true rfl, Nat.le_of_ble_eq_true rfl⟩) vl8_o (by decide) rfl rfl hl.1 rfl (by first | exact Nat.le_of_ble_eq_true rfl | simp [catK, catI, catR, catL]) dX5_replayBud_64 ⟨Nat.le_refl _, Nat.le_refl _⟩) hS (fun r_23 σ_24 H locs rr_23 rkσ_24 h hWσ_24 hS => ?_)
    have h := h rr_23 rkσ_24
    refine lv_lload X.1 X.2.1 dX5_replayBud_67 (lv_at hl 4 rfl) ?_
    refine w_lcmp_gt (tgt := 74) X rr_23 ry7 dX5_replayBud_69 dX5_replayBud_70 (by decide) (fun hc => ?_) (fun hc => ?_)
    · have h := h.1 hc
      refine lv_aload_n X.1 X.2.1 dX5_replayBud_74 rfl (lv_at hl 0 rfl) ?_
      refine wg (v := .ref (wad w 8 o)) X hT hWσ_24 3 6 198 vl3_o rfl rfl (by decide) rfl (by decide) in_X5 q531 rfl dX5_replayBud_75 ?_
      refine wr_J (rV (As := []) (rest := []) X hT hWσ_24 hS (met_Row_serial l (w := w) hV o _ σ_24 (by omega) h) (cwV 0 X.2.2.2.2 (lw_V q1691 q1692 q1693 q132 q1694) rfl rfl rfl (by decide +kernel) ⟨Nat.le_of_ble_eq_true rfl, Nat.le_of_ble_eq_true rfl⟩) vl8_o (by decide) rfl rfl hl.1 rfl (by first | exact Nat.le_of_ble_eq_true rfl | simp [catK, catI, catR, catL]) dX5_replayBud_78 ⟨Nat.le_refl _, Nat.le_refl _⟩) hS (fun r_25 σ_26 H locs rr_25 rkσ_26 h hWσ_26 hS => ?_)
      have h := h rr_25 rkσ_26
      refine lv_lstore (i := 7) (lv' := [(7, .long (oL r_25)), (0, .ref (wad w 3 o)), (1, .int (oI x1)), (5, .int (oI y5)), (6, .int (oI y6)), (9, .int (oI y9))]) X.1 X.2.1 dX5_replayBud_81 hl (by decide) (by first | rfl | simp [catK, catI, catR, catL]) (fun ls hl => ?_)
      refine lv_iload X.1 X.2.1 dX5_replayBud_83 (lv_at hl 4 rfl) ?_
      refine lv_iload X.1 X.2.1 dX5_replayBud_85 (lv_at hl 5 rfl) ?_
      refine w_iadd X dX5_replayBud_87 ?_
      refine w_top (fun y6_27 ey6_27 => ?_)
      have h := h y6_27 ey6_27
      have ry6_27 : rI y6_27 := by rw [ey6_27]; exact (w32_r _)
      refine lv_istore (i := 6) (lv' := [(6, .int (oI y6_27)), (7, .long (oL r_25)), (0, .ref (wad w 3 o)), (1, .int (oI x1)), (5, .int (oI y5)), (9, .int (oI y9))]) X.1 X.2.1 dX5_replayBud_88 hl (by decide) (by first | rfl | simp [catK, catI, catR, catL]) (fun ls hl => ?_)
      refine lv_aload_n X.1 X.2.1 dX5_replayBud_90 rfl (lv_at hl 2 rfl) ?_
      refine wg (v := .ref (wad w 8 o)) X hT hWσ_26 3 6 198 vl3_o rfl rfl (by decide) rfl (by decide) in_X5 q531 rfl dX5_replayBud_91 ?_
      refine wr_Z (rV (As := []) (rest := []) X hT hWσ_26 hS (met_Row_isLast l (w := w) hV o _ σ_26 (by omega) h) (cwV 0 X.2.2.2.2 (lw_V q1341 q1342 q1343 q132 q1344) rfl rfl rfl (by decide +kernel) ⟨Nat.le_of_ble_eq_true rfl, Nat.le_of_ble_eq_true rfl⟩) vl8_o (by decide) rfl rfl hl.1 rfl (by first | exact Nat.le_of_ble_eq_true rfl | simp [catK, catI, catR, catL]) dX5_replayBud_94 ⟨Nat.le_refl _, Nat.le_refl _⟩) hS (fun r_28 σ_29 H locs rr_28 rkσ_29 h hWσ_29 hS => ?_)
      have h := h rr_28 rkσ_29
      refine w_if_eq (tgt := 141) X rr_28.i dX5_replayBud_97 (by decide) (fun hc => ?_) (fun hc => ?_)
      · have h := h.1 hc
        exact wk_Store_replayBud_b141 X hr hlk hT hV ho rx1 rx2 rx3 K16 hK16 y5 y6_27 r_25 σ_29 _ _ _ ry5 ry6_27 rr_25 (lv_sub hl [2, 3, 4, 0, 1] rfl) hWσ_29 hS h
      · have h := h.2 hc
        exact wk_Store_replayBud_L100 X hr hlk hT hV ho rx1 rx2 rx3 (wp_Store_replayBud_b141 (wc w) (wtv w) o x1 x2 x3 Q K16) (wk_Store_replayBud_b141 X hr hlk hT hV ho rx1 rx2 rx3 K16 hK16) y5 y6_27 r_25 σ_29 _ _ _ ry5 ry6_27 rr_25 (lv_sub hl [2, 3, 4, 0, 1] rfl) hWσ_29 hS h
    · have h := h.2 hc
      exact wret_V X hr hlk hWσ_24 hS h dX5_replayBud_73
set_option maxHeartbeats 4000000 in
set_option maxRecDepth 100000 in
theorem wk_Store_replayBud_L16B {p : Program} {l : Launch} {e : Env} {st : State} {m : MethodId} {args : Array Value} {below : List Frame} {meth : Method} {c : Code} {w : Wp} {o : Int} {x1 : Int} {x2 : Int} {x3 : Int} {Q : St → Prop} (X : CallFix p m c cX5_replayBud 10 st args lw_all RX5) (hr : meth.sig.returnType = none) (hlk : meth.locks = false) (hT : Tb w st) (hV : Hvl w) (ho : 0 ≤ o ∧ o < 2) (rx1 : rI x1) (rx2 : rI x2) (rx3 : rJ x3) (K16 : Int → Int → Int → St → Prop) (hK16 : ∀ (y5 y6 y7 : Int) (σ : St) (H : Heap) (locs : List Loc) (ls : Array Slot), rI y5 → rI y6 → rJ y7 → lv_has ls 10 [(0, .ref (wad w 3 o)), (1, .int (oI x1)), (5, .int (oI y5)), (6, .int (oI y6)), (7, .long (oL y7))] → Wo w σ H → va_S (wA w) st.heap H locs → K16 y5 y6 y7 σ → W p l e (headSpec (ws_ yX5_replayBud cX5_replayBud 10 none) rm_Store_replayBud).room st m args below meth c H locs 0 0 (MQ below (QcV w Q) args st 0 0 (wA w)) (F0 m 16 ls [])) : ∀ (y5 y6 y7 : Int) (σ : St) (H : Heap) (locs : List Loc) (ls : Array Slot), rI y5 → rI y6 → rJ y7 → lv_has ls 10 [(0, .ref (wad w 3 o)), (1, .int (oI x1)), (5, .int (oI y5)), (6, .int (oI y6)), (7, .long (oL y7))] → Wo w σ H → va_S (wA w) st.heap H locs → wp_Store_replayBud_L16 (wc w) (wtv w) o x1 x2 x3 Q K16 y5 y6 y7 σ → W p l e (headSpec (ws_ yX5_replayBud cX5_replayBud 10 none) rm_Store_replayBud).room st m args below meth c H locs 0 0 (MQ below (QcV w Q) args st 0 0 (wA w)) (F0 m 16 ls []) := by
  have vl3_o : vl w 3 o := hV.hv 3 rfl ⟨by omega, by show _ < (2 : Int); omega⟩
  have vl8_o : vl w 8 o := hV.hv 8 rfl ⟨by omega, by show _ < (8 : Int); omega⟩
  intro y5 y6 y7 σ H locs ls ry5 ry6 ry7 hl hW hS h
  unfold wp_Store_replayBud_L16 at h
  refine lv_aload_n X.1 X.2.1 dX5_replayBud_16 rfl (lv_at hl 0 rfl) ?_
  refine lv_iload_n X.1 X.2.1 dX5_replayBud_17 rfl (lv_at hl 1 rfl) ?_
  refine lv_iload X.1 X.2.1 dX5_replayBud_18 (lv_at hl 3 rfl) ?_
  refine lv_aload_n X.1 X.2.1 dX5_replayBud_20 rfl (lv_at hl 0 rfl) ?_
  refine wg (v := .ref (wad w 8 o)) X hT hW 3 6 198 vl3_o rfl rfl (by decide) rfl (by decide) in_X5 q531 rfl dX5_replayBud_21 ?_
  refine wr_I (rV (As := [.int (oI x1), .int (oI y6), .ref (wad w 8 o)]) (rest := []) X hT hW hS (met_Store_look l (w := w) hV o x1 y6 o _ σ (by omega) rx1 ry6 (by omega) h) (cwV 3 X.2.2.2.2 (lw_V q1289 q1291 qs45 q136 q1292) rfl rfl rfl (by decide +kernel) ⟨Nat.le_of_ble_eq_true rfl, Nat.le_of_ble_eq_true rfl⟩) vl3_o (by decide) rfl rfl hl.1 rfl (by first | exact Nat.le_of_ble_eq_true rfl | simp [catK, catI, catR, catL]) dX5_replayBud_24 ⟨Nat.le_refl _, Nat.le_refl _⟩) hS (fun r_30 σ_31 H locs rr_30 rkσ_31 h hWσ_31 hS => ?_)
  have h := h rr_30 rkσ_31
  refine lv_istore (i := 9) (lv' := [(9, .int (oI r_30)), (0, .ref (wad w 3 o)), (1, .int (oI x1)), (5, .int (oI y5)), (6, .int (oI y6)), (7, .long (oL y7))]) X.1 X.2.1 dX5_replayBud_27 hl (by decide) (by first | rfl | simp [catK, catI, catR, catL]) (fun ls hl => ?_)
  refine lv_iload X.1 X.2.1 dX5_replayBud_29 (lv_at hl 0 rfl) ?_
  refine w_if_ne (tgt := 55) X rr_30 dX5_replayBud_31 (by decide) (fun hc => ?_) (fun hc => ?_)
  · have h := h.1 hc
    exact wk_Store_replayBud_b55 X hr hlk hT hV ho rx1 rx2 rx3 K16 hK16 y5 y6 y7 r_30 σ_31 _ _ _ ry5 ry6 ry7 rr_30 (lv_sub hl [1, 2, 3, 4, 5, 0] rfl) hWσ_31 hS h
  · have h := h.2 hc
    refine lv_iload X.1 X.2.1 dX5_replayBud_34 (lv_at hl 3 rfl) ?_
    refine lv_iload X.1 X.2.1 dX5_replayBud_36 (lv_at hl 4 rfl) ?_
    refine w_icmp_ne (tgt := 55) X ry5 ry6 dX5_replayBud_38 (by decide) (fun hc => ?_) (fun hc => ?_)
    · have h := h.1 hc
      exact wk_Store_replayBud_b55 X hr hlk hT hV ho rx1 rx2 rx3 K16 hK16 y5 y6 y7 r_30 σ_31 _ _ _ ry5 ry6 ry7 rr_30 (lv_sub hl [1, 2, 3, 4, 5, 0] rfl) hWσ_31 hS h
    · have h := h.2 hc
      refine lv_iload X.1 X.2.1 dX5_replayBud_41 (lv_at hl 4 rfl) ?_
      refine wr_I (rS (As := [.int (oI y6)]) (rest := []) X hT hWσ_31 hS (met_Store_behindPage l (w := w) y6 _ σ_31 ry6 h) (va_cwS 1 X.2.2.2.2 (lw_S q1299 q1300 q136 q1301) rfl rfl rfl (by decide +kernel) ⟨Nat.le_of_ble_eq_true rfl, Nat.le_of_ble_eq_true rfl⟩) rfl hl.1 rfl (by first | exact Nat.le_of_ble_eq_true rfl | simp [catK, catI, catR, catL]) dX5_replayBud_43 ⟨Nat.le_refl _, Nat.le_refl _⟩) hS (fun r_32 σ_33 H locs rr_32 rkσ_33 h hWσ_33 hS => ?_)
      have h := h rr_32 rkσ_33
      refine lv_istore (i := 6) (lv' := [(6, .int (oI r_32)), (9, .int (oI r_30)), (0, .ref (wad w 3 o)), (1, .int (oI x1)), (5, .int (oI y5)), (7, .long (oL y7))]) X.1 X.2.1 dX5_replayBud_46 hl (by decide) (by first | rfl | simp [catK, catI, catR, catL]) (fun ls hl => ?_)
      refine lv_iload X.1 X.2.1 dX5_replayBud_48 (lv_at hl 0 rfl) ?_
      refine lv_istore (i := 5) (lv' := [(5, .int (oI r_32)), (6, .int (oI r_32)), (9, .int (oI r_30)), (0, .ref (wad w 3 o)), (1, .int (oI x1)), (7, .long (oL y7))]) X.1 X.2.1 dX5_replayBud_50 hl (by decide) (by first | rfl | simp [catK, catI, catR, catL]) (fun ls hl => ?_)
      refine lv_goto (tgt := 16) X.1 X.2.1 dX5_replayBud_52 (by decide) ?_
      exact hK16 r_32 r_32 y7 σ_33 _ _ _ rr_32 rr_32 ry7 (lv_sub hl [3, 4, 0, 1, 5] rfl) hWσ_33 hS h
theorem wk_Store_replayBud_L16 {p : Program} {l : Launch} {e : Env} {st : State} {m : MethodId} {args : Array Value} {below : List Frame} {meth : Method} {c : Code} {w : Wp} {o : Int} {x1 : Int} {x2 : Int} {x3 : Int} {Q : St → Prop} (X : CallFix p m c cX5_replayBud 10 st args lw_all RX5) (hr : meth.sig.returnType = none) (hlk : meth.locks = false) (hT : Tb w st) (hV : Hvl w) (ho : 0 ≤ o ∧ o < 2) (rx1 : rI x1) (rx2 : rI x2) (rx3 : rJ x3) : ∀ (y5 y6 y7 : Int) (σ : St) (H : Heap) (locs : List Loc) (ls : Array Slot), rI y5 → rI y6 → rJ y7 → lv_has ls 10 [(0, .ref (wad w 3 o)), (1, .int (oI x1)), (5, .int (oI y5)), (6, .int (oI y6)), (7, .long (oL y7))] → Wo w σ H → va_S (wA w) st.heap H locs → lQ3 (wp_Store_replayBud_L16 (wc w) (wtv w) o x1 x2 x3 Q) y5 y6 y7 σ → W p l e (headSpec (ws_ yX5_replayBud cX5_replayBud 10 none) rm_Store_replayBud).room st m args below meth c H locs 0 0 (MQ below (QcV w Q) args st 0 0 (wA w)) (F0 m 16 ls []) := by
  intro y5 y6 y7 σ H locs ls ry5 ry6 ry7 hl hW hS h
  obtain ⟨fu, h⟩ := h
  induction fu generalizing y5 y6 y7 σ H locs ls with
  | zero => exact h.elim
  | succ fu ih =>
    exact wk_Store_replayBud_L16B X hr hlk hT hV ho rx1 rx2 rx3 (lq3 (wp_Store_replayBud_L16 (wc w) (wtv w) o x1 x2 x3 Q) fu) (fun y5 y6 y7 σ H locs ls ry5 ry6 ry7 hl hW hS h => ih y5 y6 y7 σ H locs ls ry5 ry6 ry7 hl hW hS h) y5 y6 y7 σ H locs ls ry5 ry6 ry7 hl hW hS h
set_option maxHeartbeats 4000000 in
set_option maxRecDepth 100000 in
theorem met_Store_replayBud (l : Launch) {w : Wp} (hV : Hvl w) (o : Int) (x1 : Int) (x2 : Int) (x3 : Int) (Q : St → Prop) (σ : St) (ho : 0 ≤ o ∧ o < 2) (rx1 : rI x1) (rx2 : rI x2) (rx3 : rJ x3) (h : wp_Store_replayBud (wc w) (wtv w) o x1 x2 x3 Q σ) : Met l yX5_replayBud (ws_ yX5_replayBud cX5_replayBud 10 none) rm_Store_replayBud (PcW w σ [.ref (wad w 3 o), .int (oI x1), .int (oI x2), .long (oL x3)]) (QcV w Q) 0 0 (wA w) := by
  refine Met.ofW (cc := cX5_replayBud) (maxL := 10) (ret := none) (by decide) rfl ?_
  intro p e st m args below meth c s₁ B hml hv
  obtain ⟨hargs, hW, hT⟩ := hv
  have X : CallFix p m c cX5_replayBud 10 st _ lw_all RX5 := ⟨B.exec, B.bytes, hml, findClass_of_methodNamed B.named, fun w h => atoms_spec (ws := ws_ yX5_replayBud cX5_replayBud 10 none) B.pre w (List.mem_cons_of_mem _ h)⟩
  have hr := B.returns
  have hlk := B.notSynchronized
  have hS : va_S (wA w) st.heap st.heap [] := va_S.rf
  have vl3_o : vl w 3 o := hV.hv 3 rfl ⟨by omega, by show _ < (2 : Int); omega⟩
  have hl := lv_entry ([.ref (wad w 3 o), .int (oI x1), .int (oI x2), .long (oL x3)]) (n := 10) (Nat.le_of_ble_eq_true rfl)
  have hfr := lg_entry_eq m ([.ref (wad w 3 o), .int (oI x1), .int (oI x2), .long (oL x3)]) 10
  rw [← hargs] at hfr
  rw [hfr]
  generalize (lg_sl ([.ref (wad w 3 o), .int (oI x1), .int (oI x2), .long (oL x3)]) ++ List.replicate (10 - (lg_sl ([.ref (wad w 3 o), .int (oI x1), .int (oI x2), .long (oL x3)])).length) Slot.unset).toArray = ls at hl ⊢
  have hl : lv_has ls 10 [(0, .ref (wad w 3 o)), (1, .int (oI x1)), (2, .int (oI x2)), (3, .long (oL x3))] := hl
  unfold wp_Store_replayBud at h
  refine lv_iload_n X.1 X.2.1 dX5_replayBud_0 rfl (lv_at hl 2 rfl) ?_
  refine lv_istore (i := 5) (lv' := [(5, .int (oI x2)), (0, .ref (wad w 3 o)), (1, .int (oI x1)), (2, .int (oI x2)), (3, .long (oL x3))]) X.1 X.2.1 dX5_replayBud_1 hl (by decide) (by first | rfl | simp [catK, catI, catR, catL]) (fun ls hl => ?_)
  refine lv_iload_n X.1 X.2.1 dX5_replayBud_3 rfl (lv_at hl 3 rfl) ?_
  refine lv_istore (i := 6) (lv' := [(6, .int (oI x2)), (5, .int (oI x2)), (0, .ref (wad w 3 o)), (1, .int (oI x1)), (2, .int (oI x2)), (3, .long (oL x3))]) X.1 X.2.1 dX5_replayBud_4 hl (by decide) (by first | rfl | simp [catK, catI, catR, catL]) (fun ls hl => ?_)
  refine lv_aload_n X.1 X.2.1 dX5_replayBud_6 rfl (lv_at hl 2 rfl) ?_
  refine wg (v := .long (oL (gI σ 228 o))) X hT hW 3 36 228 vl3_o rfl rfl (by decide) rfl (by decide) in_X5 q568 rfl dX5_replayBud_7 ?_
  refine lv_lload_n X.1 X.2.1 dX5_replayBud_10 rfl (lv_at hl 5 rfl) ?_
  refine w_mmaxl X (hW.r.j 228 o rfl) rx3 hl.1 q1699 q1688 q149 q1689 (Nat.le_of_ble_eq_true rfl) (Nat.le_of_ble_eq_true rfl) (Nat.le_refl _) (Nat.le_refl _) dX5_replayBud_11 ?_
  refine w_topl (fun y7_34 ey7_34 => ?_)
  have h := h y7_34 ey7_34
  have ry7_34 : rJ y7_34 := by rw [ey7_34]; exact (max_rJ (hW.r.j 228 o rfl) rx3)
  refine lv_lstore (i := 7) (lv' := [(7, .long (oL y7_34)), (6, .int (oI x2)), (5, .int (oI x2)), (0, .ref (wad w 3 o)), (1, .int (oI x1)), (2, .int (oI x2)), (3, .long (oL x3))]) X.1 X.2.1 dX5_replayBud_14 hl (by decide) (by first | rfl | simp [catK, catI, catR, catL]) (fun ls hl => ?_)
  exact wk_Store_replayBud_L16 X hr hlk hT hV ho rx1 rx2 rx3 x2 x2 y7_34 σ _ _ _ rx2 rx2 ry7_34 (lv_sub hl [3, 4, 2, 1, 0] rfl) hW hS h
/-! Store.replay(II)V -/
set_option maxHeartbeats 4000000 in
set_option maxRecDepth 100000 in
theorem wk_Store_replay_b231 {p : Program} {l : Launch} {e : Env} {st : State} {m : MethodId} {args : Array Value} {below : List Frame} {meth : Method} {c : Code} {w : Wp} {o : Int} {x1 : Int} {x2 : Int} {Q : St → Prop} (X : CallFix p m c cX5_replay 7 st args lw_all RX5) (hr : meth.sig.returnType = none) (hlk : meth.locks = false) (hT : Tb w st) (hV : Hvl w) (ho : 0 ≤ o ∧ o < 2) (rx1 : rI x1) (rx2 : rI x2) (K100 : Int → Int → Int → St → Prop) (hK100 : ∀ (y3 y5 y6 : Int) (σ : St) (H : Heap) (locs : List Loc) (ls : Array Slot), rJ y3 → rZ y5 → rI y6 → lv_has ls 7 [(0, .ref (wad w 3 o)), (1, .int (oI x1)), (3, .long (oL y3)), (5, .int (oI y5)), (6, .int (oI y6))] → Wo w σ H → va_S (wA w) st.heap H locs → K100 y3 y5 y6 σ → W p l e (headSpec (ws_ yX5_replay cX5_replay 7 none) rm_Store_replay).room st m args below meth c H locs 0 0 (MQ below (QcV w Q) args st 0 0 (wA w)) (F0 m 100 ls [])) : ∀ (y3 y5 y6 : Int) (σ : St) (H : Heap) (locs : List Loc) (ls : Array Slot), rJ y3 → rZ y5 → rI y6 → lv_has ls 7 [(0, .ref (wad w 3 o)), (1, .int (oI x1)), (3, .long (oL y3)), (5, .int (oI y5)), (6, .int (oI y6))] → Wo w σ H → va_S (wA w) st.heap H locs → wp_Store_replay_b231 (wc w) (wtv w) o x1 x2 Q K100 y3 y5 y6 σ → W p l e (headSpec (ws_ yX5_replay cX5_replay 7 none) rm_Store_replay).room st m args below meth c H locs 0 0 (MQ below (QcV w Q) args st 0 0 (wA w)) (F0 m 231 ls []) := by

  intro y3 y5 y6 σ H locs ls ry3 ry5 ry6 hl hW hS h
  unfold wp_Store_replay_b231 at h
  obtain ⟨y6_112, ey6_112⟩ : ∃ y : Int, y = w32 (y6 + 1) := ⟨_, rfl⟩
  have h := h y6_112 ey6_112
  have ry6_112 : rI y6_112 := by rw [ey6_112]; exact w32_r _
  refine lv_iinc (v := oI y6_112) (lv' := [(6, .int (oI y6_112)), (0, .ref (wad w 3 o)), (1, .int (oI x1)), (3, .long (oL y3)), (5, .int (oI y5))]) X.1 X.2.1 dX5_replay_231 hl (k := 4) rfl (by rw [ey6_112]; exact oI_add _ _) (by decide) (by first | rfl | simp [catK, catI, catR, catL]) (fun ls hl => ?_)
  refine lv_goto (tgt := 100) X.1 X.2.1 dX5_replay_234 (by decide) ?_
  exact hK100 y3 y5 y6_112 σ _ _ _ ry3 ry5 ry6_112 (lv_sub hl [1, 2, 3, 4, 0] rfl) hW hS h
set_option maxHeartbeats 4000000 in
set_option maxRecDepth 100000 in
theorem wk_Store_replay_b184 {p : Program} {l : Launch} {e : Env} {st : State} {m : MethodId} {args : Array Value} {below : List Frame} {meth : Method} {c : Code} {w : Wp} {o : Int} {x1 : Int} {x2 : Int} {Q : St → Prop} (X : CallFix p m c cX5_replay 7 st args lw_all RX5) (hr : meth.sig.returnType = none) (hlk : meth.locks = false) (hT : Tb w st) (hV : Hvl w) (ho : 0 ≤ o ∧ o < 2) (rx1 : rI x1) (rx2 : rI x2) (K185 : Int → Int → Int → St → Prop) (hK185 : ∀ (y3 y6 t0 : Int) (σ : St) (H : Heap) (locs : List Loc) (ls : Array Slot), rJ y3 → rI y6 → rZ t0 → lv_has ls 7 [(0, .ref (wad w 3 o)), (1, .int (oI x1)), (3, .long (oL y3)), (6, .int (oI y6))] → Wo w σ H → va_S (wA w) st.heap H locs → K185 y3 y6 t0 σ → W p l e (headSpec (ws_ yX5_replay cX5_replay 7 none) rm_Store_replay).room st m args below meth c H locs 0 0 (MQ below (QcV w Q) args st 0 0 (wA w)) (F0 m 185 ls [.int (oI t0)])) : ∀ (y3 y6 : Int) (σ : St) (H : Heap) (locs : List Loc) (ls : Array Slot), rJ y3 → rI y6 → lv_has ls 7 [(0, .ref (wad w 3 o)), (1, .int (oI x1)), (3, .long (oL y3)), (6, .int (oI y6))] → Wo w σ H → va_S (wA w) st.heap H locs → wp_Store_replay_b184 (wc w) (wtv w) o x1 x2 Q K185 y3 y6 σ → W p l e (headSpec (ws_ yX5_replay cX5_replay 7 none) rm_Store_replay).room st m args below meth c H locs 0 0 (MQ below (QcV w Q) args st 0 0 (wA w)) (F0 m 184 ls []) := by

  intro y3 y6 σ H locs ls ry3 ry6 hl hW hS h
  unfold wp_Store_replay_b184 at h
  refine lv_iconst (v := oI 0) X.1 X.2.1 dX5_replay_184 rfl ?_
  exact hK185 y3 y6 0 σ _ _ _ ry3 ry6 rZ_0 (lv_sub hl [0, 1, 2, 3] rfl) hW hS h
set_option maxHeartbeats 4000000 in
set_option maxRecDepth 100000 in
theorem wk_Store_replay_b185 {p : Program} {l : Launch} {e : Env} {st : State} {m : MethodId} {args : Array Value} {below : List Frame} {meth : Method} {c : Code} {w : Wp} {o : Int} {x1 : Int} {x2 : Int} {Q : St → Prop} (X : CallFix p m c cX5_replay 7 st args lw_all RX5) (hr : meth.sig.returnType = none) (hlk : meth.locks = false) (hT : Tb w st) (hV : Hvl w) (ho : 0 ≤ o ∧ o < 2) (rx1 : rI x1) (rx2 : rI x2) (K100 : Int → Int → Int → St → Prop) (hK100 : ∀ (y3 y5 y6 : Int) (σ : St) (H : Heap) (locs : List Loc) (ls : Array Slot), rJ y3 → rZ y5 → rI y6 → lv_has ls 7 [(0, .ref (wad w 3 o)), (1, .int (oI x1)), (3, .long (oL y3)), (5, .int (oI y5)), (6, .int (oI y6))] → Wo w σ H → va_S (wA w) st.heap H locs → K100 y3 y5 y6 σ → W p l e (headSpec (ws_ yX5_replay cX5_replay 7 none) rm_Store_replay).room st m args below meth c H locs 0 0 (MQ below (QcV w Q) args st 0 0 (wA w)) (F0 m 100 ls [])) : ∀ (y3 y6 t0 : Int) (σ : St) (H : Heap) (locs : List Loc) (ls : Array Slot), rJ y3 → rI y6 → rZ t0 → lv_has ls 7 [(0, .ref (wad w 3 o)), (1, .int (oI x1)), (3, .long (oL y3)), (6, .int (oI y6))] → Wo w σ H → va_S (wA w) st.heap H locs → wp_Store_replay_b185 (wc w) (wtv w) o x1 x2 Q K100 y3 y6 t0 σ → W p l e (headSpec (ws_ yX5_replay cX5_replay 7 none) rm_Store_replay).room st m args below meth c H locs 0 0 (MQ below (QcV w Q) args st 0 0 (wA w)) (F0 m 185 ls [.int (oI t0)]) := by
  have vl3_o : vl w 3 o := hV.hv 3 rfl ⟨by omega, by show _ < (2 : Int); omega⟩
  have vl8_o_4 : vl w 8 (o + 4) := hV.hv 8 rfl ⟨by omega, by show _ < (8 : Int); omega⟩
  intro y3 y6 t0 σ H locs ls ry3 ry6 rt0 hl hW hS h
  unfold wp_Store_replay_b185 at h
  refine lv_istore (i := 5) (lv' := [(5, .int (oI t0)), (0, .ref (wad w 3 o)), (1, .int (oI x1)), (3, .long (oL y3)), (6, .int (oI y6))]) X.1 X.2.1 dX5_replay_185 hl (by decide) (by first | rfl | simp [catK, catI, catR, catL]) (fun ls hl => ?_)
  refine lv_iload X.1 X.2.1 dX5_replay_187 (lv_at hl 0 rfl) ?_
  refine w_if_eq (tgt := 231) X rt0.i dX5_replay_189 (by decide) (fun hc => ?_) (fun hc => ?_)
  · have h := h.1 hc
    exact wk_Store_replay_b231 X hr hlk hT hV ho rx1 rx2 K100 hK100 y3 t0 y6 σ _ _ _ ry3 rt0 ry6 (lv_sub hl [1, 2, 3, 0, 4] rfl) hW hS h
  · have h := h.2 hc
    refine lv_aload_n X.1 X.2.1 dX5_replay_192 rfl (lv_at hl 1 rfl) ?_
    refine lv_aload_n X.1 X.2.1 dX5_replay_193 rfl (lv_at hl 1 rfl) ?_
    refine wg (v := .long (oL (gI σ 202 o))) X hT hW 3 10 202 vl3_o rfl rfl (by decide) rfl (by decide) in_X5 q536 rfl dX5_replay_194 ?_
    refine lv_aload_n X.1 X.2.1 dX5_replay_197 rfl (lv_at hl 1 rfl) ?_
    refine wg (v := .ref (wad w 8 (o + 4))) X hT hW 3 8 200 vl3_o rfl rfl (by decide) rfl (by decide) in_X5 q534 rfl dX5_replay_198 ?_
    refine wr_J (rV (As := []) (rest := [.long (oL (gI σ 202 o)), .ref (wad w 3 o)]) X hT hW hS (met_Row_serial l (w := w) hV (o + 4) _ σ (by omega) h) (cwV 0 X.2.2.2.2 (lw_V q1691 q1692 q1693 q132 q1694) rfl rfl rfl (by decide +kernel) ⟨Nat.le_of_ble_eq_true rfl, Nat.le_of_ble_eq_true rfl⟩) vl8_o_4 (by decide) rfl rfl hl.1 rfl (by first | exact Nat.le_of_ble_eq_true rfl | simp [catK, catI, catR, catL]) dX5_replay_201 ⟨Nat.le_refl _, Nat.le_refl _⟩) hS (fun r_113 σ_114 H locs rr_113 rkσ_114 h hWσ_114 hS => ?_)
    have h := h rr_113 rkσ_114
    refine w_mmaxl X (hW.r.j 202 o rfl) rr_113 hl.1 q1699 q1688 q149 q1689 (Nat.le_of_ble_eq_true rfl) (Nat.le_of_ble_eq_true rfl) (Nat.le_refl _) (Nat.le_refl _) dX5_replay_204 ?_
    refine wput (z := max (gI σ 202 o) r_113) X hT hWσ_114 hS 3 10 202 vl3_o rfl rfl (by decide) rfl (by decide) in_X5 tyX5 tyX5_ok nmX5 q536 rfl rfl (max_rJ (hW.r.j 202 o rfl) rr_113) (fv1 w rfl) rfl rfl dX5_replay_207 (fun H locs hN hS => ?_)
    obtain ⟨σ_115, eσ_115⟩ : ∃ x, x = sI σ_114 202 o (max (gI σ 202 o) r_113) := ⟨_, rfl⟩
    have hWσ_115 : Wo w σ_115 H := eσ_115 ▸ hN
    have h := h σ_115 eσ_115
    clear hN
    refine lv_aload_n X.1 X.2.1 dX5_replay_210 rfl (lv_at hl 1 rfl) ?_
    refine lv_aload_n X.1 X.2.1 dX5_replay_211 rfl (lv_at hl 1 rfl) ?_
    refine wg (v := .ref (wad w 8 (o + 4))) X hT hWσ_115 3 8 200 vl3_o rfl rfl (by decide) rfl (by decide) in_X5 q534 rfl dX5_replay_212 ?_
    refine lv_iconst (v := oI 0) X.1 X.2.1 dX5_replay_215 rfl ?_
    refine wr_I (rV (As := [.int (oI 0)]) (rest := [.ref (wad w 3 o)]) X hT hWσ_115 hS (met_Row_get l (w := w) hV (o + 4) 0 _ σ_115 (by omega) rZ_0.i h) (cwV 1 X.2.2.2.2 (lw_V q1306 q1207 q1208 q132 q1209) rfl rfl rfl (by decide +kernel) ⟨Nat.le_of_ble_eq_true rfl, Nat.le_of_ble_eq_true rfl⟩) vl8_o_4 (by decide) rfl rfl hl.1 rfl (by first | exact Nat.le_of_ble_eq_true rfl | simp [catK, catI, catR, catL]) dX5_replay_216 ⟨Nat.le_refl _, Nat.le_refl _⟩) hS (fun r_116 σ_117 H locs rr_116 rkσ_117 h hWσ_117 hS => ?_)
    have h := h rr_116 rkσ_117
    refine lv_aload_n X.1 X.2.1 dX5_replay_219 rfl (lv_at hl 1 rfl) ?_
    refine wg (v := .ref (wad w 8 (o + 4))) X hT hWσ_117 3 8 200 vl3_o rfl rfl (by decide) rfl (by decide) in_X5 q534 rfl dX5_replay_220 ?_
    refine lv_iconst (v := oI 4) X.1 X.2.1 dX5_replay_223 rfl ?_
    refine wr_I (rV (As := [.int (oI 4)]) (rest := [.int (oI r_116), .ref (wad w 3 o)]) X hT hWσ_117 hS (met_Row_get l (w := w) hV (o + 4) 4 _ σ_117 (by omega) ((rB_lit 4 (by decide)).i) h) (cwV 1 X.2.2.2.2 (lw_V q1306 q1207 q1208 q132 q1209) rfl rfl rfl (by decide +kernel) ⟨Nat.le_of_ble_eq_true rfl, Nat.le_of_ble_eq_true rfl⟩) vl8_o_4 (by decide) rfl rfl hl.1 rfl (by first | exact Nat.le_of_ble_eq_true rfl | simp [catK, catI, catR, catL]) dX5_replay_224 ⟨Nat.le_refl _, Nat.le_refl _⟩) hS (fun r_118 σ_119 H locs rr_118 rkσ_119 h hWσ_119 hS => ?_)
    have h := h rr_118 rkσ_119
    refine lv_lload_n X.1 X.2.1 dX5_replay_227 rfl (lv_at hl 3 rfl) ?_
    refine wr_V (rV (As := [.int (oI r_116), .int (oI r_118), .long (oL y3)]) (rest := []) X hT hWσ_119 hS (met_Store_replayBud l (w := w) hV o r_116 r_118 y3 _ σ_119 (by omega) rr_116 rr_118 ry3 h) (cwV 3 X.2.2.2.2 (lw_V q1714 q1716 qs78 q136 q1717) rfl rfl rfl (by decide +kernel) ⟨Nat.le_of_ble_eq_true rfl, Nat.le_of_ble_eq_true rfl⟩) vl3_o (by decide) rfl rfl hl.1 rfl (by first | exact Nat.le_of_ble_eq_true rfl | simp [catK, catI, catR, catL]) dX5_replay_228 ⟨Nat.le_refl _, Nat.le_refl _⟩) hS (fun σ_121 H locs rkσ_121 h hWσ_121 hS => ?_)
    have h := h rkσ_121
    exact wk_Store_replay_b231 X hr hlk hT hV ho rx1 rx2 K100 hK100 y3 t0 y6 σ_121 _ _ _ ry3 rt0 ry6 (lv_sub hl [1, 2, 3, 0, 4] rfl) hWσ_121 hS h
set_option maxHeartbeats 4000000 in
set_option maxRecDepth 100000 in
theorem wk_Store_replay_L100B {p : Program} {l : Launch} {e : Env} {st : State} {m : MethodId} {args : Array Value} {below : List Frame} {meth : Method} {c : Code} {w : Wp} {o : Int} {x1 : Int} {x2 : Int} {Q : St → Prop} (X : CallFix p m c cX5_replay 7 st args lw_all RX5) (hr : meth.sig.returnType = none) (hlk : meth.locks = false) (hT : Tb w st) (hV : Hvl w) (ho : 0 ≤ o ∧ o < 2) (rx1 : rI x1) (rx2 : rI x2) (K100 : Int → Int → Int → St → Prop) (hK100 : ∀ (y3 y5 y6 : Int) (σ : St) (H : Heap) (locs : List Loc) (ls : Array Slot), rJ y3 → rZ y5 → rI y6 → lv_has ls 7 [(0, .ref (wad w 3 o)), (1, .int (oI x1)), (3, .long (oL y3)), (5, .int (oI y5)), (6, .int (oI y6))] → Wo w σ H → va_S (wA w) st.heap H locs → K100 y3 y5 y6 σ → W p l e (headSpec (ws_ yX5_replay cX5_replay 7 none) rm_Store_replay).room st m args below meth c H locs 0 0 (MQ below (QcV w Q) args st 0 0 (wA w)) (F0 m 100 ls [])) : ∀ (y3 y5 y6 : Int) (σ : St) (H : Heap) (locs : List Loc) (ls : Array Slot), rJ y3 → rZ y5 → rI y6 → lv_has ls 7 [(0, .ref (wad w 3 o)), (1, .int (oI x1)), (3, .long (oL y3)), (5, .int (oI y5)), (6, .int (oI y6))] → Wo w σ H → va_S (wA w) st.heap H locs → wp_Store_replay_L100 (wc w) (wtv w) o x1 x2 Q K100 y3 y5 y6 σ → W p l e (headSpec (ws_ yX5_replay cX5_replay 7 none) rm_Store_replay).room st m args below meth c H locs 0 0 (MQ below (QcV w Q) args st 0 0 (wA w)) (F0 m 100 ls []) := by
  have vl3_o : vl w 3 o := hV.hv 3 rfl ⟨by omega, by show _ < (2 : Int); omega⟩
  have vl4_o : vl w 4 o := hV.hv 4 rfl ⟨by omega, by show _ < (2 : Int); omega⟩
  have vl512_o_4 : vl w 512 (o + 4) := hV.hv 512 rfl ⟨by omega, by show _ < (8 : Int); omega⟩
  have vl8_o_4 : vl w 8 (o + 4) := hV.hv 8 rfl ⟨by omega, by show _ < (8 : Int); omega⟩
  intro y3 y5 y6 σ H locs ls ry3 ry5 ry6 hl hW hS h
  unfold wp_Store_replay_L100 at h
  refine lv_iload X.1 X.2.1 dX5_replay_100 (lv_at hl 4 rfl) ?_
  refine lv_aload_n X.1 X.2.1 dX5_replay_102 rfl (lv_at hl 0 rfl) ?_
  refine wg (v := .ref (wad w 4 o)) X hT hW 3 0 192 vl3_o rfl rfl (by decide) rfl (by decide) in_X5 q523 rfl dX5_replay_103 ?_
  refine lv_iload_n X.1 X.2.1 dX5_replay_106 rfl (lv_at hl 1 rfl) ?_
  refine wr_I (rV (As := [.int (oI x1)]) (rest := [.int (oI y6)]) X hT hW hS (met_Blocks_written l (w := w) hV o x1 _ σ (by omega) rx1 h) (cwV 1 X.2.2.2.2 (lw_V q1017 q1018 q1019 q137 q1020) rfl rfl rfl (by decide +kernel) ⟨Nat.le_of_ble_eq_true rfl, Nat.le_of_ble_eq_true rfl⟩) vl4_o (by decide) rfl rfl hl.1 rfl (by first | exact Nat.le_of_ble_eq_true rfl | simp [catK, catI, catR, catL]) dX5_replay_107 ⟨Nat.le_refl _, Nat.le_refl _⟩) hS (fun r_122 σ_123 H locs rr_122 rkσ_123 h hWσ_123 hS => ?_)
  have h := h rr_122 rkσ_123
  refine w_icmp_ge (tgt := 237) X ry6 rr_122 dX5_replay_110 (by decide) (fun hc => ?_) (fun hc => ?_)
  · have h := h.1 hc
    exact wret_V X hr hlk hWσ_123 hS h dX5_replay_237
  · have h := h.2 hc
    refine lv_iload X.1 X.2.1 dX5_replay_113 (lv_at hl 3 rfl) ?_
    refine w_if_eq (tgt := 237) X ry5.i dX5_replay_115 (by decide) (fun hc => ?_) (fun hc => ?_)
    · have h := h.1 hc
      exact wret_V X hr hlk hWσ_123 hS h dX5_replay_237
    · have h := h.2 hc
      refine lv_aload_n X.1 X.2.1 dX5_replay_118 rfl (lv_at hl 0 rfl) ?_
      refine wg (v := .ref (wad w 4 o)) X hT hWσ_123 3 0 192 vl3_o rfl rfl (by decide) rfl (by decide) in_X5 q523 rfl dX5_replay_119 ?_
      refine lv_iload_n X.1 X.2.1 dX5_replay_122 rfl (lv_at hl 1 rfl) ?_
      refine lv_iload X.1 X.2.1 dX5_replay_123 (lv_at hl 4 rfl) ?_
      refine lv_aload_n X.1 X.2.1 dX5_replay_125 rfl (lv_at hl 0 rfl) ?_
      refine wg (v := .ref (wad w 8 (o + 4))) X hT hWσ_123 3 8 200 vl3_o rfl rfl (by decide) rfl (by decide) in_X5 q534 rfl dX5_replay_126 ?_
      refine wg (v := .ref (wad w 512 (o + 4))) X hT hWσ_123 8 0 512 vl8_o_4 rfl rfl (by decide) rfl (by decide) in_X2 q166 rfl dX5_replay_129 ?_
      refine lv_iconst (v := oI 0) X.1 X.2.1 dX5_replay_132 rfl ?_
      refine wr_V (rV (As := [.int (oI x1), .int (oI y6), .ref (wad w 512 (o + 4)), .int (oI 0)]) (rest := []) X hT hWσ_123 hS (met_Blocks_read l (w := w) hV o x1 y6 512 (o + 4) 0 _ σ_123 (by omega) rx1 ry6 vl512_o_4 (by decide) rfl rZ_0.i h) (cwV 4 X.2.2.2.2 (lw_V q1199 q1200 q1201 q137 q1202) rfl rfl rfl (by decide +kernel) ⟨Nat.le_of_ble_eq_true rfl, Nat.le_of_ble_eq_true rfl⟩) vl4_o (by decide) rfl rfl hl.1 rfl (by first | exact Nat.le_of_ble_eq_true rfl | simp [catK, catI, catR, catL]) dX5_replay_133 ⟨Nat.le_refl _, Nat.le_refl _⟩) hS (fun σ_125 H locs rkσ_125 h hWσ_125 hS => ?_)
      have h := h rkσ_125
      refine lv_aload_n X.1 X.2.1 dX5_replay_136 rfl (lv_at hl 0 rfl) ?_
      refine wg (v := .ref (wad w 8 (o + 4))) X hT hWσ_125 3 8 200 vl3_o rfl rfl (by decide) rfl (by decide) in_X5 q534 rfl dX5_replay_137 ?_
      refine wr_V (rV (As := []) (rest := []) X hT hWσ_125 hS (met_Row_clear l (w := w) hV (o + 4) _ σ_125 (by omega) h) (cwV 0 X.2.2.2.2 (lw_V q736 q737 q738 q132 q739) rfl rfl rfl (by decide +kernel) ⟨Nat.le_of_ble_eq_true rfl, Nat.le_of_ble_eq_true rfl⟩) vl8_o_4 (by decide) rfl rfl hl.1 rfl (by first | exact Nat.le_of_ble_eq_true rfl | simp [catK, catI, catR, catL]) dX5_replay_140 ⟨Nat.le_refl _, Nat.le_refl _⟩) hS (fun σ_127 H locs rkσ_127 h hWσ_127 hS => ?_)
      have h := h rkσ_127
      refine lv_aload_n X.1 X.2.1 dX5_replay_143 rfl (lv_at hl 0 rfl) ?_
      refine wg (v := .ref (wad w 8 (o + 4))) X hT hWσ_127 3 8 200 vl3_o rfl rfl (by decide) rfl (by decide) in_X5 q534 rfl dX5_replay_144 ?_
      refine lv_sipush (v := oI 128) X.1 X.2.1 dX5_replay_147 (by decide) ?_
      refine wr_Z (rV (As := [.int (oI 128)]) (rest := []) X hT hWσ_127 hS (met_Row_isWhole l (w := w) hV (o + 4) 128 _ σ_127 (by omega) (rI_lit 128 (by decide)) h) (cwV 1 X.2.2.2.2 (lw_V q1295 q1296 q1297 q132 q1298) rfl rfl rfl (by decide +kernel) ⟨Nat.le_of_ble_eq_true rfl, Nat.le_of_ble_eq_true rfl⟩) vl8_o_4 (by decide) rfl rfl hl.1 rfl (by first | exact Nat.le_of_ble_eq_true rfl | simp [catK, catI, catR, catL]) dX5_replay_150 ⟨Nat.le_refl _, Nat.le_refl _⟩) hS (fun r_128 σ_129 H locs rr_128 rkσ_129 h hWσ_129 hS => ?_)
      have h := h rr_128 rkσ_129
      refine w_if_eq (tgt := 184) X rr_128.i dX5_replay_153 (by decide) (fun hc => ?_) (fun hc => ?_)
      · have h := h.1 hc
        exact wk_Store_replay_b184 X hr hlk hT hV ho rx1 rx2 (wp_Store_replay_b185 (wc w) (wtv w) o x1 x2 Q K100) (wk_Store_replay_b185 X hr hlk hT hV ho rx1 rx2 K100 hK100) y3 y6 σ_129 _ _ _ ry3 ry6 (lv_sub hl [0, 1, 2, 4] rfl) hWσ_129 hS h
      · have h := h.2 hc
        refine lv_aload_n X.1 X.2.1 dX5_replay_156 rfl (lv_at hl 0 rfl) ?_
        refine wg (v := .ref (wad w 8 (o + 4))) X hT hWσ_129 3 8 200 vl3_o rfl rfl (by decide) rfl (by decide) in_X5 q534 rfl dX5_replay_157 ?_
        refine wr_I (rV (As := []) (rest := []) X hT hWσ_129 hS (met_Row_type l (w := w) hV (o + 4) _ σ_129 (by omega) h) (cwV 0 X.2.2.2.2 (lw_V q1302 q1303 q1304 q132 q1305) rfl rfl rfl (by decide +kernel) ⟨Nat.le_of_ble_eq_true rfl, Nat.le_of_ble_eq_true rfl⟩) vl8_o_4 (by decide) rfl rfl hl.1 rfl (by first | exact Nat.le_of_ble_eq_true rfl | simp [catK, catI, catR, catL]) dX5_replay_160 ⟨Nat.le_refl _, Nat.le_refl _⟩) hS (fun r_130 σ_131 H locs rr_130 rkσ_131 h hWσ_131 hS => ?_)
        have h := h rr_130 rkσ_131
        refine lv_bipush (v := oI 8) X.1 X.2.1 dX5_replay_163 (by decide) ?_
        refine w_icmp_ne (tgt := 184) X rr_130 ((rB_lit 8 (by decide)).i) dX5_replay_165 (by decide) (fun hc => ?_) (fun hc => ?_)
        · have h := h.1 hc
          exact wk_Store_replay_b184 X hr hlk hT hV ho rx1 rx2 (wp_Store_replay_b185 (wc w) (wtv w) o x1 x2 Q K100) (wk_Store_replay_b185 X hr hlk hT hV ho rx1 rx2 K100 hK100) y3 y6 σ_131 _ _ _ ry3 ry6 (lv_sub hl [0, 1, 2, 4] rfl) hWσ_131 hS h
        · have h := h.2 hc
          refine lv_aload_n X.1 X.2.1 dX5_replay_168 rfl (lv_at hl 0 rfl) ?_
          refine wg (v := .ref (wad w 8 (o + 4))) X hT hWσ_131 3 8 200 vl3_o rfl rfl (by decide) rfl (by decide) in_X5 q534 rfl dX5_replay_169 ?_
          refine wr_J (rV (As := []) (rest := []) X hT hWσ_131 hS (met_Row_serial l (w := w) hV (o + 4) _ σ_131 (by omega) h) (cwV 0 X.2.2.2.2 (lw_V q1691 q1692 q1693 q132 q1694) rfl rfl rfl (by decide +kernel) ⟨Nat.le_of_ble_eq_true rfl, Nat.le_of_ble_eq_true rfl⟩) vl8_o_4 (by decide) rfl rfl hl.1 rfl (by first | exact Nat.le_of_ble_eq_true rfl | simp [catK, catI, catR, catL]) dX5_replay_172 ⟨Nat.le_refl _, Nat.le_refl _⟩) hS (fun r_132 σ_133 H locs rr_132 rkσ_133 h hWσ_133 hS => ?_)
          have h := h rr_132 rkσ_133
          refine lv_lload_n X.1 X.2.1 dX5_replay_175 rfl (lv_at hl 2 rfl) ?_
          refine w_lcmp_le (tgt := 184) X rr_132 ry3 dX5_replay_176 dX5_replay_177 (by decide) (fun hc => ?_) (fun hc => ?_)
          · have h := h.1 hc
            exact wk_Store_replay_b184 X hr hlk hT hV ho rx1 rx2 (wp_Store_replay_b185 (wc w) (wtv w) o x1 x2 Q K100) (wk_Store_replay_b185 X hr hlk hT hV ho rx1 rx2 K100 hK100) y3 y6 σ_133 _ _ _ ry3 ry6 (lv_sub hl [0, 1, 2, 4] rfl) hWσ_133 hS h
          · have h := h.2 hc
            refine lv_iconst (v := oI 1) X.1 X.2.1 dX5_replay_180 rfl ?_
            refine lv_goto (tgt := 185) X.1 X.2.1 dX5_replay_181 (by decide) ?_
            exact wk_Store_replay_b185 X hr hlk hT hV ho rx1 rx2 K100 hK100 y3 y6 1 σ_133 _ _ _ ry3 ry6 rZ_1 (lv_sub hl [0, 1, 2, 4] rfl) hWσ_133 hS h
theorem wk_Store_replay_L100 {p : Program} {l : Launch} {e : Env} {st : State} {m : MethodId} {args : Array Value} {below : List Frame} {meth : Method} {c : Code} {w : Wp} {o : Int} {x1 : Int} {x2 : Int} {Q : St → Prop} (X : CallFix p m c cX5_replay 7 st args lw_all RX5) (hr : meth.sig.returnType = none) (hlk : meth.locks = false) (hT : Tb w st) (hV : Hvl w) (ho : 0 ≤ o ∧ o < 2) (rx1 : rI x1) (rx2 : rI x2) : ∀ (y3 y5 y6 : Int) (σ : St) (H : Heap) (locs : List Loc) (ls : Array Slot), rJ y3 → rZ y5 → rI y6 → lv_has ls 7 [(0, .ref (wad w 3 o)), (1, .int (oI x1)), (3, .long (oL y3)), (5, .int (oI y5)), (6, .int (oI y6))] → Wo w σ H → va_S (wA w) st.heap H locs → lQ3 (wp_Store_replay_L100 (wc w) (wtv w) o x1 x2 Q) y3 y5 y6 σ → W p l e (headSpec (ws_ yX5_replay cX5_replay 7 none) rm_Store_replay).room st m args below meth c H locs 0 0 (MQ below (QcV w Q) args st 0 0 (wA w)) (F0 m 100 ls []) := by
  intro y3 y5 y6 σ H locs ls ry3 ry5 ry6 hl hW hS h
  obtain ⟨fu, h⟩ := h
  induction fu generalizing y3 y5 y6 σ H locs ls with
  | zero => exact h.elim
  | succ fu ih =>
    exact wk_Store_replay_L100B X hr hlk hT hV ho rx1 rx2 (lq3 (wp_Store_replay_L100 (wc w) (wtv w) o x1 x2 Q) fu) (fun y3 y5 y6 σ H locs ls ry3 ry5 ry6 hl hW hS h => ih y3 y5 y6 σ H locs ls ry3 ry5 ry6 hl hW hS h) y3 y5 y6 σ H locs ls ry3 ry5 ry6 hl hW hS h
set_option maxHeartbeats 4000000 in
set_option maxRecDepth 100000 in
theorem met_Store_replay (l : Launch) {w : Wp} (hV : Hvl w) (o : Int) (x1 : Int) (x2 : Int) (Q : St → Prop) (σ : St) (ho : 0 ≤ o ∧ o < 2) (rx1 : rI x1) (rx2 : rI x2) (h : wp_Store_replay (wc w) (wtv w) o x1 x2 Q σ) : Met l yX5_replay (ws_ yX5_replay cX5_replay 7 none) rm_Store_replay (PcW w σ [.ref (wad w 3 o), .int (oI x1), .int (oI x2)]) (QcV w Q) 0 0 (wA w) := by
  refine Met.ofW (cc := cX5_replay) (maxL := 7) (ret := none) (by decide) rfl ?_
  intro p e st m args below meth c s₁ B hml hv
  obtain ⟨hargs, hW, hT⟩ := hv
  have X : CallFix p m c cX5_replay 7 st _ lw_all RX5 := ⟨B.exec, B.bytes, hml, findClass_of_methodNamed B.named, fun w h => atoms_spec (ws := ws_ yX5_replay cX5_replay 7 none) B.pre w (List.mem_cons_of_mem _ h)⟩
  have hr := B.returns
  have hlk := B.notSynchronized
  have hS : va_S (wA w) st.heap st.heap [] := va_S.rf
  have vl3_o : vl w 3 o := hV.hv 3 rfl ⟨by omega, by show _ < (2 : Int); omega⟩
  have vl4_o : vl w 4 o := hV.hv 4 rfl ⟨by omega, by show _ < (2 : Int); omega⟩
  have vl512_o_4 : vl w 512 (o + 4) := hV.hv 512 rfl ⟨by omega, by show _ < (8 : Int); omega⟩
  have vl8_o_4 : vl w 8 (o + 4) := hV.hv 8 rfl ⟨by omega, by show _ < (8 : Int); omega⟩
  have hl := lv_entry ([.ref (wad w 3 o), .int (oI x1), .int (oI x2)]) (n := 7) (Nat.le_of_ble_eq_true rfl)
  have hfr := lg_entry_eq m ([.ref (wad w 3 o), .int (oI x1), .int (oI x2)]) 7
  rw [← hargs] at hfr
  rw [hfr]
  generalize (lg_sl ([.ref (wad w 3 o), .int (oI x1), .int (oI x2)]) ++ List.replicate (7 - (lg_sl ([.ref (wad w 3 o), .int (oI x1), .int (oI x2)])).length) Slot.unset).toArray = ls at hl ⊢
  have hl : lv_has ls 7 [(0, .ref (wad w 3 o)), (1, .int (oI x1)), (2, .int (oI x2))] := hl
  unfold wp_Store_replay at h
  refine lv_aload_n X.1 X.2.1 dX5_replay_0 rfl (lv_at hl 0 rfl) ?_
  refine wg (v := .ref (wad w 4 o)) X hT hW 3 0 192 vl3_o rfl rfl (by decide) rfl (by decide) in_X5 q523 rfl dX5_replay_1 ?_
  refine lv_iload_n X.1 X.2.1 dX5_replay_4 rfl (lv_at hl 1 rfl) ?_
  refine wr_I (rV (As := [.int (oI x1)]) (rest := []) X hT hW hS (met_Blocks_written l (w := w) hV o x1 _ σ (by omega) rx1 h) (cwV 1 X.2.2.2.2 (lw_V q1017 q1018 q1019 q137 q1020) rfl rfl rfl (by decide +kernel) ⟨Nat.le_of_ble_eq_true rfl, Nat.le_of_ble_eq_true rfl⟩) vl4_o (by decide) rfl rfl hl.1 rfl (by first | exact Nat.le_of_ble_eq_true rfl | simp [catK, catI, catR, catL]) dX5_replay_5 ⟨Nat.le_refl _, Nat.le_refl _⟩) hS (fun r_134 σ_135 H locs rr_134 rkσ_135 h hWσ_135 hS => ?_)
  have h := h rr_134 rkσ_135
  refine w_if_ne (tgt := 12) X rr_134 dX5_replay_8 (by decide) (fun hc => ?_) (fun hc => ?_)
  · have h := h.1 hc
    refine lv_aload_n X.1 X.2.1 dX5_replay_12 rfl (lv_at hl 0 rfl) ?_
    refine wg (v := .ref (wad w 4 o)) X hT hWσ_135 3 0 192 vl3_o rfl rfl (by decide) rfl (by decide) in_X5 q523 rfl dX5_replay_13 ?_
    refine lv_iload_n X.1 X.2.1 dX5_replay_16 rfl (lv_at hl 1 rfl) ?_
    refine lv_iconst (v := oI 0) X.1 X.2.1 dX5_replay_17 rfl ?_
    refine lv_aload_n X.1 X.2.1 dX5_replay_18 rfl (lv_at hl 0 rfl) ?_
    refine wg (v := .ref (wad w 8 (o + 4))) X hT hWσ_135 3 8 200 vl3_o rfl rfl (by decide) rfl (by decide) in_X5 q534 rfl dX5_replay_19 ?_
    refine wg (v := .ref (wad w 512 (o + 4))) X hT hWσ_135 8 0 512 vl8_o_4 rfl rfl (by decide) rfl (by decide) in_X2 q166 rfl dX5_replay_22 ?_
    refine lv_iconst (v := oI 0) X.1 X.2.1 dX5_replay_25 rfl ?_
    refine wr_V (rV (As := [.int (oI x1), .int (oI 0), .ref (wad w 512 (o + 4)), .int (oI 0)]) (rest := []) X hT hWσ_135 hS (met_Blocks_read l (w := w) hV o x1 0 512 (o + 4) 0 _ σ_135 (by omega) rx1 rZ_0.i vl512_o_4 (by decide) rfl rZ_0.i h) (cwV 4 X.2.2.2.2 (lw_V q1199 q1200 q1201 q137 q1202) rfl rfl rfl (by decide +kernel) ⟨Nat.le_of_ble_eq_true rfl, Nat.le_of_ble_eq_true rfl⟩) vl4_o (by decide) rfl rfl hl.1 rfl (by first | exact Nat.le_of_ble_eq_true rfl | simp [catK, catI, catR, catL]) dX5_replay_26 ⟨Nat.le_refl _, Nat.le_refl _⟩) hS (fun σ_137 H locs rkσ_137 h hWσ_137 hS => ?_)
    have h := h rkσ_137
    refine lv_aload_n X.1 X.2.1 dX5_replay_29 rfl (lv_at hl 0 rfl) ?_
    refine wg (v := .ref (wad w 8 (o + 4))) X hT hWσ_137 3 8 200 vl3_o rfl rfl (by decide) rfl (by decide) in_X5 q534 rfl dX5_replay_30 ?_
    refine wr_V (rV (As := []) (rest := []) X hT hWσ_137 hS (met_Row_clear l (w := w) hV (o + 4) _ σ_137 (by omega) h) (cwV 0 X.2.2.2.2 (lw_V q736 q737 q738 q132 q739) rfl rfl rfl (by decide +kernel) ⟨Nat.le_of_ble_eq_true rfl, Nat.le_of_ble_eq_true rfl⟩) vl8_o_4 (by decide) rfl rfl hl.1 rfl (by first | exact Nat.le_of_ble_eq_true rfl | simp [catK, catI, catR, catL]) dX5_replay_33 ⟨Nat.le_refl _, Nat.le_refl _⟩) hS (fun σ_139 H locs rkσ_139 h hWσ_139 hS => ?_)
    have h := h rkσ_139
    refine lv_aload_n X.1 X.2.1 dX5_replay_36 rfl (lv_at hl 0 rfl) ?_
    refine wg (v := .ref (wad w 8 (o + 4))) X hT hWσ_139 3 8 200 vl3_o rfl rfl (by decide) rfl (by decide) in_X5 q534 rfl dX5_replay_37 ?_
    refine lv_sipush (v := oI 128) X.1 X.2.1 dX5_replay_40 (by decide) ?_
    refine wr_Z (rV (As := [.int (oI 128)]) (rest := []) X hT hWσ_139 hS (met_Row_isWhole l (w := w) hV (o + 4) 128 _ σ_139 (by omega) (rI_lit 128 (by decide)) h) (cwV 1 X.2.2.2.2 (lw_V q1295 q1296 q1297 q132 q1298) rfl rfl rfl (by decide +kernel) ⟨Nat.le_of_ble_eq_true rfl, Nat.le_of_ble_eq_true rfl⟩) vl8_o_4 (by decide) rfl rfl hl.1 rfl (by first | exact Nat.le_of_ble_eq_true rfl | simp [catK, catI, catR, catL]) dX5_replay_43 ⟨Nat.le_refl _, Nat.le_refl _⟩) hS (fun r_140 σ_141 H locs rr_140 rkσ_141 h hWσ_141 hS => ?_)
    have h := h rr_140 rkσ_141
    refine w_if_eq (tgt := 73) X rr_140.i dX5_replay_46 (by decide) (fun hc => ?_) (fun hc => ?_)
    · have h := h.1 hc
      exact wret_V X hr hlk hWσ_141 hS h dX5_replay_73
    · have h := h.2 hc
      refine lv_aload_n X.1 X.2.1 dX5_replay_49 rfl (lv_at hl 0 rfl) ?_
      refine wg (v := .ref (wad w 8 (o + 4))) X hT hWσ_141 3 8 200 vl3_o rfl rfl (by decide) rfl (by decide) in_X5 q534 rfl dX5_replay_50 ?_
      refine wr_I (rV (As := []) (rest := []) X hT hWσ_141 hS (met_Row_type l (w := w) hV (o + 4) _ σ_141 (by omega) h) (cwV 0 X.2.2.2.2 (lw_V q1302 q1303 q1304 q132 q1305) rfl rfl rfl (by decide +kernel) ⟨Nat.le_of_ble_eq_true rfl, Nat.le_of_ble_eq_true rfl⟩) vl8_o_4 (by decide) rfl rfl hl.1 rfl (by first | exact Nat.le_of_ble_eq_true rfl | simp [catK, catI, catR, catL]) dX5_replay_53 ⟨Nat.le_refl _, Nat.le_refl _⟩) hS (fun r_142 σ_143 H locs rr_142 rkσ_143 h hWσ_143 hS => ?_)
      have h := h rr_142 rkσ_143
      refine lv_bipush (v := oI 7) X.1 X.2.1 dX5_replay_56 (by decide) ?_
      refine w_icmp_ne (tgt := 73) X rr_142 ((rB_lit 7 (by decide)).i) dX5_replay_58 (by decide) (fun hc => ?_) (fun hc => ?_)
      · have h := h.1 hc
        exact wret_V X hr hlk hWσ_143 hS h dX5_replay_73
      · have h := h.2 hc
        refine lv_aload_n X.1 X.2.1 dX5_replay_61 rfl (lv_at hl 0 rfl) ?_
        refine wg (v := .ref (wad w 8 (o + 4))) X hT hWσ_143 3 8 200 vl3_o rfl rfl (by decide) rfl (by decide) in_X5 q534 rfl dX5_replay_62 ?_
        refine lv_iconst (v := oI 0) X.1 X.2.1 dX5_replay_65 rfl ?_
        refine wr_I (rV (As := [.int (oI 0)]) (rest := []) X hT hWσ_143 hS (met_Row_get l (w := w) hV (o + 4) 0 _ σ_143 (by omega) rZ_0.i h) (cwV 1 X.2.2.2.2 (lw_V q1306 q1207 q1208 q132 q1209) rfl rfl rfl (by decide +kernel) ⟨Nat.le_of_ble_eq_true rfl, Nat.le_of_ble_eq_true rfl⟩) vl8_o_4 (by decide) rfl rfl hl.1 rfl (by first | exact Nat.le_of_ble_eq_true rfl | simp [catK, catI, catR, catL]) dX5_replay_66 ⟨Nat.le_refl _, Nat.le_refl _⟩) hS (fun r_144 σ_145 H locs rr_144 rkσ_145 h hWσ_145 hS => ?_)
        have h := h rr_144 rkσ_145
        refine lv_iload_n X.1 X.2.1 dX5_replay_69 rfl (lv_at hl 2 rfl) ?_
        refine w_icmp_eq (tgt := 74) X rr_144 rx2 dX5_replay_70 (by decide) (fun hc => ?_) (fun hc => ?_)
        · have h := h.1 hc
          refine lv_aload_n X.1 X.2.1 dX5_replay_74 rfl (lv_at hl 0 rfl) ?_
          refine wg (v := .ref (wad w 8 (o + 4))) X hT hWσ_145 3 8 200 vl3_o rfl rfl (by decide) rfl (by decide) in_X5 q534 rfl dX5_replay_75 ?_
          refine wr_J (rV (As := []) (rest := []) X hT hWσ_145 hS (met_Row_serial l (w := w) hV (o + 4) _ σ_145 (by omega) h) (cwV 0 X.2.2.2.2 (lw_V q1691 q1692 q1693 q132 q1694) rfl rfl rfl (by decide +kernel) ⟨Nat.le_of_ble_eq_true rfl, Nat.le_of_ble_eq_true rfl⟩) vl8_o_4 (by decide) rfl rfl hl.1 rfl (by first | exact Nat.le_of_ble_eq_true rfl | simp [catK, catI, catR, catL]) dX5_replay_78 ⟨Nat.le_refl _, Nat.le_refl _⟩) hS (fun r_146 σ_147 H locs rr_146 rkσ_147 h hWσ_147 hS => ?_)
          have h := h rr_146 rkσ_147
          refine lv_lstore_n (i := 3) (lv' := [(3, .long (oL r_146)), (0, .ref (wad w 3 o)), (1, .int (oI x1)), (2, .int (oI x2))]) X.1 X.2.1 dX5_replay_81 rfl hl (by decide) (by first | rfl | simp [catK, catI, catR, catL]) (fun ls hl => ?_)
          refine lv_aload_n X.1 X.2.1 dX5_replay_82 rfl (lv_at hl 1 rfl) ?_
          refine lv_aload_n X.1 X.2.1 dX5_replay_83 rfl (lv_at hl 1 rfl) ?_
          refine wg (v := .long (oL (gI σ_147 202 o))) X hT hWσ_147 3 10 202 vl3_o rfl rfl (by decide) rfl (by decide) in_X5 q536 rfl dX5_replay_84 ?_
          refine lv_lload_n X.1 X.2.1 dX5_replay_87 rfl (lv_at hl 0 rfl) ?_
          refine w_mmaxl X (hWσ_147.r.j 202 o rfl) rr_146 hl.1 q1699 q1688 q149 q1689 (Nat.le_of_ble_eq_true rfl) (Nat.le_of_ble_eq_true rfl) (Nat.le_refl _) (Nat.le_refl _) dX5_replay_88 ?_
          refine wput (z := max (gI σ_147 202 o) r_146) X hT hWσ_147 hS 3 10 202 vl3_o rfl rfl (by decide) rfl (by decide) in_X5 tyX5 tyX5_ok nmX5 q536 rfl rfl (max_rJ (hWσ_147.r.j 202 o rfl) rr_146) (fv1 w rfl) rfl rfl dX5_replay_91 (fun H locs hN hS => ?_)
          obtain ⟨σ_148, eσ_148⟩ : ∃ x, x = sI σ_147 202 o (max (gI σ_147 202 o) r_146) := ⟨_, rfl⟩
          have hWσ_148 : Wo w σ_148 H := eσ_148 ▸ hN
          have h := h σ_148 eσ_148
          clear hN
          refine lv_iconst (v := oI 1) X.1 X.2.1 dX5_replay_94 rfl ?_
          refine lv_istore (i := 5) (lv' := [(5, .int (oI 1)), (3, .long (oL r_146)), (0, .ref (wad w 3 o)), (1, .int (oI x1)), (2, .int (oI x2))]) X.1 X.2.1 dX5_replay_95 hl (by decide) (by first | rfl | simp [catK, catI, catR, catL]) (fun ls hl => ?_)
          refine lv_iconst (v := oI 1) X.1 X.2.1 dX5_replay_97 rfl ?_
          refine lv_istore (i := 6) (lv' := [(6, .int (oI 1)), (5, .int (oI 1)), (3, .long (oL r_146)), (0, .ref (wad w 3 o)), (1, .int (oI x1)), (2, .int (oI x2))]) X.1 X.2.1 dX5_replay_98 hl (by decide) (by first | rfl | simp [catK, catI, catR, catL]) (fun ls hl => ?_)
          exact wk_Store_replay_L100 X hr hlk hT hV ho rx1 rx2 r_146 1 1 σ_148 _ _ _ rr_146 rZ_1 rZ_1.i (lv_sub hl [3, 4, 2, 1, 0] rfl) hWσ_148 hS h
        · have h := h.2 hc
          exact wret_V X hr hlk hWσ_145 hS h dX5_replay_73
  · have h := h.2 hc
    exact wret_V X hr hlk hWσ_135 hS h dX5_replay_11
/-! Store.find()V -/
set_option maxHeartbeats 4000000 in
set_option maxRecDepth 100000 in
theorem wk_Store_find_b242 {p : Program} {l : Launch} {e : Env} {st : State} {m : MethodId} {args : Array Value} {below : List Frame} {meth : Method} {c : Code} {w : Wp} {o : Int} {Q : St → Prop} (X : CallFix p m c cX5_find 5 st args lw_all RX5) (hr : meth.sig.returnType = none) (hlk : meth.locks = false) (hT : Tb w st) (hV : Hvl w) (ho : 0 ≤ o ∧ o < 2) (K44 : Int → Int → Int → St → Prop) (hK44 : ∀ (y1 y3 y4 : Int) (σ : St) (H : Heap) (locs : List Loc) (ls : Array Slot), rJ y1 → rI y3 → rI y4 → lv_has ls 5 [(0, .ref (wad w 3 o)), (1, .long (oL y1)), (3, .int (oI y3)), (4, .int (oI y4))] → Wo w σ H → va_S (wA w) st.heap H locs → K44 y1 y3 y4 σ → W p l e (headSpec (ws_ yX5_find cX5_find 5 none) rm_Store_find).room st m args below meth c H locs 0 0 (MQ below (QcV w Q) args st 0 0 (wA w)) (F0 m 44 ls [])) : ∀ (y1 y3 y4 : Int) (σ : St) (H : Heap) (locs : List Loc) (ls : Array Slot), rJ y1 → rI y3 → rI y4 → lv_has ls 5 [(0, .ref (wad w 3 o)), (1, .long (oL y1)), (3, .int (oI y3)), (4, .int (oI y4))] → Wo w σ H → va_S (wA w) st.heap H locs → wp_Store_find_b242 (wc w) (wtv w) o Q K44 y1 y3 y4 σ → W p l e (headSpec (ws_ yX5_find cX5_find 5 none) rm_Store_find).room st m args below meth c H locs 0 0 (MQ below (QcV w Q) args st 0 0 (wA w)) (F0 m 242 ls []) := by

  intro y1 y3 y4 σ H locs ls ry1 ry3 ry4 hl hW hS h
  unfold wp_Store_find_b242 at h
  obtain ⟨y4_223, ey4_223⟩ : ∃ y : Int, y = w32 (y4 + 1) := ⟨_, rfl⟩
  have h := h y4_223 ey4_223
  have ry4_223 : rI y4_223 := by rw [ey4_223]; exact w32_r _
  refine lv_iinc (v := oI y4_223) (lv' := [(4, .int (oI y4_223)), (0, .ref (wad w 3 o)), (1, .long (oL y1)), (3, .int (oI y3))]) X.1 X.2.1 dX5_find_242 hl (k := 3) rfl (by rw [ey4_223]; exact oI_add _ _) (by decide) (by first | rfl | simp [catK, catI, catR, catL]) (fun ls hl => ?_)
  refine lv_goto (tgt := 44) X.1 X.2.1 dX5_find_245 (by decide) ?_
  exact hK44 y1 y3 y4_223 σ _ _ _ ry1 ry3 ry4_223 (lv_sub hl [1, 2, 3, 0] rfl) hW hS h
set_option maxHeartbeats 4000000 in
set_option maxRecDepth 100000 in
theorem wk_Store_find_L323B {p : Program} {l : Launch} {e : Env} {st : State} {m : MethodId} {args : Array Value} {below : List Frame} {meth : Method} {c : Code} {w : Wp} {o : Int} {Q : St → Prop} (X : CallFix p m c cX5_find 5 st args lw_all RX5) (hr : meth.sig.returnType = none) (hlk : meth.locks = false) (hT : Tb w st) (hV : Hvl w) (ho : 0 ≤ o ∧ o < 2) (K323 : Int → St → Prop) (hK323 : ∀ (y3 : Int) (σ : St) (H : Heap) (locs : List Loc) (ls : Array Slot), rI y3 → lv_has ls 5 [(0, .ref (wad w 3 o)), (3, .int (oI y3))] → Wo w σ H → va_S (wA w) st.heap H locs → K323 y3 σ → W p l e (headSpec (ws_ yX5_find cX5_find 5 none) rm_Store_find).room st m args below meth c H locs 0 0 (MQ below (QcV w Q) args st 0 0 (wA w)) (F0 m 323 ls [])) : ∀ (y3 : Int) (σ : St) (H : Heap) (locs : List Loc) (ls : Array Slot), rI y3 → lv_has ls 5 [(0, .ref (wad w 3 o)), (3, .int (oI y3))] → Wo w σ H → va_S (wA w) st.heap H locs → wp_Store_find_L323 (wc w) (wtv w) o Q K323 y3 σ → W p l e (headSpec (ws_ yX5_find cX5_find 5 none) rm_Store_find).room st m args below meth c H locs 0 0 (MQ below (QcV w Q) args st 0 0 (wA w)) (F0 m 323 ls []) := by
  have vl3_o : vl w 3 o := hV.hv 3 rfl ⟨by omega, by show _ < (2 : Int); omega⟩
  have vl324_o : vl w 324 o := hV.hv 324 rfl ⟨by omega, by show _ < (2 : Int); omega⟩
  have vl4_o : vl w 4 o := hV.hv 4 rfl ⟨by omega, by show _ < (2 : Int); omega⟩
  have vl5_o : vl w 5 o := hV.hv 5 rfl ⟨by omega, by show _ < (2 : Int); omega⟩
  have vl8_o : vl w 8 o := hV.hv 8 rfl ⟨by omega, by show _ < (8 : Int); omega⟩
  intro y3 σ H locs ls ry3 hl hW hS h
  unfold wp_Store_find_L323 at h
  refine lv_iload_n X.1 X.2.1 dX5_find_323 rfl (lv_at hl 1 rfl) ?_
  refine lv_aload_n X.1 X.2.1 dX5_find_324 rfl (lv_at hl 0 rfl) ?_
  refine wg (v := .ref (wad w 4 o)) X hT hW 3 0 192 vl3_o rfl rfl (by decide) rfl (by decide) in_X5 q523 rfl dX5_find_325 ?_
  refine wg (v := .int (oI ((wc w).1 - 6))) X hT hW 4 1 257 vl4_o rfl rfl (by decide) rfl (by decide) in_X6 q272 rfl dX5_find_328 ?_
  refine w_icmp_ge (tgt := 367) X ry3 (cin_r hT.c 257) dX5_find_331 (by decide) (fun hc => ?_) (fun hc => ?_)
  · have h := h.1 hc
    refine lv_aload_n X.1 X.2.1 dX5_find_367 rfl (lv_at hl 0 rfl) ?_
    refine lv_aload_n X.1 X.2.1 dX5_find_368 rfl (lv_at hl 0 rfl) ?_
    refine wg (v := .long (oL (gI σ 202 o))) X hT hW 3 10 202 vl3_o rfl rfl (by decide) rfl (by decide) in_X5 q536 rfl dX5_find_369 ?_
    refine lv_aload_n X.1 X.2.1 dX5_find_372 rfl (lv_at hl 0 rfl) ?_
    refine wg (v := .ref (wad w 8 o)) X hT hW 3 6 198 vl3_o rfl rfl (by decide) rfl (by decide) in_X5 q531 rfl dX5_find_373 ?_
    refine wr_J (rV (As := []) (rest := [.long (oL (gI σ 202 o)), .ref (wad w 3 o)]) X hT hW hS (met_Row_serial l (w := w) hV o _ σ (by omega) h) (cwV 0 X.2.2.2.2 (lw_V q1691 q1692 q1693 q132 q1694) rfl rfl rfl (by decide +kernel) ⟨Nat.le_of_ble_eq_true rfl, Nat.le_of_ble_eq_true rfl⟩) vl8_o (by decide) rfl rfl hl.1 rfl (by first | exact Nat.le_of_ble_eq_true rfl | simp [catK, catI, catR, catL]) dX5_find_376 ⟨Nat.le_refl _, Nat.le_refl _⟩) hS (fun r_224 σ_225 H locs rr_224 rkσ_225 h hWσ_225 hS => ?_)
    have h := h rr_224 rkσ_225
    refine w_mmaxl X (hW.r.j 202 o rfl) rr_224 hl.1 q1699 q1688 q149 q1689 (Nat.le_of_ble_eq_true rfl) (Nat.le_of_ble_eq_true rfl) (Nat.le_refl _) (Nat.le_refl _) dX5_find_379 ?_
    refine wput (z := max (gI σ 202 o) r_224) X hT hWσ_225 hS 3 10 202 vl3_o rfl rfl (by decide) rfl (by decide) in_X5 tyX5 tyX5_ok nmX5 q536 rfl rfl (max_rJ (hW.r.j 202 o rfl) rr_224) (fv1 w rfl) rfl rfl dX5_find_382 (fun H locs hN hS => ?_)
    obtain ⟨σ_226, eσ_226⟩ : ∃ x, x = sI σ_225 202 o (max (gI σ 202 o) r_224) := ⟨_, rfl⟩
    have hWσ_226 : Wo w σ_226 H := eσ_226 ▸ hN
    have h := h σ_226 eσ_226
    clear hN
    refine lv_aload_n X.1 X.2.1 dX5_find_385 rfl (lv_at hl 0 rfl) ?_
    refine wr_V (rV (As := []) (rest := []) X hT hWσ_226 hS (met_Store_readOrphans l (w := w) hV o _ σ_226 (by omega) h) (cwV 0 X.2.2.2.2 (lw_V q1706 q1708 qs76 q136 q1709) rfl rfl rfl (by decide +kernel) ⟨Nat.le_of_ble_eq_true rfl, Nat.le_of_ble_eq_true rfl⟩) vl3_o (by decide) rfl rfl hl.1 rfl (by first | exact Nat.le_of_ble_eq_true rfl | simp [catK, catI, catR, catL]) dX5_find_386 ⟨Nat.le_refl _, Nat.le_refl _⟩) hS (fun σ_228 H locs rkσ_228 h hWσ_228 hS => ?_)
    have h := h rkσ_228
    refine lv_aload_n X.1 X.2.1 dX5_find_389 rfl (lv_at hl 0 rfl) ?_
    refine lv_aload_n X.1 X.2.1 dX5_find_390 rfl (lv_at hl 0 rfl) ?_
    refine wg (v := .int (oI (gI σ_228 208 o))) X hT hWσ_228 3 16 208 vl3_o rfl rfl (by decide) rfl (by decide) in_X5 q546 rfl dX5_find_391 ?_
    refine lv_aload_n X.1 X.2.1 dX5_find_394 rfl (lv_at hl 0 rfl) ?_
    refine wg (v := .int (oI (gI σ_228 212 o))) X hT hWσ_228 3 20 212 vl3_o rfl rfl (by decide) rfl (by decide) in_X5 q550 rfl dX5_find_395 ?_
    refine wr_V (rV (As := [.int (oI (gI σ_228 208 o)), .int (oI (gI σ_228 212 o))]) (rest := []) X hT hWσ_228 hS (met_Store_replay l (w := w) hV o (gI σ_228 208 o) (gI σ_228 212 o) _ σ_228 (by omega) (hWσ_228.r.i 208 o rfl) (hWσ_228.r.i 212 o rfl) h) (cwV 2 X.2.2.2.2 (lw_V q1710 q1712 qs77 q136 q1713) rfl rfl rfl (by decide +kernel) ⟨Nat.le_of_ble_eq_true rfl, Nat.le_of_ble_eq_true rfl⟩) vl3_o (by decide) rfl rfl hl.1 rfl (by first | exact Nat.le_of_ble_eq_true rfl | simp [catK, catI, catR, catL]) dX5_find_398 ⟨Nat.le_refl _, Nat.le_refl _⟩) hS (fun σ_230 H locs rkσ_230 h hWσ_230 hS => ?_)
    have h := h rkσ_230
    refine lv_aload_n X.1 X.2.1 dX5_find_401 rfl (lv_at hl 0 rfl) ?_
    refine lv_iconst (v := oI 5) X.1 X.2.1 dX5_find_402 rfl ?_
    refine lv_aload_n X.1 X.2.1 dX5_find_403 rfl (lv_at hl 0 rfl) ?_
    refine wg (v := .int (oI (gI σ_230 208 o))) X hT hWσ_230 3 16 208 vl3_o rfl rfl (by decide) rfl (by decide) in_X5 q546 rfl dX5_find_404 ?_
    refine w_isub X dX5_find_407 ?_
    refine lv_aload_n X.1 X.2.1 dX5_find_408 rfl (lv_at hl 0 rfl) ?_
    refine wg (v := .int (oI (gI σ_230 212 o))) X hT hWσ_230 3 20 212 vl3_o rfl rfl (by decide) rfl (by decide) in_X5 q550 rfl dX5_find_409 ?_
    refine lv_iconst (v := oI 1) X.1 X.2.1 dX5_find_412 rfl ?_
    refine w_iadd X dX5_find_413 ?_
    refine wr_V (rV (As := [.int (oI (w32 (5 - (gI σ_230 208 o)))), .int (oI (w32 ((gI σ_230 212 o) + 1)))]) (rest := []) X hT hWσ_230 hS (met_Store_replay l (w := w) hV o (w32 (5 - (gI σ_230 208 o))) (w32 ((gI σ_230 212 o) + 1)) _ σ_230 (by omega) (w32_r _) (w32_r _) h) (cwV 2 X.2.2.2.2 (lw_V q1710 q1712 qs77 q136 q1713) rfl rfl rfl (by decide +kernel) ⟨Nat.le_of_ble_eq_true rfl, Nat.le_of_ble_eq_true rfl⟩) vl3_o (by decide) rfl rfl hl.1 rfl (by first | exact Nat.le_of_ble_eq_true rfl | simp [catK, catI, catR, catL]) dX5_find_414 ⟨Nat.le_refl _, Nat.le_refl _⟩) hS (fun σ_232 H locs rkσ_232 h hWσ_232 hS => ?_)
    have h := h rkσ_232
    exact wret_V X hr hlk hWσ_232 hS h dX5_find_417
  · have h := h.2 hc
    refine lv_aload_n X.1 X.2.1 dX5_find_334 rfl (lv_at hl 0 rfl) ?_
    refine wg (v := .ref (wad w 5 o)) X hT hW 3 1 193 vl3_o rfl rfl (by decide) rfl (by decide) in_X5 q525 rfl dX5_find_335 ?_
    refine wg (v := .ref (wad w 324 o)) X hT hW 5 4 324 vl5_o rfl rfl (by decide) rfl (by decide) in_X7 q347 rfl dX5_find_338 ?_
    refine lv_iload_n X.1 X.2.1 dX5_find_341 rfl (lv_at hl 1 rfl) ?_
    refine lv_aload_n X.1 X.2.1 dX5_find_342 rfl (lv_at hl 0 rfl) ?_
    refine wg (v := .ref (wad w 8 o)) X hT hW 3 6 198 vl3_o rfl rfl (by decide) rfl (by decide) in_X5 q531 rfl dX5_find_343 ?_
    refine lv_iconst (v := oI 4) X.1 X.2.1 dX5_find_346 rfl ?_
    refine lv_iload_n X.1 X.2.1 dX5_find_347 rfl (lv_at hl 1 rfl) ?_
    refine lv_aload_n X.1 X.2.1 dX5_find_348 rfl (lv_at hl 0 rfl) ?_
    refine wg (v := .ref (wad w 5 o)) X hT hW 3 1 193 vl3_o rfl rfl (by decide) rfl (by decide) in_X5 q525 rfl dX5_find_349 ?_
    refine wg (v := .int (oI (4 + (wc w).2.2))) X hT hW 5 1 321 vl5_o rfl rfl (by decide) rfl (by decide) in_X7 q338 rfl dX5_find_352 ?_
    refine w_isub X dX5_find_355 ?_
    refine w_imul X dX5_find_356 ?_
    refine wr_I (rV (As := [.int (oI (w32 (4 * (w32 (y3 - (4 + (wc w).2.2))))))]) (rest := [.int (oI y3), .ref (wad w 324 o)]) X hT hW hS (met_Row_get l (w := w) hV o (w32 (4 * (w32 (y3 - (4 + (wc w).2.2))))) _ σ (by omega) (w32_r _) h) (cwV 1 X.2.2.2.2 (lw_V q1306 q1207 q1208 q132 q1209) rfl rfl rfl (by decide +kernel) ⟨Nat.le_of_ble_eq_true rfl, Nat.le_of_ble_eq_true rfl⟩) vl8_o (by decide) rfl rfl hl.1 rfl (by first | exact Nat.le_of_ble_eq_true rfl | simp [catK, catI, catR, catL]) dX5_find_357 ⟨Nat.le_refl _, Nat.le_refl _⟩) hS (fun r_233 σ_234 H locs rr_233 rkσ_234 h hWσ_234 hS => ?_)
    have h := h rr_233 rkσ_234
    obtain ⟨bi, h⟩ := h
    refine w_iast (n := ((wc w).1 - 6)) X hT hWσ_234 hS 324 vl324_o (by decide) rfl rfl bi rr_233 dX5_find_360 (fun H locs hN hS => ?_)
    obtain ⟨σ_235, eσ_235⟩ : ∃ x, x = sA σ_234 324 o y3 r_233 := ⟨_, rfl⟩
    have hWσ_235 : Wo w σ_235 H := eσ_235 ▸ hN
    have h := h σ_235 eσ_235
    clear hN
    obtain ⟨y3_236, ey3_236⟩ : ∃ y : Int, y = w32 (y3 + 1) := ⟨_, rfl⟩
    have h := h y3_236 ey3_236
    have ry3_236 : rI y3_236 := by rw [ey3_236]; exact w32_r _
    refine lv_iinc (v := oI y3_236) (lv' := [(3, .int (oI y3_236)), (0, .ref (wad w 3 o))]) X.1 X.2.1 dX5_find_361 hl (k := 1) rfl (by rw [ey3_236]; exact oI_add _ _) (by decide) (by first | rfl | simp [catK, catI, catR, catL]) (fun ls hl => ?_)
    refine lv_goto (tgt := 323) X.1 X.2.1 dX5_find_364 (by decide) ?_
    exact hK323 y3_236 σ_235 _ _ _ ry3_236 (lv_sub hl [1, 0] rfl) hWσ_235 hS h
theorem wk_Store_find_L323 {p : Program} {l : Launch} {e : Env} {st : State} {m : MethodId} {args : Array Value} {below : List Frame} {meth : Method} {c : Code} {w : Wp} {o : Int} {Q : St → Prop} (X : CallFix p m c cX5_find 5 st args lw_all RX5) (hr : meth.sig.returnType = none) (hlk : meth.locks = false) (hT : Tb w st) (hV : Hvl w) (ho : 0 ≤ o ∧ o < 2) : ∀ (y3 : Int) (σ : St) (H : Heap) (locs : List Loc) (ls : Array Slot), rI y3 → lv_has ls 5 [(0, .ref (wad w 3 o)), (3, .int (oI y3))] → Wo w σ H → va_S (wA w) st.heap H locs → lQ1 (wp_Store_find_L323 (wc w) (wtv w) o Q) y3 σ → W p l e (headSpec (ws_ yX5_find cX5_find 5 none) rm_Store_find).room st m args below meth c H locs 0 0 (MQ below (QcV w Q) args st 0 0 (wA w)) (F0 m 323 ls []) := by
  intro y3 σ H locs ls ry3 hl hW hS h
  obtain ⟨fu, h⟩ := h
  induction fu generalizing y3 σ H locs ls with
  | zero => exact h.elim
  | succ fu ih =>
    exact wk_Store_find_L323B X hr hlk hT hV ho (lq1 (wp_Store_find_L323 (wc w) (wtv w) o Q) fu) (fun y3 σ H locs ls ry3 hl hW hS h => ih y3 σ H locs ls ry3 hl hW hS h) y3 σ H locs ls ry3 hl hW hS h
set_option maxHeartbeats 4000000 in
set_option maxRecDepth 100000 in
theorem wk_Store_find_L44B {p : Program} {l : Launch} {e : Env} {st : State} {m : MethodId} {args : Array Value} {below : List Frame} {meth : Method} {c : Code} {w : Wp} {o : Int} {Q : St → Prop} (X : CallFix p m c cX5_find 5 st args lw_all RX5) (hr : meth.sig.returnType = none) (hlk : meth.locks = false) (hT : Tb w st) (hV : Hvl w) (ho : 0 ≤ o ∧ o < 2) (K36 : Int → Int → St → Prop) (K44 : Int → Int → Int → St → Prop) (hK36 : ∀ (y1 y3 : Int) (σ : St) (H : Heap) (locs : List Loc) (ls : Array Slot), rJ y1 → rI y3 → lv_has ls 5 [(0, .ref (wad w 3 o)), (1, .long (oL y1)), (3, .int (oI y3))] → Wo w σ H → va_S (wA w) st.heap H locs → K36 y1 y3 σ → W p l e (headSpec (ws_ yX5_find cX5_find 5 none) rm_Store_find).room st m args below meth c H locs 0 0 (MQ below (QcV w Q) args st 0 0 (wA w)) (F0 m 36 ls [])) (hK44 : ∀ (y1 y3 y4 : Int) (σ : St) (H : Heap) (locs : List Loc) (ls : Array Slot), rJ y1 → rI y3 → rI y4 → lv_has ls 5 [(0, .ref (wad w 3 o)), (1, .long (oL y1)), (3, .int (oI y3)), (4, .int (oI y4))] → Wo w σ H → va_S (wA w) st.heap H locs → K44 y1 y3 y4 σ → W p l e (headSpec (ws_ yX5_find cX5_find 5 none) rm_Store_find).room st m args below meth c H locs 0 0 (MQ below (QcV w Q) args st 0 0 (wA w)) (F0 m 44 ls [])) : ∀ (y1 y3 y4 : Int) (σ : St) (H : Heap) (locs : List Loc) (ls : Array Slot), rJ y1 → rI y3 → rI y4 → lv_has ls 5 [(0, .ref (wad w 3 o)), (1, .long (oL y1)), (3, .int (oI y3)), (4, .int (oI y4))] → Wo w σ H → va_S (wA w) st.heap H locs → wp_Store_find_L44 (wc w) (wtv w) o Q K36 K44 y1 y3 y4 σ → W p l e (headSpec (ws_ yX5_find cX5_find 5 none) rm_Store_find).room st m args below meth c H locs 0 0 (MQ below (QcV w Q) args st 0 0 (wA w)) (F0 m 44 ls []) := by
  have vl3_o : vl w 3 o := hV.hv 3 rfl ⟨by omega, by show _ < (2 : Int); omega⟩
  have vl4_o : vl w 4 o := hV.hv 4 rfl ⟨by omega, by show _ < (2 : Int); omega⟩
  have vl512_o_4 : vl w 512 (o + 4) := hV.hv 512 rfl ⟨by omega, by show _ < (8 : Int); omega⟩
  have vl8_o_4 : vl w 8 (o + 4) := hV.hv 8 rfl ⟨by omega, by show _ < (8 : Int); omega⟩
  intro y1 y3 y4 σ H locs ls ry1 ry3 ry4 hl hW hS h
  unfold wp_Store_find_L44 at h
  refine lv_iload X.1 X.2.1 dX5_find_44 (lv_at hl 3 rfl) ?_
  refine lv_aload_n X.1 X.2.1 dX5_find_46 rfl (lv_at hl 0 rfl) ?_
  refine wg (v := .ref (wad w 4 o)) X hT hW 3 0 192 vl3_o rfl rfl (by decide) rfl (by decide) in_X5 q523 rfl dX5_find_47 ?_
  refine lv_iload_n X.1 X.2.1 dX5_find_50 rfl (lv_at hl 2 rfl) ?_
  refine wr_I (rV (As := [.int (oI y3)]) (rest := [.int (oI y4)]) X hT hW hS (met_Blocks_written l (w := w) hV o y3 _ σ (by omega) ry3 h) (cwV 1 X.2.2.2.2 (lw_V q1017 q1018 q1019 q137 q1020) rfl rfl rfl (by decide +kernel) ⟨Nat.le_of_ble_eq_true rfl, Nat.le_of_ble_eq_true rfl⟩) vl4_o (by decide) rfl rfl hl.1 rfl (by first | exact Nat.le_of_ble_eq_true rfl | simp [catK, catI, catR, catL]) dX5_find_51 ⟨Nat.le_refl _, Nat.le_refl _⟩) hS (fun r_237 σ_238 H locs rr_237 rkσ_238 h hWσ_238 hS => ?_)
  have h := h rr_237 rkσ_238
  refine w_icmp_ge (tgt := 248) X ry4 rr_237 dX5_find_54 (by decide) (fun hc => ?_) (fun hc => ?_)
  · have h := h.1 hc
    obtain ⟨y3_239, ey3_239⟩ : ∃ y : Int, y = w32 (y3 + 1) := ⟨_, rfl⟩
    have h := h y3_239 ey3_239
    have ry3_239 : rI y3_239 := by rw [ey3_239]; exact w32_r _
    refine lv_iinc (v := oI y3_239) (lv' := [(3, .int (oI y3_239)), (0, .ref (wad w 3 o)), (1, .long (oL y1)), (4, .int (oI y4))]) X.1 X.2.1 dX5_find_248 hl (k := 2) rfl (by rw [ey3_239]; exact oI_add _ _) (by decide) (by first | rfl | simp [catK, catI, catR, catL]) (fun ls hl => ?_)
    refine lv_goto (tgt := 36) X.1 X.2.1 dX5_find_251 (by decide) ?_
    exact hK36 y1 y3_239 σ_238 _ _ _ ry1 ry3_239 (lv_sub hl [1, 2, 0] rfl) hWσ_238 hS h
  · have h := h.2 hc
    refine lv_aload_n X.1 X.2.1 dX5_find_57 rfl (lv_at hl 0 rfl) ?_
    refine wg (v := .ref (wad w 4 o)) X hT hWσ_238 3 0 192 vl3_o rfl rfl (by decide) rfl (by decide) in_X5 q523 rfl dX5_find_58 ?_
    refine lv_iload_n X.1 X.2.1 dX5_find_61 rfl (lv_at hl 2 rfl) ?_
    refine lv_iload X.1 X.2.1 dX5_find_62 (lv_at hl 3 rfl) ?_
    refine lv_aload_n X.1 X.2.1 dX5_find_64 rfl (lv_at hl 0 rfl) ?_
    refine wg (v := .ref (wad w 8 (o + 4))) X hT hWσ_238 3 8 200 vl3_o rfl rfl (by decide) rfl (by decide) in_X5 q534 rfl dX5_find_65 ?_
    refine wg (v := .ref (wad w 512 (o + 4))) X hT hWσ_238 8 0 512 vl8_o_4 rfl rfl (by decide) rfl (by decide) in_X2 q166 rfl dX5_find_68 ?_
    refine lv_iconst (v := oI 0) X.1 X.2.1 dX5_find_71 rfl ?_
    refine wr_V (rV (As := [.int (oI y3), .int (oI y4), .ref (wad w 512 (o + 4)), .int (oI 0)]) (rest := []) X hT hWσ_238 hS (met_Blocks_read l (w := w) hV o y3 y4 512 (o + 4) 0 _ σ_238 (by omega) ry3 ry4 vl512_o_4 (by decide) rfl rZ_0.i h) (cwV 4 X.2.2.2.2 (lw_V q1199 q1200 q1201 q137 q1202) rfl rfl rfl (by decide +kernel) ⟨Nat.le_of_ble_eq_true rfl, Nat.le_of_ble_eq_true rfl⟩) vl4_o (by decide) rfl rfl hl.1 rfl (by first | exact Nat.le_of_ble_eq_true rfl | simp [catK, catI, catR, catL]) dX5_find_72 ⟨Nat.le_refl _, Nat.le_refl _⟩) hS (fun σ_241 H locs rkσ_241 h hWσ_241 hS => ?_)
    have h := h rkσ_241
    refine lv_aload_n X.1 X.2.1 dX5_find_75 rfl (lv_at hl 0 rfl) ?_
    refine wg (v := .ref (wad w 8 (o + 4))) X hT hWσ_241 3 8 200 vl3_o rfl rfl (by decide) rfl (by decide) in_X5 q534 rfl dX5_find_76 ?_
    refine wr_V (rV (As := []) (rest := []) X hT hWσ_241 hS (met_Row_clear l (w := w) hV (o + 4) _ σ_241 (by omega) h) (cwV 0 X.2.2.2.2 (lw_V q736 q737 q738 q132 q739) rfl rfl rfl (by decide +kernel) ⟨Nat.le_of_ble_eq_true rfl, Nat.le_of_ble_eq_true rfl⟩) vl8_o_4 (by decide) rfl rfl hl.1 rfl (by first | exact Nat.le_of_ble_eq_true rfl | simp [catK, catI, catR, catL]) dX5_find_79 ⟨Nat.le_refl _, Nat.le_refl _⟩) hS (fun σ_243 H locs rkσ_243 h hWσ_243 hS => ?_)
    have h := h rkσ_243
    refine lv_aload_n X.1 X.2.1 dX5_find_82 rfl (lv_at hl 0 rfl) ?_
    refine wg (v := .ref (wad w 8 (o + 4))) X hT hWσ_243 3 8 200 vl3_o rfl rfl (by decide) rfl (by decide) in_X5 q534 rfl dX5_find_83 ?_
    refine lv_sipush (v := oI 128) X.1 X.2.1 dX5_find_86 (by decide) ?_
    refine wr_Z (rV (As := [.int (oI 128)]) (rest := []) X hT hWσ_243 hS (met_Row_isWhole l (w := w) hV (o + 4) 128 _ σ_243 (by omega) (rI_lit 128 (by decide)) h) (cwV 1 X.2.2.2.2 (lw_V q1295 q1296 q1297 q132 q1298) rfl rfl rfl (by decide +kernel) ⟨Nat.le_of_ble_eq_true rfl, Nat.le_of_ble_eq_true rfl⟩) vl8_o_4 (by decide) rfl rfl hl.1 rfl (by first | exact Nat.le_of_ble_eq_true rfl | simp [catK, catI, catR, catL]) dX5_find_89 ⟨Nat.le_refl _, Nat.le_refl _⟩) hS (fun r_244 σ_245 H locs rr_244 rkσ_245 h hWσ_245 hS => ?_)
    have h := h rr_244 rkσ_245
    refine w_if_eq (tgt := 242) X rr_244.i dX5_find_92 (by decide) (fun hc => ?_) (fun hc => ?_)
    · have h := h.1 hc
      exact wk_Store_find_b242 X hr hlk hT hV ho K44 hK44 y1 y3 y4 σ_245 _ _ _ ry1 ry3 ry4 (lv_sub hl [0, 1, 2, 3] rfl) hWσ_245 hS h
    · have h := h.2 hc
      refine lv_aload_n X.1 X.2.1 dX5_find_95 rfl (lv_at hl 0 rfl) ?_
      refine wg (v := .ref (wad w 8 (o + 4))) X hT hWσ_245 3 8 200 vl3_o rfl rfl (by decide) rfl (by decide) in_X5 q534 rfl dX5_find_96 ?_
      refine wr_I (rV (As := []) (rest := []) X hT hWσ_245 hS (met_Row_type l (w := w) hV (o + 4) _ σ_245 (by omega) h) (cwV 0 X.2.2.2.2 (lw_V q1302 q1303 q1304 q132 q1305) rfl rfl rfl (by decide +kernel) ⟨Nat.le_of_ble_eq_true rfl, Nat.le_of_ble_eq_true rfl⟩) vl8_o_4 (by decide) rfl rfl hl.1 rfl (by first | exact Nat.le_of_ble_eq_true rfl | simp [catK, catI, catR, catL]) dX5_find_99 ⟨Nat.le_refl _, Nat.le_refl _⟩) hS (fun r_246 σ_247 H locs rr_246 rkσ_247 h hWσ_247 hS => ?_)
      have h := h rr_246 rkσ_247
      refine lv_bipush (v := oI 6) X.1 X.2.1 dX5_find_102 (by decide) ?_
      refine w_icmp_ne (tgt := 242) X rr_246 ((rB_lit 6 (by decide)).i) dX5_find_104 (by decide) (fun hc => ?_) (fun hc => ?_)
      · have h := h.1 hc
        exact wk_Store_find_b242 X hr hlk hT hV ho K44 hK44 y1 y3 y4 σ_247 _ _ _ ry1 ry3 ry4 (lv_sub hl [0, 1, 2, 3] rfl) hWσ_247 hS h
      · have h := h.2 hc
        refine lv_aload_n X.1 X.2.1 dX5_find_107 rfl (lv_at hl 0 rfl) ?_
        refine wg (v := .ref (wad w 8 (o + 4))) X hT hWσ_247 3 8 200 vl3_o rfl rfl (by decide) rfl (by decide) in_X5 q534 rfl dX5_find_108 ?_
        refine wr_J (rV (As := []) (rest := []) X hT hWσ_247 hS (met_Row_serial l (w := w) hV (o + 4) _ σ_247 (by omega) h) (cwV 0 X.2.2.2.2 (lw_V q1691 q1692 q1693 q132 q1694) rfl rfl rfl (by decide +kernel) ⟨Nat.le_of_ble_eq_true rfl, Nat.le_of_ble_eq_true rfl⟩) vl8_o_4 (by decide) rfl rfl hl.1 rfl (by first | exact Nat.le_of_ble_eq_true rfl | simp [catK, catI, catR, catL]) dX5_find_111 ⟨Nat.le_refl _, Nat.le_refl _⟩) hS (fun r_248 σ_249 H locs rr_248 rkσ_249 h hWσ_249 hS => ?_)
        have h := h rr_248 rkσ_249
        refine lv_lload_n X.1 X.2.1 dX5_find_114 rfl (lv_at hl 1 rfl) ?_
        refine w_lcmp_le (tgt := 242) X rr_248 ry1 dX5_find_115 dX5_find_116 (by decide) (fun hc => ?_) (fun hc => ?_)
        · have h := h.1 hc
          exact wk_Store_find_b242 X hr hlk hT hV ho K44 hK44 y1 y3 y4 σ_249 _ _ _ ry1 ry3 ry4 (lv_sub hl [0, 1, 2, 3] rfl) hWσ_249 hS h
        · have h := h.2 hc
          refine lv_aload_n X.1 X.2.1 dX5_find_119 rfl (lv_at hl 0 rfl) ?_
          refine wg (v := .ref (wad w 8 (o + 4))) X hT hWσ_249 3 8 200 vl3_o rfl rfl (by decide) rfl (by decide) in_X5 q534 rfl dX5_find_120 ?_
          refine wr_J (rV (As := []) (rest := []) X hT hWσ_249 hS (met_Row_serial l (w := w) hV (o + 4) _ σ_249 (by omega) h) (cwV 0 X.2.2.2.2 (lw_V q1691 q1692 q1693 q132 q1694) rfl rfl rfl (by decide +kernel) ⟨Nat.le_of_ble_eq_true rfl, Nat.le_of_ble_eq_true rfl⟩) vl8_o_4 (by decide) rfl rfl hl.1 rfl (by first | exact Nat.le_of_ble_eq_true rfl | simp [catK, catI, catR, catL]) dX5_find_123 ⟨Nat.le_refl _, Nat.le_refl _⟩) hS (fun r_250 σ_251 H locs rr_250 rkσ_251 h hWσ_251 hS => ?_)
          have h := h rr_250 rkσ_251
          refine lv_lstore_n (i := 1) (lv' := [(1, .long (oL r_250)), (0, .ref (wad w 3 o)), (3, .int (oI y3)), (4, .int (oI y4))]) X.1 X.2.1 dX5_find_126 rfl hl (by decide) (by first | rfl | simp [catK, catI, catR, catL]) (fun ls hl => ?_)
          refine lv_aload_n X.1 X.2.1 dX5_find_127 rfl (lv_at hl 1 rfl) ?_
          refine lv_aload_n X.1 X.2.1 dX5_find_128 rfl (lv_at hl 1 rfl) ?_
          refine wg (v := .ref (wad w 8 (o + 4))) X hT hWσ_251 3 8 200 vl3_o rfl rfl (by decide) rfl (by decide) in_X5 q534 rfl dX5_find_129 ?_
          refine lv_iconst (v := oI 0) X.1 X.2.1 dX5_find_132 rfl ?_
          refine wr_I (rV (As := [.int (oI 0)]) (rest := [.ref (wad w 3 o)]) X hT hWσ_251 hS (met_Row_get l (w := w) hV (o + 4) 0 _ σ_251 (by omega) rZ_0.i h) (cwV 1 X.2.2.2.2 (lw_V q1306 q1207 q1208 q132 q1209) rfl rfl rfl (by decide +kernel) ⟨Nat.le_of_ble_eq_true rfl, Nat.le_of_ble_eq_true rfl⟩) vl8_o_4 (by decide) rfl rfl hl.1 rfl (by first | exact Nat.le_of_ble_eq_true rfl | simp [catK, catI, catR, catL]) dX5_find_133 ⟨Nat.le_refl _, Nat.le_refl _⟩) hS (fun r_252 σ_253 H locs rr_252 rkσ_253 h hWσ_253 hS => ?_)
          have h := h rr_252 rkσ_253
          refine wput (z := r_252) X hT hWσ_253 hS 3 20 212 vl3_o rfl rfl (by decide) rfl (by decide) in_X5 tyX5 tyX5_ok nmX5 q550 rfl rfl rr_252 (fv0 w rfl) rfl rfl dX5_find_136 (fun H locs hN hS => ?_)
          obtain ⟨σ_254, eσ_254⟩ : ∃ x, x = sI σ_253 212 o r_252 := ⟨_, rfl⟩
          have hWσ_254 : Wo w σ_254 H := eσ_254 ▸ hN
          have h := h σ_254 eσ_254
          clear hN
          refine lv_aload_n X.1 X.2.1 dX5_find_139 rfl (lv_at hl 1 rfl) ?_
          refine lv_aload_n X.1 X.2.1 dX5_find_140 rfl (lv_at hl 1 rfl) ?_
          refine wg (v := .ref (wad w 8 (o + 4))) X hT hWσ_254 3 8 200 vl3_o rfl rfl (by decide) rfl (by decide) in_X5 q534 rfl dX5_find_141 ?_
          refine lv_iconst (v := oI 4) X.1 X.2.1 dX5_find_144 rfl ?_
          refine wr_I (rV (As := [.int (oI 4)]) (rest := [.ref (wad w 3 o)]) X hT hWσ_254 hS (met_Row_get l (w := w) hV (o + 4) 4 _ σ_254 (by omega) ((rB_lit 4 (by decide)).i) h) (cwV 1 X.2.2.2.2 (lw_V q1306 q1207 q1208 q132 q1209) rfl rfl rfl (by decide +kernel) ⟨Nat.le_of_ble_eq_true rfl, Nat.le_of_ble_eq_true rfl⟩) vl8_o_4 (by decide) rfl rfl hl.1 rfl (by first | exact Nat.le_of_ble_eq_true rfl | simp [catK, catI, catR, catL]) dX5_find_145 ⟨Nat.le_refl _, Nat.le_refl _⟩) hS (fun r_255 σ_256 H locs rr_255 rkσ_256 h hWσ_256 hS => ?_)
          have h := h rr_255 rkσ_256
          refine wput (z := r_255) X hT hWσ_256 hS 3 16 208 vl3_o rfl rfl (by decide) rfl (by decide) in_X5 tyX5 tyX5_ok nmX5 q546 rfl rfl rr_255 (fv0 w rfl) rfl rfl dX5_find_148 (fun H locs hN hS => ?_)
          obtain ⟨σ_257, eσ_257⟩ : ∃ x, x = sI σ_256 208 o r_255 := ⟨_, rfl⟩
          have hWσ_257 : Wo w σ_257 H := eσ_257 ▸ hN
          have h := h σ_257 eσ_257
          clear hN
          refine lv_aload_n X.1 X.2.1 dX5_find_151 rfl (lv_at hl 1 rfl) ?_
          refine lv_aload_n X.1 X.2.1 dX5_find_152 rfl (lv_at hl 1 rfl) ?_
          refine wg (v := .ref (wad w 8 (o + 4))) X hT hWσ_257 3 8 200 vl3_o rfl rfl (by decide) rfl (by decide) in_X5 q534 rfl dX5_find_153 ?_
          refine lv_bipush (v := oI 8) X.1 X.2.1 dX5_find_156 (by decide) ?_
          refine wr_I (rV (As := [.int (oI 8)]) (rest := [.ref (wad w 3 o)]) X hT hWσ_257 hS (met_Row_get l (w := w) hV (o + 4) 8 _ σ_257 (by omega) ((rB_lit 8 (by decide)).i) h) (cwV 1 X.2.2.2.2 (lw_V q1306 q1207 q1208 q132 q1209) rfl rfl rfl (by decide +kernel) ⟨Nat.le_of_ble_eq_true rfl, Nat.le_of_ble_eq_true rfl⟩) vl8_o_4 (by decide) rfl rfl hl.1 rfl (by first | exact Nat.le_of_ble_eq_true rfl | simp [catK, catI, catR, catL]) dX5_find_158 ⟨Nat.le_refl _, Nat.le_refl _⟩) hS (fun r_258 σ_259 H locs rr_258 rkσ_259 h hWσ_259 hS => ?_)
          have h := h rr_258 rkσ_259
          refine wput (z := r_258) X hT hWσ_259 hS 3 14 206 vl3_o rfl rfl (by decide) rfl (by decide) in_X5 tyX5 tyX5_ok nmX5 q542 rfl rfl rr_258 (fv0 w rfl) rfl rfl dX5_find_161 (fun H locs hN hS => ?_)
          obtain ⟨σ_260, eσ_260⟩ : ∃ x, x = sI σ_259 206 o r_258 := ⟨_, rfl⟩
          have hWσ_260 : Wo w σ_260 H := eσ_260 ▸ hN
          have h := h σ_260 eσ_260
          clear hN
          refine lv_aload_n X.1 X.2.1 dX5_find_164 rfl (lv_at hl 1 rfl) ?_
          refine lv_aload_n X.1 X.2.1 dX5_find_165 rfl (lv_at hl 1 rfl) ?_
          refine wg (v := .ref (wad w 8 (o + 4))) X hT hWσ_260 3 8 200 vl3_o rfl rfl (by decide) rfl (by decide) in_X5 q534 rfl dX5_find_166 ?_
          refine lv_bipush (v := oI 12) X.1 X.2.1 dX5_find_169 (by decide) ?_
          refine wr_I (rV (As := [.int (oI 12)]) (rest := [.ref (wad w 3 o)]) X hT hWσ_260 hS (met_Row_get l (w := w) hV (o + 4) 12 _ σ_260 (by omega) ((rB_lit 12 (by decide)).i) h) (cwV 1 X.2.2.2.2 (lw_V q1306 q1207 q1208 q132 q1209) rfl rfl rfl (by decide +kernel) ⟨Nat.le_of_ble_eq_true rfl, Nat.le_of_ble_eq_true rfl⟩) vl8_o_4 (by decide) rfl rfl hl.1 rfl (by first | exact Nat.le_of_ble_eq_true rfl | simp [catK, catI, catR, catL]) dX5_find_171 ⟨Nat.le_refl _, Nat.le_refl _⟩) hS (fun r_261 σ_262 H locs rr_261 rkσ_262 h hWσ_262 hS => ?_)
          have h := h rr_261 rkσ_262
          refine wput (z := r_261) X hT hWσ_262 hS 3 15 207 vl3_o rfl rfl (by decide) rfl (by decide) in_X5 tyX5 tyX5_ok nmX5 q544 rfl rfl rr_261 (fv0 w rfl) rfl rfl dX5_find_174 (fun H locs hN hS => ?_)
          obtain ⟨σ_263, eσ_263⟩ : ∃ x, x = sI σ_262 207 o r_261 := ⟨_, rfl⟩
          have hWσ_263 : Wo w σ_263 H := eσ_263 ▸ hN
          have h := h σ_263 eσ_263
          clear hN
          refine lv_aload_n X.1 X.2.1 dX5_find_177 rfl (lv_at hl 1 rfl) ?_
          refine lv_aload_n X.1 X.2.1 dX5_find_178 rfl (lv_at hl 1 rfl) ?_
          refine wg (v := .ref (wad w 8 (o + 4))) X hT hWσ_263 3 8 200 vl3_o rfl rfl (by decide) rfl (by decide) in_X5 q534 rfl dX5_find_179 ?_
          refine lv_bipush (v := oI 16) X.1 X.2.1 dX5_find_182 (by decide) ?_
          refine wr_I (rV (As := [.int (oI 16)]) (rest := [.ref (wad w 3 o)]) X hT hWσ_263 hS (met_Row_get l (w := w) hV (o + 4) 16 _ σ_263 (by omega) ((rB_lit 16 (by decide)).i) h) (cwV 1 X.2.2.2.2 (lw_V q1306 q1207 q1208 q132 q1209) rfl rfl rfl (by decide +kernel) ⟨Nat.le_of_ble_eq_true rfl, Nat.le_of_ble_eq_true rfl⟩) vl8_o_4 (by decide) rfl rfl hl.1 rfl (by first | exact Nat.le_of_ble_eq_true rfl | simp [catK, catI, catR, catL]) dX5_find_184 ⟨Nat.le_refl _, Nat.le_refl _⟩) hS (fun r_264 σ_265 H locs rr_264 rkσ_265 h hWσ_265 hS => ?_)
          have h := h rr_264 rkσ_265
          refine wput (z := r_264) X hT hWσ_265 hS 3 29 221 vl3_o rfl rfl (by decide) rfl (by decide) in_X5 tyX5 tyX5_ok nmX5 q561 rfl rfl rr_264 (fv0 w rfl) rfl rfl dX5_find_187 (fun H locs hN hS => ?_)
          obtain ⟨σ_266, eσ_266⟩ : ∃ x, x = sI σ_265 221 o r_264 := ⟨_, rfl⟩
          have hWσ_266 : Wo w σ_266 H := eσ_266 ▸ hN
          have h := h σ_266 eσ_266
          clear hN
          refine lv_aload_n X.1 X.2.1 dX5_find_190 rfl (lv_at hl 1 rfl) ?_
          refine lv_aload_n X.1 X.2.1 dX5_find_191 rfl (lv_at hl 1 rfl) ?_
          refine wg (v := .ref (wad w 8 (o + 4))) X hT hWσ_266 3 8 200 vl3_o rfl rfl (by decide) rfl (by decide) in_X5 q534 rfl dX5_find_192 ?_
          refine lv_bipush (v := oI 20) X.1 X.2.1 dX5_find_195 (by decide) ?_
          refine wr_I (rV (As := [.int (oI 20)]) (rest := [.ref (wad w 3 o)]) X hT hWσ_266 hS (met_Row_get l (w := w) hV (o + 4) 20 _ σ_266 (by omega) ((rB_lit 20 (by decide)).i) h) (cwV 1 X.2.2.2.2 (lw_V q1306 q1207 q1208 q132 q1209) rfl rfl rfl (by decide +kernel) ⟨Nat.le_of_ble_eq_true rfl, Nat.le_of_ble_eq_true rfl⟩) vl8_o_4 (by decide) rfl rfl hl.1 rfl (by first | exact Nat.le_of_ble_eq_true rfl | simp [catK, catI, catR, catL]) dX5_find_197 ⟨Nat.le_refl _, Nat.le_refl _⟩) hS (fun r_267 σ_268 H locs rr_267 rkσ_268 h hWσ_268 hS => ?_)
          have h := h rr_267 rkσ_268
          refine wput (z := r_267) X hT hWσ_268 hS 3 11 203 vl3_o rfl rfl (by decide) rfl (by decide) in_X5 tyX5 tyX5_ok nmX5 q537 rfl rfl rr_267 (fv0 w rfl) rfl rfl dX5_find_200 (fun H locs hN hS => ?_)
          obtain ⟨σ_269, eσ_269⟩ : ∃ x, x = sI σ_268 203 o r_267 := ⟨_, rfl⟩
          have hWσ_269 : Wo w σ_269 H := eσ_269 ▸ hN
          have h := h σ_269 eσ_269
          clear hN
          refine lv_aload_n X.1 X.2.1 dX5_find_203 rfl (lv_at hl 1 rfl) ?_
          refine lv_aload_n X.1 X.2.1 dX5_find_204 rfl (lv_at hl 1 rfl) ?_
          refine wg (v := .ref (wad w 8 (o + 4))) X hT hWσ_269 3 8 200 vl3_o rfl rfl (by decide) rfl (by decide) in_X5 q534 rfl dX5_find_205 ?_
          refine lv_bipush (v := oI 24) X.1 X.2.1 dX5_find_208 (by decide) ?_
          refine wr_I (rV (As := [.int (oI 24)]) (rest := [.ref (wad w 3 o)]) X hT hWσ_269 hS (met_Row_get l (w := w) hV (o + 4) 24 _ σ_269 (by omega) ((rB_lit 24 (by decide)).i) h) (cwV 1 X.2.2.2.2 (lw_V q1306 q1207 q1208 q132 q1209) rfl rfl rfl (by decide +kernel) ⟨Nat.le_of_ble_eq_true rfl, Nat.le_of_ble_eq_true rfl⟩) vl8_o_4 (by decide) rfl rfl hl.1 rfl (by first | exact Nat.le_of_ble_eq_true rfl | simp [catK, catI, catR, catL]) dX5_find_210 ⟨Nat.le_refl _, Nat.le_refl _⟩) hS (fun r_270 σ_271 H locs rr_270 rkσ_271 h hWσ_271 hS => ?_)
          have h := h rr_270 rkσ_271
          refine wput (z := r_270) X hT hWσ_271 hS 3 22 214 vl3_o rfl rfl (by decide) rfl (by decide) in_X5 tyX5 tyX5_ok nmX5 q552 rfl rfl rr_270 (fv0 w rfl) rfl rfl dX5_find_213 (fun H locs hN hS => ?_)
          obtain ⟨σ_272, eσ_272⟩ : ∃ x, x = sI σ_271 214 o r_270 := ⟨_, rfl⟩
          have hWσ_272 : Wo w σ_272 H := eσ_272 ▸ hN
          have h := h σ_272 eσ_272
          clear hN
          refine lv_aload_n X.1 X.2.1 dX5_find_216 rfl (lv_at hl 1 rfl) ?_
          refine lv_aload_n X.1 X.2.1 dX5_find_217 rfl (lv_at hl 1 rfl) ?_
          refine wg (v := .ref (wad w 8 (o + 4))) X hT hWσ_272 3 8 200 vl3_o rfl rfl (by decide) rfl (by decide) in_X5 q534 rfl dX5_find_218 ?_
          refine lv_bipush (v := oI 28) X.1 X.2.1 dX5_find_221 (by decide) ?_
          refine wr_I (rV (As := [.int (oI 28)]) (rest := [.ref (wad w 3 o)]) X hT hWσ_272 hS (met_Row_get l (w := w) hV (o + 4) 28 _ σ_272 (by omega) ((rB_lit 28 (by decide)).i) h) (cwV 1 X.2.2.2.2 (lw_V q1306 q1207 q1208 q132 q1209) rfl rfl rfl (by decide +kernel) ⟨Nat.le_of_ble_eq_true rfl, Nat.le_of_ble_eq_true rfl⟩) vl8_o_4 (by decide) rfl rfl hl.1 rfl (by first | exact Nat.le_of_ble_eq_true rfl | simp [catK, catI, catR, catL]) dX5_find_223 ⟨Nat.le_refl _, Nat.le_refl _⟩) hS (fun r_273 σ_274 H locs rr_273 rkσ_274 h hWσ_274 hS => ?_)
          have h := h rr_273 rkσ_274
          refine wput (z := r_273) X hT hWσ_274 hS 3 23 215 vl3_o rfl rfl (by decide) rfl (by decide) in_X5 tyX5 tyX5_ok nmX5 q553 rfl rfl rr_273 (fv0 w rfl) rfl rfl dX5_find_226 (fun H locs hN hS => ?_)
          obtain ⟨σ_275, eσ_275⟩ : ∃ x, x = sI σ_274 215 o r_273 := ⟨_, rfl⟩
          have hWσ_275 : Wo w σ_275 H := eσ_275 ▸ hN
          have h := h σ_275 eσ_275
          clear hN
          refine lv_aload_n X.1 X.2.1 dX5_find_229 rfl (lv_at hl 1 rfl) ?_
          refine lv_aload_n X.1 X.2.1 dX5_find_230 rfl (lv_at hl 1 rfl) ?_
          refine wg (v := .ref (wad w 8 (o + 4))) X hT hWσ_275 3 8 200 vl3_o rfl rfl (by decide) rfl (by decide) in_X5 q534 rfl dX5_find_231 ?_
          refine lv_bipush (v := oI 32) X.1 X.2.1 dX5_find_234 (by decide) ?_
          refine wr_I (rV (As := [.int (oI 32)]) (rest := [.ref (wad w 3 o)]) X hT hWσ_275 hS (met_Row_get l (w := w) hV (o + 4) 32 _ σ_275 (by omega) ((rB_lit 32 (by decide)).i) h) (cwV 1 X.2.2.2.2 (lw_V q1306 q1207 q1208 q132 q1209) rfl rfl rfl (by decide +kernel) ⟨Nat.le_of_ble_eq_true rfl, Nat.le_of_ble_eq_true rfl⟩) vl8_o_4 (by decide) rfl rfl hl.1 rfl (by first | exact Nat.le_of_ble_eq_true rfl | simp [catK, catI, catR, catL]) dX5_find_236 ⟨Nat.le_refl _, Nat.le_refl _⟩) hS (fun r_276 σ_277 H locs rr_276 rkσ_277 h hWσ_277 hS => ?_)
          have h := h rr_276 rkσ_277
          refine wput (z := r_276) X hT hWσ_277 hS 3 24 216 vl3_o rfl rfl (by decide) rfl (by decide) in_X5 tyX5 tyX5_ok nmX5 q554 rfl rfl rr_276 (fv0 w rfl) rfl rfl dX5_find_239 (fun H locs hN hS => ?_)
          obtain ⟨σ_278, eσ_278⟩ : ∃ x, x = sI σ_277 216 o r_276 := ⟨_, rfl⟩
          have hWσ_278 : Wo w σ_278 H := eσ_278 ▸ hN
          have h := h σ_278 eσ_278
          clear hN
          exact wk_Store_find_b242 X hr hlk hT hV ho K44 hK44 r_250 y3 y4 σ_278 _ _ _ rr_250 ry3 ry4 (lv_sub hl [1, 0, 2, 3] rfl) hWσ_278 hS h
theorem wk_Store_find_L44 {p : Program} {l : Launch} {e : Env} {st : State} {m : MethodId} {args : Array Value} {below : List Frame} {meth : Method} {c : Code} {w : Wp} {o : Int} {Q : St → Prop} (X : CallFix p m c cX5_find 5 st args lw_all RX5) (hr : meth.sig.returnType = none) (hlk : meth.locks = false) (hT : Tb w st) (hV : Hvl w) (ho : 0 ≤ o ∧ o < 2) (K36 : Int → Int → St → Prop) (hK36 : ∀ (y1 y3 : Int) (σ : St) (H : Heap) (locs : List Loc) (ls : Array Slot), rJ y1 → rI y3 → lv_has ls 5 [(0, .ref (wad w 3 o)), (1, .long (oL y1)), (3, .int (oI y3))] → Wo w σ H → va_S (wA w) st.heap H locs → K36 y1 y3 σ → W p l e (headSpec (ws_ yX5_find cX5_find 5 none) rm_Store_find).room st m args below meth c H locs 0 0 (MQ below (QcV w Q) args st 0 0 (wA w)) (F0 m 36 ls [])) : ∀ (y1 y3 y4 : Int) (σ : St) (H : Heap) (locs : List Loc) (ls : Array Slot), rJ y1 → rI y3 → rI y4 → lv_has ls 5 [(0, .ref (wad w 3 o)), (1, .long (oL y1)), (3, .int (oI y3)), (4, .int (oI y4))] → Wo w σ H → va_S (wA w) st.heap H locs → lQ3 (wp_Store_find_L44 (wc w) (wtv w) o Q K36) y1 y3 y4 σ → W p l e (headSpec (ws_ yX5_find cX5_find 5 none) rm_Store_find).room st m args below meth c H locs 0 0 (MQ below (QcV w Q) args st 0 0 (wA w)) (F0 m 44 ls []) := by
  intro y1 y3 y4 σ H locs ls ry1 ry3 ry4 hl hW hS h
  obtain ⟨fu, h⟩ := h
  induction fu generalizing y1 y3 y4 σ H locs ls with
  | zero => exact h.elim
  | succ fu ih =>
    exact wk_Store_find_L44B X hr hlk hT hV ho K36 (lq3 (wp_Store_find_L44 (wc w) (wtv w) o Q K36) fu) hK36 (fun y1 y3 y4 σ H locs ls ry1 ry3 ry4 hl hW hS h => ih y1 y3 y4 σ H locs ls ry1 ry3 ry4 hl hW hS h) y1 y3 y4 σ H locs ls ry1 ry3 ry4 hl hW hS h
set_option maxHeartbeats 4000000 in
set_option maxRecDepth 100000 in
theorem wk_Store_find_L36B {p : Program} {l : Launch} {e : Env} {st : State} {m : MethodId} {args : Array Value} {below : List Frame} {meth : Method} {c : Code} {w : Wp} {o : Int} {Q : St → Prop} (X : CallFix p m c cX5_find 5 st args lw_all RX5) (hr : meth.sig.returnType = none) (hlk : meth.locks = false) (hT : Tb w st) (hV : Hvl w) (ho : 0 ≤ o ∧ o < 2) (K36 : Int → Int → St → Prop) (hK36 : ∀ (y1 y3 : Int) (σ : St) (H : Heap) (locs : List Loc) (ls : Array Slot), rJ y1 → rI y3 → lv_has ls 5 [(0, .ref (wad w 3 o)), (1, .long (oL y1)), (3, .int (oI y3))] → Wo w σ H → va_S (wA w) st.heap H locs → K36 y1 y3 σ → W p l e (headSpec (ws_ yX5_find cX5_find 5 none) rm_Store_find).room st m args below meth c H locs 0 0 (MQ below (QcV w Q) args st 0 0 (wA w)) (F0 m 36 ls [])) : ∀ (y1 y3 : Int) (σ : St) (H : Heap) (locs : List Loc) (ls : Array Slot), rJ y1 → rI y3 → lv_has ls 5 [(0, .ref (wad w 3 o)), (1, .long (oL y1)), (3, .int (oI y3))] → Wo w σ H → va_S (wA w) st.heap H locs → wp_Store_find_L36 (wc w) (wtv w) o Q K36 y1 y3 σ → W p l e (headSpec (ws_ yX5_find cX5_find 5 none) rm_Store_find).room st m args below meth c H locs 0 0 (MQ below (QcV w Q) args st 0 0 (wA w)) (F0 m 36 ls []) := by
  have vl3_o : vl w 3 o := hV.hv 3 rfl ⟨by omega, by show _ < (2 : Int); omega⟩
  have vl325_o : vl w 325 o := hV.hv 325 rfl ⟨by omega, by show _ < (2 : Int); omega⟩
  have vl5_o : vl w 5 o := hV.hv 5 rfl ⟨by omega, by show _ < (2 : Int); omega⟩
  have vl6_o : vl w 6 o := hV.hv 6 rfl ⟨by omega, by show _ < (2 : Int); omega⟩
  have vl8_o : vl w 8 o := hV.hv 8 rfl ⟨by omega, by show _ < (8 : Int); omega⟩
  intro y1 y3 σ H locs ls ry1 ry3 hl hW hS h
  unfold wp_Store_find_L36 at h
  refine lv_iload_n X.1 X.2.1 dX5_find_36 rfl (lv_at hl 2 rfl) ?_
  refine lv_iconst (v := oI 2) X.1 X.2.1 dX5_find_37 rfl ?_
  refine w_icmp_ge (tgt := 254) X ry3 ((rB_lit 2 (by decide)).i) dX5_find_38 (by decide) (fun hc => ?_) (fun hc => ?_)
  · have h := h.1 hc
    refine lv_aload_n X.1 X.2.1 dX5_find_254 rfl (lv_at hl 0 rfl) ?_
    refine lv_lload_n X.1 X.2.1 dX5_find_255 rfl (lv_at hl 1 rfl) ?_
    refine wput (z := y1) X hT hW hS 3 10 202 vl3_o rfl rfl (by decide) rfl (by decide) in_X5 tyX5 tyX5_ok nmX5 q536 rfl rfl ry1 (fv1 w rfl) rfl rfl dX5_find_256 (fun H locs hN hS => ?_)
    obtain ⟨σ_279, eσ_279⟩ : ∃ x, x = sI σ 202 o y1 := ⟨_, rfl⟩
    have hWσ_279 : Wo w σ_279 H := eσ_279 ▸ hN
    have h := h σ_279 eσ_279
    clear hN
    refine lv_aload_n X.1 X.2.1 dX5_find_259 rfl (lv_at hl 0 rfl) ?_
    refine wg (v := .ref (wad w 6 o)) X hT hWσ_279 3 2 194 vl3_o rfl rfl (by decide) rfl (by decide) in_X5 q526 rfl dX5_find_260 ?_
    refine lv_aload_n X.1 X.2.1 dX5_find_263 rfl (lv_at hl 0 rfl) ?_
    refine lv_aload_n X.1 X.2.1 dX5_find_264 rfl (lv_at hl 0 rfl) ?_
    refine wg (v := .int (oI (gI σ_279 206 o))) X hT hWσ_279 3 14 206 vl3_o rfl rfl (by decide) rfl (by decide) in_X5 q542 rfl dX5_find_265 ?_
    refine lv_aload_n X.1 X.2.1 dX5_find_268 rfl (lv_at hl 0 rfl) ?_
    refine wg (v := .int (oI (gI σ_279 207 o))) X hT hWσ_279 3 15 207 vl3_o rfl rfl (by decide) rfl (by decide) in_X5 q544 rfl dX5_find_269 ?_
    refine lv_aload_n X.1 X.2.1 dX5_find_272 rfl (lv_at hl 0 rfl) ?_
    refine wg (v := .int (oI (gI σ_279 221 o))) X hT hWσ_279 3 29 221 vl3_o rfl rfl (by decide) rfl (by decide) in_X5 q561 rfl dX5_find_273 ?_
    refine wr_K (rV (As := [.int (oI (gI σ_279 206 o)), .int (oI (gI σ_279 207 o)), .int (oI (gI σ_279 221 o))]) (rest := [.ref (wad w 6 o)]) X hT hWσ_279 hS (met_Store_load l hV 12 o (gI σ_279 206 o) (gI σ_279 207 o) (gI σ_279 221 o) _ σ_279 (by omega) (hWσ_279.r.i 206 o rfl) (hWσ_279.r.i 207 o rfl) (hWσ_279.r.i 221 o rfl) h) (cwV 3 X.2.2.2.2 (lw_V q1695 q1697 qs75 q136 q1698) rfl rfl rfl (by decide +kernel) ⟨Nat.le_of_ble_eq_true rfl, Nat.le_of_ble_eq_true rfl⟩) vl3_o (by decide) rfl rfl hl.1 rfl (by first | exact Nat.le_of_ble_eq_true rfl | simp [catK, catI, catR, catL]) dX5_find_276 ⟨Nat.le_refl _, Nat.le_refl _⟩) hS (fun r_280 σ_281 H locs rr_280 rkσ_281 h hWσ_281 hS => ?_)
    have h := h rr_280 rkσ_281
    refine wr_V (rV (As := [va_rf (knO w r_280)]) (rest := []) X hT hWσ_281 hS (met_Index_plant l (w := w) hV o r_280 _ σ_281 (by omega) rr_280 h) (cwV 1 X.2.2.2.2 (lw_V q1702 q1703 q1704 q139 q1705) rfl rfl rfl (by decide +kernel) ⟨Nat.le_of_ble_eq_true rfl, Nat.le_of_ble_eq_true rfl⟩) vl6_o (by decide) rfl rfl hl.1 rfl (by first | exact Nat.le_of_ble_eq_true rfl | simp [catK, catI, catR, catL]) dX5_find_279 ⟨Nat.le_refl _, Nat.le_refl _⟩) hS (fun σ_283 H locs rkσ_283 h hWσ_283 hS => ?_)
    have h := h rkσ_283
    refine lv_aload_n X.1 X.2.1 dX5_find_282 rfl (lv_at hl 0 rfl) ?_
    refine lv_aload_n X.1 X.2.1 dX5_find_283 rfl (lv_at hl 0 rfl) ?_
    refine wg (v := .int (oI (gI σ_283 214 o))) X hT hWσ_283 3 22 214 vl3_o rfl rfl (by decide) rfl (by decide) in_X5 q552 rfl dX5_find_284 ?_
    refine lv_aload_n X.1 X.2.1 dX5_find_287 rfl (lv_at hl 0 rfl) ?_
    refine wg (v := .int (oI (gI σ_283 215 o))) X hT hWσ_283 3 23 215 vl3_o rfl rfl (by decide) rfl (by decide) in_X5 q553 rfl dX5_find_288 ?_
    refine lv_aload_n X.1 X.2.1 dX5_find_291 rfl (lv_at hl 0 rfl) ?_
    refine wg (v := .int (oI (gI σ_283 216 o))) X hT hWσ_283 3 24 216 vl3_o rfl rfl (by decide) rfl (by decide) in_X5 q554 rfl dX5_find_292 ?_
    refine lv_aload_n X.1 X.2.1 dX5_find_295 rfl (lv_at hl 0 rfl) ?_
    refine wg (v := .ref (wad w 8 o)) X hT hWσ_283 3 6 198 vl3_o rfl rfl (by decide) rfl (by decide) in_X5 q531 rfl dX5_find_296 ?_
    refine wr_V (rV (As := [.int (oI (gI σ_283 214 o)), .int (oI (gI σ_283 215 o)), .int (oI (gI σ_283 216 o)), .ref (wad w 8 o)]) (rest := []) X hT hWσ_283 hS (met_Store_read l (w := w) hV o (gI σ_283 214 o) (gI σ_283 215 o) (gI σ_283 216 o) o _ σ_283 (by omega) (hWσ_283.r.i 214 o rfl) (hWσ_283.r.i 215 o rfl) (hWσ_283.r.i 216 o rfl) (by omega) h) (cwV 4 X.2.2.2.2 (lw_V q1293 q1184 q1185 q136 q1186) rfl rfl rfl (by decide +kernel) ⟨Nat.le_of_ble_eq_true rfl, Nat.le_of_ble_eq_true rfl⟩) vl3_o (by decide) rfl rfl hl.1 rfl (by first | exact Nat.le_of_ble_eq_true rfl | simp [catK, catI, catR, catL]) dX5_find_299 ⟨Nat.le_refl _, Nat.le_refl _⟩) hS (fun σ_285 H locs rkσ_285 h hWσ_285 hS => ?_)
    have h := h rkσ_285
    refine lv_aload_n X.1 X.2.1 dX5_find_302 rfl (lv_at hl 0 rfl) ?_
    refine wg (v := .ref (wad w 5 o)) X hT hWσ_285 3 1 193 vl3_o rfl rfl (by decide) rfl (by decide) in_X5 q525 rfl dX5_find_303 ?_
    refine wg (v := .ref (wad w 325 o)) X hT hWσ_285 5 5 325 vl5_o rfl rfl (by decide) rfl (by decide) in_X7 q349 rfl dX5_find_306 ?_
    refine lv_aload_n X.1 X.2.1 dX5_find_309 rfl (lv_at hl 0 rfl) ?_
    refine wg (v := .int (oI (gI σ_285 214 o))) X hT hWσ_285 3 22 214 vl3_o rfl rfl (by decide) rfl (by decide) in_X5 q552 rfl dX5_find_310 ?_
    refine lv_iconst (v := oI 1) X.1 X.2.1 dX5_find_313 rfl ?_
    obtain ⟨bi, h⟩ := h
    refine w_zast (n := ((wc w).1 - 6)) X hT hWσ_285 hS 325 vl325_o (by decide) rfl rfl bi rZ_1 dX5_find_314 (fun H locs hN hS => ?_)
    obtain ⟨σ_286, eσ_286⟩ : ∃ x, x = sA σ_285 325 o (gI σ_285 214 o) 1 := ⟨_, rfl⟩
    have hWσ_286 : Wo w σ_286 H := eσ_286 ▸ hN
    have h := h σ_286 eσ_286
    clear hN
    refine lv_aload_n X.1 X.2.1 dX5_find_315 rfl (lv_at hl 0 rfl) ?_
    refine wg (v := .ref (wad w 5 o)) X hT hWσ_286 3 1 193 vl3_o rfl rfl (by decide) rfl (by decide) in_X5 q525 rfl dX5_find_316 ?_
    refine wg (v := .int (oI (4 + (wc w).2.2))) X hT hWσ_286 5 1 321 vl5_o rfl rfl (by decide) rfl (by decide) in_X7 q338 rfl dX5_find_319 ?_
    refine w_top (fun y3_287 ey3_287 => ?_)
    have h := h y3_287 ey3_287
    have ry3_287 : rI y3_287 := by rw [ey3_287]; exact (cin_r hT.c 321)
    refine lv_istore_n (i := 3) (lv' := [(3, .int (oI y3_287)), (0, .ref (wad w 3 o)), (1, .long (oL y1))]) X.1 X.2.1 dX5_find_322 rfl hl (by decide) (by first | rfl | simp [catK, catI, catR, catL]) (fun ls hl => ?_)
    exact wk_Store_find_L323 X hr hlk hT hV ho y3_287 σ_286 _ _ _ ry3_287 (lv_sub hl [1, 0] rfl) hWσ_286 hS h
  · have h := h.2 hc
    refine lv_iconst (v := oI 0) X.1 X.2.1 dX5_find_41 rfl ?_
    refine lv_istore (i := 4) (lv' := [(4, .int (oI 0)), (0, .ref (wad w 3 o)), (1, .long (oL y1)), (3, .int (oI y3))]) X.1 X.2.1 dX5_find_42 hl (by decide) (by first | rfl | simp [catK, catI, catR, catL]) (fun ls hl => ?_)
    exact wk_Store_find_L44 X hr hlk hT hV ho K36 hK36 y1 y3 0 σ _ _ _ ry1 ry3 rZ_0.i (lv_sub hl [1, 2, 3, 0] rfl) hW hS h
theorem wk_Store_find_L36 {p : Program} {l : Launch} {e : Env} {st : State} {m : MethodId} {args : Array Value} {below : List Frame} {meth : Method} {c : Code} {w : Wp} {o : Int} {Q : St → Prop} (X : CallFix p m c cX5_find 5 st args lw_all RX5) (hr : meth.sig.returnType = none) (hlk : meth.locks = false) (hT : Tb w st) (hV : Hvl w) (ho : 0 ≤ o ∧ o < 2) : ∀ (y1 y3 : Int) (σ : St) (H : Heap) (locs : List Loc) (ls : Array Slot), rJ y1 → rI y3 → lv_has ls 5 [(0, .ref (wad w 3 o)), (1, .long (oL y1)), (3, .int (oI y3))] → Wo w σ H → va_S (wA w) st.heap H locs → lQ2 (wp_Store_find_L36 (wc w) (wtv w) o Q) y1 y3 σ → W p l e (headSpec (ws_ yX5_find cX5_find 5 none) rm_Store_find).room st m args below meth c H locs 0 0 (MQ below (QcV w Q) args st 0 0 (wA w)) (F0 m 36 ls []) := by
  intro y1 y3 σ H locs ls ry1 ry3 hl hW hS h
  obtain ⟨fu, h⟩ := h
  induction fu generalizing y1 y3 σ H locs ls with
  | zero => exact h.elim
  | succ fu ih =>
    exact wk_Store_find_L36B X hr hlk hT hV ho (lq2 (wp_Store_find_L36 (wc w) (wtv w) o Q) fu) (fun y1 y3 σ H locs ls ry1 ry3 hl hW hS h => ih y1 y3 σ H locs ls ry1 ry3 hl hW hS h) y1 y3 σ H locs ls ry1 ry3 hl hW hS h
set_option maxHeartbeats 4000000 in
set_option maxRecDepth 100000 in
theorem met_Store_find (l : Launch) {w : Wp} (hV : Hvl w) (o : Int) (Q : St → Prop) (σ : St) (ho : 0 ≤ o ∧ o < 2) (h : wp_Store_find (wc w) (wtv w) o Q σ) : Met l yX5_find (ws_ yX5_find cX5_find 5 none) rm_Store_find (PcW w σ [.ref (wad w 3 o)]) (QcV w Q) 0 0 (wA w) := by
  refine Met.ofW (cc := cX5_find) (maxL := 5) (ret := none) (by decide) rfl ?_
  intro p e st m args below meth c s₁ B hml hv
  obtain ⟨hargs, hW, hT⟩ := hv
  have X : CallFix p m c cX5_find 5 st _ lw_all RX5 := ⟨B.exec, B.bytes, hml, findClass_of_methodNamed B.named, fun w h => atoms_spec (ws := ws_ yX5_find cX5_find 5 none) B.pre w (List.mem_cons_of_mem _ h)⟩
  have hr := B.returns
  have hlk := B.notSynchronized
  have hS : va_S (wA w) st.heap st.heap [] := va_S.rf
  have vl3_o : vl w 3 o := hV.hv 3 rfl ⟨by omega, by show _ < (2 : Int); omega⟩
  have vl4_o : vl w 4 o := hV.hv 4 rfl ⟨by omega, by show _ < (2 : Int); omega⟩
  have vl5_o : vl w 5 o := hV.hv 5 rfl ⟨by omega, by show _ < (2 : Int); omega⟩
  have vl6_o : vl w 6 o := hV.hv 6 rfl ⟨by omega, by show _ < (2 : Int); omega⟩
  have hl := lv_entry ([.ref (wad w 3 o)]) (n := 5) (Nat.le_of_ble_eq_true rfl)
  have hfr := lg_entry_eq m ([.ref (wad w 3 o)]) 5
  rw [← hargs] at hfr
  rw [hfr]
  generalize (lg_sl ([.ref (wad w 3 o)]) ++ List.replicate (5 - (lg_sl ([.ref (wad w 3 o)])).length) Slot.unset).toArray = ls at hl ⊢
  have hl : lv_has ls 5 [(0, .ref (wad w 3 o))] := hl
  unfold wp_Store_find at h
  refine lv_aload_n X.1 X.2.1 dX5_find_0 rfl (lv_at hl 0 rfl) ?_
  refine wr_V (rV (As := []) (rest := []) X hT hW hS (met_Store_lose l (w := w) hV o _ σ (by omega) h) (cwV 0 X.2.2.2.2 (lw_V q1659 q1643 q1644 q136 q1645) rfl rfl rfl (by decide +kernel) ⟨Nat.le_of_ble_eq_true rfl, Nat.le_of_ble_eq_true rfl⟩) vl3_o (by decide) rfl rfl hl.1 rfl (by first | exact Nat.le_of_ble_eq_true rfl | simp [catK, catI, catR, catL]) dX5_find_1 ⟨Nat.le_refl _, Nat.le_refl _⟩) hS (fun σ_289 H locs rkσ_289 h hWσ_289 hS => ?_)
  have h := h rkσ_289
  refine lv_aload_n X.1 X.2.1 dX5_find_4 rfl (lv_at hl 0 rfl) ?_
  refine lv_lconst (v := oL 0) X.1 X.2.1 dX5_find_5 (by decide) ?_
  refine wput (z := 0) X hT hWσ_289 hS 3 36 228 vl3_o rfl rfl (by decide) rfl (by decide) in_X5 tyX5 tyX5_ok nmX5 q568 rfl rfl (rJ_lit 0 (by decide)) (fv1 w rfl) rfl rfl dX5_find_6 (fun H locs hN hS => ?_)
  obtain ⟨σ_290, eσ_290⟩ : ∃ x, x = sI σ_289 228 o 0 := ⟨_, rfl⟩
  have hWσ_290 : Wo w σ_290 H := eσ_290 ▸ hN
  have h := h σ_290 eσ_290
  clear hN
  refine lv_aload_n X.1 X.2.1 dX5_find_9 rfl (lv_at hl 0 rfl) ?_
  refine wg (v := .ref (wad w 4 o)) X hT hWσ_290 3 0 192 vl3_o rfl rfl (by decide) rfl (by decide) in_X5 q523 rfl dX5_find_10 ?_
  refine wr_V (rV (As := []) (rest := []) X hT hWσ_290 hS (met_Blocks_attach l (w := w) hV o _ σ_290 (by omega) h) (cwV 0 X.2.2.2.2 (lw_V q1660 q1661 q1662 q137 q1663) rfl rfl rfl (by decide +kernel) ⟨Nat.le_of_ble_eq_true rfl, Nat.le_of_ble_eq_true rfl⟩) vl4_o (by decide) rfl rfl hl.1 rfl (by first | exact Nat.le_of_ble_eq_true rfl | simp [catK, catI, catR, catL]) dX5_find_13 ⟨Nat.le_refl _, Nat.le_refl _⟩) hS (fun σ_292 H locs rkσ_292 h hWσ_292 hS => ?_)
  have h := h rkσ_292
  refine lv_aload_n X.1 X.2.1 dX5_find_16 rfl (lv_at hl 0 rfl) ?_
  refine wg (v := .ref (wad w 5 o)) X hT hWσ_292 3 1 193 vl3_o rfl rfl (by decide) rfl (by decide) in_X5 q525 rfl dX5_find_17 ?_
  refine wr_V (rV (As := []) (rest := []) X hT hWσ_292 hS (met_Space_clear l (w := w) hV o _ σ_292 (by omega) h) (cwV 0 X.2.2.2.2 (lw_V q712 q713 q714 q138 q715) rfl rfl rfl (by decide +kernel) ⟨Nat.le_of_ble_eq_true rfl, Nat.le_of_ble_eq_true rfl⟩) vl5_o (by decide) rfl rfl hl.1 rfl (by first | exact Nat.le_of_ble_eq_true rfl | simp [catK, catI, catR, catL]) dX5_find_20 ⟨Nat.le_refl _, Nat.le_refl _⟩) hS (fun σ_294 H locs rkσ_294 h hWσ_294 hS => ?_)
  have h := h rkσ_294
  refine lv_aload_n X.1 X.2.1 dX5_find_23 rfl (lv_at hl 0 rfl) ?_
  refine wg (v := .ref (wad w 6 o)) X hT hWσ_294 3 2 194 vl3_o rfl rfl (by decide) rfl (by decide) in_X5 q526 rfl dX5_find_24 ?_
  refine wr_V (rV (As := []) (rest := []) X hT hWσ_294 hS (met_Index_clear l (w := w) hV o _ σ_294 (by omega) h) (cwV 0 X.2.2.2.2 (lw_V q720 q721 q722 q139 q723) rfl rfl rfl (by decide +kernel) ⟨Nat.le_of_ble_eq_true rfl, Nat.le_of_ble_eq_true rfl⟩) vl6_o (by decide) rfl rfl hl.1 rfl (by first | exact Nat.le_of_ble_eq_true rfl | simp [catK, catI, catR, catL]) dX5_find_27 ⟨Nat.le_refl _, Nat.le_refl _⟩) hS (fun σ_296 H locs rkσ_296 h hWσ_296 hS => ?_)
  have h := h rkσ_296
  refine w_ldc2 X (z := (-1)) q1690 (by decide) dX5_find_30 ?_
  refine lv_lstore_n (i := 1) (lv' := [(1, .long (oL (-1))), (0, .ref (wad w 3 o))]) X.1 X.2.1 dX5_find_33 rfl hl (by decide) (by first | rfl | simp [catK, catI, catR, catL]) (fun ls hl => ?_)
  refine lv_iconst (v := oI 0) X.1 X.2.1 dX5_find_34 rfl ?_
  refine lv_istore_n (i := 3) (lv' := [(3, .int (oI 0)), (1, .long (oL (-1))), (0, .ref (wad w 3 o))]) X.1 X.2.1 dX5_find_35 rfl hl (by decide) (by first | rfl | simp [catK, catI, catR, catL]) (fun ls hl => ?_)
  exact wk_Store_find_L36 X hr hlk hT hV ho (-1) 0 σ_296 _ _ _ (rJ_lit (-1) (by decide)) rZ_0.i (lv_sub hl [2, 1, 0] rfl) hWσ_296 hS h
/-! Store.settle()V -/
set_option maxHeartbeats 4000000 in
set_option maxRecDepth 100000 in
theorem wk_Store_settle_b65 {p : Program} {l : Launch} {e : Env} {st : State} {m : MethodId} {args : Array Value} {below : List Frame} {meth : Method} {c : Code} {w : Wp} {o : Int} {Q : St → Prop} (X : CallFix p m c cX5_settle 2 st args lw_all RX5) (hr : meth.sig.returnType = none) (hlk : meth.locks = false) (hT : Tb w st) (hV : Hvl w) (ho : 0 ≤ o ∧ o < 2) (K8 : Int → St → Prop) (hK8 : ∀ (y1 : Int) (σ : St) (H : Heap) (locs : List Loc) (ls : Array Slot), rI y1 → lv_has ls 2 [(0, .ref (wad w 3 o)), (1, .int (oI y1))] → Wo w σ H → va_S (wA w) st.heap H locs → K8 y1 σ → W p l e (headSpec (ws_ yX5_settle cX5_settle 2 none) rm_Store_settle).room st m args below meth c H locs 0 0 (MQ below (QcV w Q) args st 0 0 (wA w)) (F0 m 8 ls [])) : ∀ (y1 : Int) (σ : St) (H : Heap) (locs : List Loc) (ls : Array Slot), rI y1 → lv_has ls 2 [(0, .ref (wad w 3 o)), (1, .int (oI y1))] → Wo w σ H → va_S (wA w) st.heap H locs → wp_Store_settle_b65 (wc w) (wtv w) o Q K8 y1 σ → W p l e (headSpec (ws_ yX5_settle cX5_settle 2 none) rm_Store_settle).room st m args below meth c H locs 0 0 (MQ below (QcV w Q) args st 0 0 (wA w)) (F0 m 65 ls []) := by

  intro y1 σ H locs ls ry1 hl hW hS h
  unfold wp_Store_settle_b65 at h
  obtain ⟨y1_10, ey1_10⟩ : ∃ y : Int, y = w32 (y1 + 1) := ⟨_, rfl⟩
  have h := h y1_10 ey1_10
  have ry1_10 : rI y1_10 := by rw [ey1_10]; exact w32_r _
  refine lv_iinc (v := oI y1_10) (lv' := [(1, .int (oI y1_10)), (0, .ref (wad w 3 o))]) X.1 X.2.1 dX5_settle_65 hl (k := 1) rfl (by rw [ey1_10]; exact oI_add _ _) (by decide) (by first | rfl | simp [catK, catI, catR, catL]) (fun ls hl => ?_)
  refine lv_goto (tgt := 8) X.1 X.2.1 dX5_settle_68 (by decide) ?_
  exact hK8 y1_10 σ _ _ _ ry1_10 (lv_sub hl [1, 0] rfl) hW hS h
set_option maxHeartbeats 4000000 in
set_option maxRecDepth 100000 in
theorem wk_Store_settle_L8B {p : Program} {l : Launch} {e : Env} {st : State} {m : MethodId} {args : Array Value} {below : List Frame} {meth : Method} {c : Code} {w : Wp} {o : Int} {Q : St → Prop} (X : CallFix p m c cX5_settle 2 st args lw_all RX5) (hr : meth.sig.returnType = none) (hlk : meth.locks = false) (hT : Tb w st) (hV : Hvl w) (ho : 0 ≤ o ∧ o < 2) (K8 : Int → St → Prop) (hK8 : ∀ (y1 : Int) (σ : St) (H : Heap) (locs : List Loc) (ls : Array Slot), rI y1 → lv_has ls 2 [(0, .ref (wad w 3 o)), (1, .int (oI y1))] → Wo w σ H → va_S (wA w) st.heap H locs → K8 y1 σ → W p l e (headSpec (ws_ yX5_settle cX5_settle 2 none) rm_Store_settle).room st m args below meth c H locs 0 0 (MQ below (QcV w Q) args st 0 0 (wA w)) (F0 m 8 ls [])) : ∀ (y1 : Int) (σ : St) (H : Heap) (locs : List Loc) (ls : Array Slot), rI y1 → lv_has ls 2 [(0, .ref (wad w 3 o)), (1, .int (oI y1))] → Wo w σ H → va_S (wA w) st.heap H locs → wp_Store_settle_L8 (wc w) (wtv w) o Q K8 y1 σ → W p l e (headSpec (ws_ yX5_settle cX5_settle 2 none) rm_Store_settle).room st m args below meth c H locs 0 0 (MQ below (QcV w Q) args st 0 0 (wA w)) (F0 m 8 ls []) := by
  have vl3_o : vl w 3 o := hV.hv 3 rfl ⟨by omega, by show _ < (2 : Int); omega⟩
  have vl323_o : vl w 323 o := hV.hv 323 rfl ⟨by omega, by show _ < (2 : Int); omega⟩
  have vl324_o : vl w 324 o := hV.hv 324 rfl ⟨by omega, by show _ < (2 : Int); omega⟩
  have vl4_o : vl w 4 o := hV.hv 4 rfl ⟨by omega, by show _ < (2 : Int); omega⟩
  have vl5_o : vl w 5 o := hV.hv 5 rfl ⟨by omega, by show _ < (2 : Int); omega⟩
  intro y1 σ H locs ls ry1 hl hW hS h
  unfold wp_Store_settle_L8 at h
  refine lv_iload_n X.1 X.2.1 dX5_settle_8 rfl (lv_at hl 1 rfl) ?_
  refine lv_aload_n X.1 X.2.1 dX5_settle_9 rfl (lv_at hl 0 rfl) ?_
  refine wg (v := .ref (wad w 4 o)) X hT hW 3 0 192 vl3_o rfl rfl (by decide) rfl (by decide) in_X5 q523 rfl dX5_settle_10 ?_
  refine wg (v := .int (oI ((wc w).1 - 6))) X hT hW 4 1 257 vl4_o rfl rfl (by decide) rfl (by decide) in_X6 q272 rfl dX5_settle_13 ?_
  refine w_icmp_ge (tgt := 71) X ry1 (cin_r hT.c 257) dX5_settle_16 (by decide) (fun hc => ?_) (fun hc => ?_)
  · have h := h.1 hc
    refine lv_aload_n X.1 X.2.1 dX5_settle_71 rfl (lv_at hl 0 rfl) ?_
    refine lv_iconst (v := oI 0) X.1 X.2.1 dX5_settle_72 rfl ?_
    refine wput (z := 0) X hT hW hS 3 19 211 vl3_o rfl rfl (by decide) rfl (by decide) in_X5 tyX5 tyX5_ok nmX5 q549 rfl rfl rZ_0.i (fv0 w rfl) rfl rfl dX5_settle_73 (fun H locs hN hS => ?_)
    obtain ⟨σ_11, eσ_11⟩ : ∃ x, x = sI σ 211 o 0 := ⟨_, rfl⟩
    have hWσ_11 : Wo w σ_11 H := eσ_11 ▸ hN
    have h := h σ_11 eσ_11
    clear hN
    refine lv_aload_n X.1 X.2.1 dX5_settle_76 rfl (lv_at hl 0 rfl) ?_
    refine lv_dup X.1 X.2.1 dX5_settle_77 rfl ?_
    refine wg (v := .long (oL (gI σ_11 202 o))) X hT hWσ_11 3 10 202 vl3_o rfl rfl (by decide) rfl (by decide) in_X5 q536 rfl dX5_settle_78 ?_
    refine w_ldc2 X (z := 1000) q1728 (by decide) dX5_settle_81 ?_
    refine w_ladd X dX5_settle_84 ?_
    refine wput (z := w64 ((gI σ_11 202 o) + 1000)) X hT hWσ_11 hS 3 10 202 vl3_o rfl rfl (by decide) rfl (by decide) in_X5 tyX5 tyX5_ok nmX5 q536 rfl rfl (w64_r _) (fv1 w rfl) rfl rfl dX5_settle_85 (fun H locs hN hS => ?_)
    obtain ⟨σ_12, eσ_12⟩ : ∃ x, x = sI σ_11 202 o (w64 ((gI σ_11 202 o) + 1000)) := ⟨_, rfl⟩
    have hWσ_12 : Wo w σ_12 H := eσ_12 ▸ hN
    have h := h σ_12 eσ_12
    clear hN
    refine lv_aload_n X.1 X.2.1 dX5_settle_88 rfl (lv_at hl 0 rfl) ?_
    refine wr_V (rV (As := []) (rest := []) X hT hWσ_12 hS (met_Store_commitAll l (w := w) hV o _ σ_12 (by omega) h) (cwV 0 X.2.2.2.2 (lw_V q959 q961 qs19 q136 q962) rfl rfl rfl (by decide +kernel) ⟨Nat.le_of_ble_eq_true rfl, Nat.le_of_ble_eq_true rfl⟩) vl3_o (by decide) rfl rfl hl.1 rfl (by first | exact Nat.le_of_ble_eq_true rfl | simp [catK, catI, catR, catL]) dX5_settle_89 ⟨Nat.le_refl _, Nat.le_refl _⟩) hS (fun σ_14 H locs rkσ_14 h hWσ_14 hS => ?_)
    have h := h rkσ_14
    exact wret_V X hr hlk hWσ_14 hS h dX5_settle_92
  · have h := h.2 hc
    refine lv_aload_n X.1 X.2.1 dX5_settle_19 rfl (lv_at hl 0 rfl) ?_
    refine wg (v := .ref (wad w 5 o)) X hT hW 3 1 193 vl3_o rfl rfl (by decide) rfl (by decide) in_X5 q525 rfl dX5_settle_20 ?_
    refine wg (v := .ref (wad w 323 o)) X hT hW 5 3 323 vl5_o rfl rfl (by decide) rfl (by decide) in_X7 q344 rfl dX5_settle_23 ?_
    refine lv_iload_n X.1 X.2.1 dX5_settle_26 rfl (lv_at hl 1 rfl) ?_
    refine lv_aload_n X.1 X.2.1 dX5_settle_27 rfl (lv_at hl 0 rfl) ?_
    refine wg (v := .ref (wad w 5 o)) X hT hW 3 1 193 vl3_o rfl rfl (by decide) rfl (by decide) in_X5 q525 rfl dX5_settle_28 ?_
    refine wg (v := .ref (wad w 324 o)) X hT hW 5 4 324 vl5_o rfl rfl (by decide) rfl (by decide) in_X7 q347 rfl dX5_settle_31 ?_
    refine lv_iload_n X.1 X.2.1 dX5_settle_34 rfl (lv_at hl 1 rfl) ?_
    obtain ⟨bi, h⟩ := h
    refine w_iald (n := ((wc w).1 - 6)) X hT hW 324 vl324_o (by decide) rfl rfl bi dX5_settle_35 ?_
    refine w_cut (pc2 := 44) (st2 := [.int (oI (if (gA σ 324 o y1) ≤ 0 then (0 : Int) else (1 : Int))), .int (oI y1), .ref (wad w 323 o)]) (fun hj => ?_) ?_
    · refine w_if_le (tgt := 43) X (hW.r.ai 324 o y1 rfl) dX5_settle_36 (by decide) (fun hc => ?_) (fun hc => ?_)
      · refine lv_iconst (v := oI 0) X.1 X.2.1 dX5_settle_43 rfl ?_
        rw [if_pos hc] at hj; exact hj
      · refine lv_iconst (v := oI 1) X.1 X.2.1 dX5_settle_39 rfl ?_
        refine lv_goto (tgt := 44) X.1 X.2.1 dX5_settle_40 (by decide) ?_
        rw [if_neg hc] at hj; exact hj
    obtain ⟨bi, h⟩ := h
    refine w_iast (n := ((wc w).1 - 6)) X hT hW hS 323 vl323_o (by decide) rfl rfl bi ((ite_rZ rZ_0 rZ_1).i) dX5_settle_44 (fun H locs hN hS => ?_)
    obtain ⟨σ_15, eσ_15⟩ : ∃ x, x = sA σ 323 o y1 (if (gA σ 324 o y1) ≤ 0 then (0 : Int) else (1 : Int)) := ⟨_, rfl⟩
    have hWσ_15 : Wo w σ_15 H := eσ_15 ▸ hN
    have h := h σ_15 eσ_15
    clear hN
    refine lv_aload_n X.1 X.2.1 dX5_settle_45 rfl (lv_at hl 0 rfl) ?_
    refine wg (v := .ref (wad w 5 o)) X hT hWσ_15 3 1 193 vl3_o rfl rfl (by decide) rfl (by decide) in_X5 q525 rfl dX5_settle_46 ?_
    refine wg (v := .ref (wad w 323 o)) X hT hWσ_15 5 3 323 vl5_o rfl rfl (by decide) rfl (by decide) in_X7 q344 rfl dX5_settle_49 ?_
    refine lv_iload_n X.1 X.2.1 dX5_settle_52 rfl (lv_at hl 1 rfl) ?_
    obtain ⟨bi, h⟩ := h
    refine w_iald (n := ((wc w).1 - 6)) X hT hWσ_15 323 vl323_o (by decide) rfl rfl bi dX5_settle_53 ?_
    refine w_if_ne (tgt := 65) X (hWσ_15.r.ai 323 o y1 rfl) dX5_settle_54 (by decide) (fun hc => ?_) (fun hc => ?_)
    · have h := h.1 hc
      exact wk_Store_settle_b65 X hr hlk hT hV ho K8 hK8 y1 σ_15 _ _ _ ry1 (lv_sub hl [0, 1] rfl) hWσ_15 hS h
    · have h := h.2 hc
      refine lv_aload_n X.1 X.2.1 dX5_settle_57 rfl (lv_at hl 0 rfl) ?_
      refine wg (v := .ref (wad w 4 o)) X hT hWσ_15 3 0 192 vl3_o rfl rfl (by decide) rfl (by decide) in_X5 q523 rfl dX5_settle_58 ?_
      refine lv_iload_n X.1 X.2.1 dX5_settle_61 rfl (lv_at hl 1 rfl) ?_
      refine wr_V (rV (As := [.int (oI y1)]) (rest := []) X hT hWσ_15 hS (met_Blocks_drop l (w := w) hV o y1 _ σ_15 (by omega) ry1 h) (cwV 1 X.2.2.2.2 (lw_V q1027 q776 q777 q137 q778) rfl rfl rfl (by decide +kernel) ⟨Nat.le_of_ble_eq_true rfl, Nat.le_of_ble_eq_true rfl⟩) vl4_o (by decide) rfl rfl hl.1 rfl (by first | exact Nat.le_of_ble_eq_true rfl | simp [catK, catI, catR, catL]) dX5_settle_62 ⟨Nat.le_refl _, Nat.le_refl _⟩) hS (fun σ_17 H locs rkσ_17 h hWσ_17 hS => ?_)
      have h := h rkσ_17
      exact wk_Store_settle_b65 X hr hlk hT hV ho K8 hK8 y1 σ_17 _ _ _ ry1 (lv_sub hl [0, 1] rfl) hWσ_17 hS h
theorem wk_Store_settle_L8 {p : Program} {l : Launch} {e : Env} {st : State} {m : MethodId} {args : Array Value} {below : List Frame} {meth : Method} {c : Code} {w : Wp} {o : Int} {Q : St → Prop} (X : CallFix p m c cX5_settle 2 st args lw_all RX5) (hr : meth.sig.returnType = none) (hlk : meth.locks = false) (hT : Tb w st) (hV : Hvl w) (ho : 0 ≤ o ∧ o < 2) : ∀ (y1 : Int) (σ : St) (H : Heap) (locs : List Loc) (ls : Array Slot), rI y1 → lv_has ls 2 [(0, .ref (wad w 3 o)), (1, .int (oI y1))] → Wo w σ H → va_S (wA w) st.heap H locs → lQ1 (wp_Store_settle_L8 (wc w) (wtv w) o Q) y1 σ → W p l e (headSpec (ws_ yX5_settle cX5_settle 2 none) rm_Store_settle).room st m args below meth c H locs 0 0 (MQ below (QcV w Q) args st 0 0 (wA w)) (F0 m 8 ls []) := by
  intro y1 σ H locs ls ry1 hl hW hS h
  obtain ⟨fu, h⟩ := h
  induction fu generalizing y1 σ H locs ls with
  | zero => exact h.elim
  | succ fu ih =>
    exact wk_Store_settle_L8B X hr hlk hT hV ho (lq1 (wp_Store_settle_L8 (wc w) (wtv w) o Q) fu) (fun y1 σ H locs ls ry1 hl hW hS h => ih y1 σ H locs ls ry1 hl hW hS h) y1 σ H locs ls ry1 hl hW hS h
set_option maxHeartbeats 4000000 in
set_option maxRecDepth 100000 in
theorem met_Store_settle (l : Launch) {w : Wp} (hV : Hvl w) (o : Int) (Q : St → Prop) (σ : St) (ho : 0 ≤ o ∧ o < 2) (h : wp_Store_settle (wc w) (wtv w) o Q σ) : Met l yX5_settle (ws_ yX5_settle cX5_settle 2 none) rm_Store_settle (PcW w σ [.ref (wad w 3 o)]) (QcV w Q) 0 0 (wA w) := by
  refine Met.ofW (cc := cX5_settle) (maxL := 2) (ret := none) (by decide) rfl ?_
  intro p e st m args below meth c s₁ B hml hv
  obtain ⟨hargs, hW, hT⟩ := hv
  have X : CallFix p m c cX5_settle 2 st _ lw_all RX5 := ⟨B.exec, B.bytes, hml, findClass_of_methodNamed B.named, fun w h => atoms_spec (ws := ws_ yX5_settle cX5_settle 2 none) B.pre w (List.mem_cons_of_mem _ h)⟩
  have hr := B.returns
  have hlk := B.notSynchronized
  have hS : va_S (wA w) st.heap st.heap [] := va_S.rf
  have vl3_o : vl w 3 o := hV.hv 3 rfl ⟨by omega, by show _ < (2 : Int); omega⟩
  have vl5_o : vl w 5 o := hV.hv 5 rfl ⟨by omega, by show _ < (2 : Int); omega⟩
  have hl := lv_entry ([.ref (wad w 3 o)]) (n := 2) (Nat.le_of_ble_eq_true rfl)
  have hfr := lg_entry_eq m ([.ref (wad w 3 o)]) 2
  rw [← hargs] at hfr
  rw [hfr]
  generalize (lg_sl ([.ref (wad w 3 o)]) ++ List.replicate (2 - (lg_sl ([.ref (wad w 3 o)])).length) Slot.unset).toArray = ls at hl ⊢
  have hl : lv_has ls 2 [(0, .ref (wad w 3 o))] := hl
  unfold wp_Store_settle at h
  refine lv_aload_n X.1 X.2.1 dX5_settle_0 rfl (lv_at hl 0 rfl) ?_
  refine wg (v := .ref (wad w 5 o)) X hT hW 3 1 193 vl3_o rfl rfl (by decide) rfl (by decide) in_X5 q525 rfl dX5_settle_1 ?_
  refine wg (v := .int (oI (4 + (wc w).2.2))) X hT hW 5 1 321 vl5_o rfl rfl (by decide) rfl (by decide) in_X7 q338 rfl dX5_settle_4 ?_
  refine w_top (fun y1_18 ey1_18 => ?_)
  have h := h y1_18 ey1_18
  have ry1_18 : rI y1_18 := by rw [ey1_18]; exact (cin_r hT.c 321)
  refine lv_istore_n (i := 1) (lv' := [(1, .int (oI y1_18)), (0, .ref (wad w 3 o))]) X.1 X.2.1 dX5_settle_7 rfl hl (by decide) (by first | rfl | simp [catK, catI, catR, catL]) (fun ls hl => ?_)
  exact wk_Store_settle_L8 X hr hlk hT hV ho y1_18 σ _ _ _ ry1_18 (lv_sub hl [1, 0] rfl) hW hS h
/-! Store.mayMove()Z -/
set_option maxHeartbeats 4000000 in
set_option maxRecDepth 100000 in
theorem wk_Store_mayMove_b47 {p : Program} {l : Launch} {e : Env} {st : State} {m : MethodId} {args : Array Value} {below : List Frame} {meth : Method} {c : Code} {w : Wp} {o : Int} {Q : Int → St → Prop} (X : CallFix p m c cX5_mayMove 1 st args lw_all RX5) (hr : meth.sig.returnType = (some .boolean)) (hlk : meth.locks = false) (hT : Tb w st) (hV : Hvl w) (ho : 0 ≤ o ∧ o < 2) : ∀ (σ : St) (H : Heap) (locs : List Loc) (ls : Array Slot), lv_has ls 1 [] → Wo w σ H → va_S (wA w) st.heap H locs → wp_Store_mayMove_b47 (wc w) (wtv w) o Q σ → W p l e (headSpec (ws_ yX5_mayMove cX5_mayMove 1 (some .boolean)) rm_Store_mayMove).room st m args below meth c H locs 0 0 (MQ below (QcZ w Q) args st 0 0 (wA w)) (F0 m 47 ls []) := by

  intro σ H locs ls hl hW hS h
  unfold wp_Store_mayMove_b47 at h
  refine lv_iconst (v := oI 1) X.1 X.2.1 dX5_mayMove_47 rfl ?_
  refine lv_goto (tgt := 52) X.1 X.2.1 dX5_mayMove_48 (by decide) ?_
  exact wret_Z X hr hlk hW hS rZ_1 h dX5_mayMove_52
set_option maxHeartbeats 4000000 in
set_option maxRecDepth 100000 in
theorem met_Store_mayMove (l : Launch) {w : Wp} (hV : Hvl w) (o : Int) (Q : Int → St → Prop) (σ : St) (ho : 0 ≤ o ∧ o < 2) (h : wp_Store_mayMove (wc w) (wtv w) o Q σ) : Met l yX5_mayMove (ws_ yX5_mayMove cX5_mayMove 1 (some .boolean)) rm_Store_mayMove (PcW w σ [.ref (wad w 3 o)]) (QcZ w Q) 0 0 (wA w) := by
  refine Met.ofW (cc := cX5_mayMove) (maxL := 1) (ret := (some .boolean)) (by decide) rfl ?_
  intro p e st m args below meth c s₁ B hml hv
  obtain ⟨hargs, hW, hT⟩ := hv
  have X : CallFix p m c cX5_mayMove 1 st _ lw_all RX5 := ⟨B.exec, B.bytes, hml, findClass_of_methodNamed B.named, fun w h => atoms_spec (ws := ws_ yX5_mayMove cX5_mayMove 1 (some .boolean)) B.pre w (List.mem_cons_of_mem _ h)⟩
  have hr := B.returns
  have hlk := B.notSynchronized
  have hS : va_S (wA w) st.heap st.heap [] := va_S.rf
  have vl3_o : vl w 3 o := hV.hv 3 rfl ⟨by omega, by show _ < (2 : Int); omega⟩
  have vl5_o : vl w 5 o := hV.hv 5 rfl ⟨by omega, by show _ < (2 : Int); omega⟩
  have vl7_o_2 : vl w 7 (o + 2) := hV.hv 7 rfl ⟨by omega, by show _ < (6 : Int); omega⟩
  have hl := lv_entry ([.ref (wad w 3 o)]) (n := 1) (Nat.le_of_ble_eq_true rfl)
  have hfr := lg_entry_eq m ([.ref (wad w 3 o)]) 1
  rw [← hargs] at hfr
  rw [hfr]
  generalize (lg_sl ([.ref (wad w 3 o)]) ++ List.replicate (1 - (lg_sl ([.ref (wad w 3 o)])).length) Slot.unset).toArray = ls at hl ⊢
  have hl : lv_has ls 1 [(0, .ref (wad w 3 o))] := hl
  unfold wp_Store_mayMove at h
  refine lv_aload_n X.1 X.2.1 dX5_mayMove_0 rfl (lv_at hl 0 rfl) ?_
  refine wg (v := .ref (wad w 7 (o + 2))) X hT hW 3 4 196 vl3_o rfl rfl (by decide) rfl (by decide) in_X5 q529 rfl dX5_mayMove_1 ?_
  refine lv_sipush (v := oI 320) X.1 X.2.1 dX5_mayMove_4 (by decide) ?_
  refine wr_Z (rV (As := [.int (oI 320)]) (rest := []) X hT hW hS (met_Writer_takes l (w := w) hV (o + 2) 320 _ σ (by omega) (rI_lit 320 (by decide)) h) (cwV 1 X.2.2.2.2 (lw_V q987 q988 q989 q141 q990) rfl rfl rfl (by decide +kernel) ⟨Nat.le_of_ble_eq_true rfl, Nat.le_of_ble_eq_true rfl⟩) vl7_o_2 (by decide) rfl rfl hl.1 rfl (by first | exact Nat.le_of_ble_eq_true rfl | simp [catK, catI, catR, catL]) dX5_mayMove_7 ⟨Nat.le_refl _, Nat.le_refl _⟩) hS (fun r_7 σ_8 H locs rr_7 rkσ_8 h hWσ_8 hS => ?_)
  have h := h rr_7 rkσ_8
  refine w_if_ne (tgt := 47) X rr_7.i dX5_mayMove_10 (by decide) (fun hc => ?_) (fun hc => ?_)
  · have h := h.1 hc
    exact wk_Store_mayMove_b47 X hr hlk hT hV ho σ_8 _ _ _ (lv_sub hl [] rfl) hWσ_8 hS h
  · have h := h.2 hc
    refine lv_aload_n X.1 X.2.1 dX5_mayMove_13 rfl (lv_at hl 0 rfl) ?_
    refine wg (v := .ref (wad w 5 o)) X hT hWσ_8 3 1 193 vl3_o rfl rfl (by decide) rfl (by decide) in_X5 q525 rfl dX5_mayMove_14 ?_
    refine wr_I (rV (As := []) (rest := []) X hT hWσ_8 hS (met_Space_empty l (w := w) hV o _ σ_8 (by omega) h) (cwV 0 X.2.2.2.2 (lw_V q1037 q1038 q1039 q138 q1040) rfl rfl rfl (by decide +kernel) ⟨Nat.le_of_ble_eq_true rfl, Nat.le_of_ble_eq_true rfl⟩) vl5_o (by decide) rfl rfl hl.1 rfl (by first | exact Nat.le_of_ble_eq_true rfl | simp [catK, catI, catR, catL]) dX5_mayMove_17 ⟨Nat.le_refl _, Nat.le_refl _⟩) hS (fun r_9 σ_10 H locs rr_9 rkσ_10 h hWσ_10 hS => ?_)
    have h := h rr_9 rkσ_10
    refine lv_aload_n X.1 X.2.1 dX5_mayMove_20 rfl (lv_at hl 0 rfl) ?_
    refine wg (v := .int (oI (whl (wc w)))) X hT hWσ_10 3 34 226 vl3_o rfl rfl (by decide) rfl (by decide) in_X5 q566 rfl dX5_mayMove_21 ?_
    refine lv_iconst (v := oI 1) X.1 X.2.1 dX5_mayMove_24 rfl ?_
    refine w_iadd X dX5_mayMove_25 ?_
    refine w_icmp_le (tgt := 51) X rr_9 (w32_r _) dX5_mayMove_26 (by decide) (fun hc => ?_) (fun hc => ?_)
    · have h := h.1 hc
      refine lv_iconst (v := oI 0) X.1 X.2.1 dX5_mayMove_51 rfl ?_
      exact wret_Z X hr hlk hWσ_10 hS rZ_0 h dX5_mayMove_52
    · have h := h.2 hc
      refine lv_aload_n X.1 X.2.1 dX5_mayMove_29 rfl (lv_at hl 0 rfl) ?_
      refine wg (v := .ref (wad w 5 o)) X hT hWσ_10 3 1 193 vl3_o rfl rfl (by decide) rfl (by decide) in_X5 q525 rfl dX5_mayMove_30 ?_
      refine wr_I (rV (As := []) (rest := []) X hT hWσ_10 hS (met_Space_roomy l (w := w) hV o _ σ_10 (by omega) h) (cwV 0 X.2.2.2.2 (lw_V q1277 q1278 q1279 q138 q1280) rfl rfl rfl (by decide +kernel) ⟨Nat.le_of_ble_eq_true rfl, Nat.le_of_ble_eq_true rfl⟩) vl5_o (by decide) rfl rfl hl.1 rfl (by first | exact Nat.le_of_ble_eq_true rfl | simp [catK, catI, catR, catL]) dX5_mayMove_33 ⟨Nat.le_refl _, Nat.le_refl _⟩) hS (fun r_11 σ_12 H locs rr_11 rkσ_12 h hWσ_12 hS => ?_)
      have h := h rr_11 rkσ_12
      refine lv_iconst (v := oI 2) X.1 X.2.1 dX5_mayMove_36 rfl ?_
      refine lv_aload_n X.1 X.2.1 dX5_mayMove_37 rfl (lv_at hl 0 rfl) ?_
      refine wg (v := .int (oI (whl (wc w)))) X hT hWσ_12 3 34 226 vl3_o rfl rfl (by decide) rfl (by decide) in_X5 q566 rfl dX5_mayMove_38 ?_
      refine w_imul X dX5_mayMove_41 ?_
      refine lv_iconst (v := oI 2) X.1 X.2.1 dX5_mayMove_42 rfl ?_
      refine w_iadd X dX5_mayMove_43 ?_
      refine w_icmp_le (tgt := 51) X rr_11 (w32_r _) dX5_mayMove_44 (by decide) (fun hc => ?_) (fun hc => ?_)
      · have h := h.1 hc
        refine lv_iconst (v := oI 0) X.1 X.2.1 dX5_mayMove_51 rfl ?_
        exact wret_Z X hr hlk hWσ_12 hS rZ_0 h dX5_mayMove_52
      · have h := h.2 hc
        exact wk_Store_mayMove_b47 X hr hlk hT hV ho σ_12 _ _ _ (lv_sub hl [] rfl) hWσ_12 hS h
/-! Store.choose()V -/
set_option maxHeartbeats 4000000 in
set_option maxRecDepth 100000 in
theorem wk_Store_choose_b22 {p : Program} {l : Launch} {e : Env} {st : State} {m : MethodId} {args : Array Value} {below : List Frame} {meth : Method} {c : Code} {w : Wp} {o : Int} {Q : St → Prop} (X : CallFix p m c cX5_choose 1 st args lw_all RX5) (hr : meth.sig.returnType = none) (hlk : meth.locks = false) (hT : Tb w st) (hV : Hvl w) (ho : 0 ≤ o ∧ o < 2) : ∀ (σ : St) (H : Heap) (locs : List Loc) (ls : Array Slot), lv_has ls 1 [(0, .ref (wad w 3 o))] → Wo w σ H → va_S (wA w) st.heap H locs → wp_Store_choose_b22 (wc w) (wtv w) o Q σ → W p l e (headSpec (ws_ yX5_choose cX5_choose 1 none) rm_Store_choose).room st m args below meth c H locs 0 0 (MQ below (QcV w Q) args st 0 0 (wA w)) (F0 m 22 ls []) := by
  have vl3_o : vl w 3 o := hV.hv 3 rfl ⟨by omega, by show _ < (2 : Int); omega⟩
  have vl4_o : vl w 4 o := hV.hv 4 rfl ⟨by omega, by show _ < (2 : Int); omega⟩
  have vl5_o : vl w 5 o := hV.hv 5 rfl ⟨by omega, by show _ < (2 : Int); omega⟩
  intro σ H locs ls hl hW hS h
  unfold wp_Store_choose_b22 at h
  refine lv_aload_n X.1 X.2.1 dX5_choose_22 rfl (lv_at hl 0 rfl) ?_
  refine wg (v := .int (oI (gI σ 223 o))) X hT hW 3 31 223 vl3_o rfl rfl (by decide) rfl (by decide) in_X5 q563 rfl dX5_choose_23 ?_
  refine lv_iconst (v := oI (-1)) X.1 X.2.1 dX5_choose_26 rfl ?_
  refine w_icmp_ne (tgt := 62) X (hW.r.i 223 o rfl) ((rB_lit (-1) (by decide)).i) dX5_choose_27 (by decide) (fun hc => ?_) (fun hc => ?_)
  · have h := h.1 hc
    exact wret_V X hr hlk hW hS h dX5_choose_62
  · have h := h.2 hc
    refine lv_aload_n X.1 X.2.1 dX5_choose_30 rfl (lv_at hl 0 rfl) ?_
    refine wg (v := .ref (wad w 5 o)) X hT hW 3 1 193 vl3_o rfl rfl (by decide) rfl (by decide) in_X5 q525 rfl dX5_choose_31 ?_
    refine wr_I (rV (As := []) (rest := []) X hT hW hS (met_Space_empty l (w := w) hV o _ σ (by omega) h) (cwV 0 X.2.2.2.2 (lw_V q1037 q1038 q1039 q138 q1040) rfl rfl rfl (by decide +kernel) ⟨Nat.le_of_ble_eq_true rfl, Nat.le_of_ble_eq_true rfl⟩) vl5_o (by decide) rfl rfl hl.1 rfl (by first | exact Nat.le_of_ble_eq_true rfl | simp [catK, catI, catR, catL]) dX5_choose_34 ⟨Nat.le_refl _, Nat.le_refl _⟩) hS (fun r_8 σ_9 H locs rr_8 rkσ_9 h hWσ_9 hS => ?_)
    have h := h rr_8 rkσ_9
    refine lv_aload_n X.1 X.2.1 dX5_choose_37 rfl (lv_at hl 0 rfl) ?_
    refine wg (v := .ref (wad w 4 o)) X hT hWσ_9 3 0 192 vl3_o rfl rfl (by decide) rfl (by decide) in_X5 q523 rfl dX5_choose_38 ?_
    refine wg (v := .int (oI ((wc w).1 - 6))) X hT hWσ_9 4 1 257 vl4_o rfl rfl (by decide) rfl (by decide) in_X6 q272 rfl dX5_choose_41 ?_
    refine lv_iconst (v := oI 3) X.1 X.2.1 dX5_choose_44 rfl ?_
    refine w_idiv X (cin_r hT.c 257) ((rB_lit 3 (by decide)).i) (by decide) dX5_choose_45 ?_
    refine w_icmp_ge (tgt := 62) X rr_8 (jdv_r _ _) dX5_choose_46 (by decide) (fun hc => ?_) (fun hc => ?_)
    · have h := h.1 hc
      exact wret_V X hr hlk hWσ_9 hS h dX5_choose_62
    · have h := h.2 hc
      refine lv_aload_n X.1 X.2.1 dX5_choose_49 rfl (lv_at hl 0 rfl) ?_
      refine lv_iconst (v := oI 1) X.1 X.2.1 dX5_choose_50 rfl ?_
      refine wr_Z (rV (As := [.int (oI 1)]) (rest := []) X hT hWσ_9 hS (met_Store_pick l (w := w) hV o 1 _ σ_9 (by omega) rZ_1 h) (cwV 1 X.2.2.2.2 (lw_V q1281 q1283 qs43 q136 q1284) rfl rfl rfl (by decide +kernel) ⟨Nat.le_of_ble_eq_true rfl, Nat.le_of_ble_eq_true rfl⟩) vl3_o (by decide) rfl rfl hl.1 rfl (by first | exact Nat.le_of_ble_eq_true rfl | simp [catK, catI, catR, catL]) dX5_choose_51 ⟨Nat.le_refl _, Nat.le_refl _⟩) hS (fun r_10 σ_11 H locs rr_10 rkσ_11 h hWσ_11 hS => ?_)
      have h := h rr_10 rkσ_11
      refine w_if_eq (tgt := 62) X rr_10.i dX5_choose_54 (by decide) (fun hc => ?_) (fun hc => ?_)
      · have h := h.1 hc
        exact wret_V X hr hlk hWσ_11 hS h dX5_choose_62
      · have h := h.2 hc
        refine lv_aload_n X.1 X.2.1 dX5_choose_57 rfl (lv_at hl 0 rfl) ?_
        refine lv_iconst (v := oI 0) X.1 X.2.1 dX5_choose_58 rfl ?_
        refine wput (z := 0) X hT hWσ_11 hS 3 33 225 vl3_o rfl rfl (by decide) rfl (by decide) in_X5 tyX5 tyX5_ok nmX5 q565 rfl rfl rZ_0 (fv3 w rfl) (nrZ rZ_0) (ftZ rZ_0) dX5_choose_59 (fun H locs hN hS => ?_)
        obtain ⟨σ_12, eσ_12⟩ : ∃ x, x = sI σ_11 225 o 0 := ⟨_, rfl⟩
        have hWσ_12 : Wo w σ_12 H := eσ_12 ▸ hN
        have h := h σ_12 eσ_12
        clear hN
        exact wret_V X hr hlk hWσ_12 hS h dX5_choose_62
set_option maxHeartbeats 4000000 in
set_option maxRecDepth 100000 in
theorem met_Store_choose (l : Launch) {w : Wp} (hV : Hvl w) (o : Int) (Q : St → Prop) (σ : St) (ho : 0 ≤ o ∧ o < 2) (h : wp_Store_choose (wc w) (wtv w) o Q σ) : Met l yX5_choose (ws_ yX5_choose cX5_choose 1 none) rm_Store_choose (PcW w σ [.ref (wad w 3 o)]) (QcV w Q) 0 0 (wA w) := by
  refine Met.ofW (cc := cX5_choose) (maxL := 1) (ret := none) (by decide) rfl ?_
  intro p e st m args below meth c s₁ B hml hv
  obtain ⟨hargs, hW, hT⟩ := hv
  have X : CallFix p m c cX5_choose 1 st _ lw_all RX5 := ⟨B.exec, B.bytes, hml, findClass_of_methodNamed B.named, fun w h => atoms_spec (ws := ws_ yX5_choose cX5_choose 1 none) B.pre w (List.mem_cons_of_mem _ h)⟩
  have hr := B.returns
  have hlk := B.notSynchronized
  have hS : va_S (wA w) st.heap st.heap [] := va_S.rf
  have vl3_o : vl w 3 o := hV.hv 3 rfl ⟨by omega, by show _ < (2 : Int); omega⟩
  have hl := lv_entry ([.ref (wad w 3 o)]) (n := 1) (Nat.le_of_ble_eq_true rfl)
  have hfr := lg_entry_eq m ([.ref (wad w 3 o)]) 1
  rw [← hargs] at hfr
  rw [hfr]
  generalize (lg_sl ([.ref (wad w 3 o)]) ++ List.replicate (1 - (lg_sl ([.ref (wad w 3 o)])).length) Slot.unset).toArray = ls at hl ⊢
  have hl : lv_has ls 1 [(0, .ref (wad w 3 o))] := hl
  unfold wp_Store_choose at h
  refine lv_aload_n X.1 X.2.1 dX5_choose_0 rfl (lv_at hl 0 rfl) ?_
  refine wg (v := .int (oI (gI σ 205 o))) X hT hW 3 13 205 vl3_o rfl rfl (by decide) rfl (by decide) in_X5 q540 rfl dX5_choose_1 ?_
  refine w_if_ne (tgt := 22) X (hW.r.i 205 o rfl) dX5_choose_4 (by decide) (fun hc => ?_) (fun hc => ?_)
  · have h := h.1 hc
    exact wk_Store_choose_b22 X hr hlk hT hV ho σ _ _ _ (lv_sub hl [0] rfl) hW hS h
  · have h := h.2 hc
    refine lv_aload_n X.1 X.2.1 dX5_choose_7 rfl (lv_at hl 0 rfl) ?_
    refine wg (v := .int (oI (gI σ 211 o))) X hT hW 3 19 211 vl3_o rfl rfl (by decide) rfl (by decide) in_X5 q549 rfl dX5_choose_8 ?_
    refine lv_iconst (v := oI 3) X.1 X.2.1 dX5_choose_11 rfl ?_
    refine w_icmp_lt (tgt := 22) X (hW.r.i 211 o rfl) ((rB_lit 3 (by decide)).i) dX5_choose_12 (by decide) (fun hc => ?_) (fun hc => ?_)
    · have h := h.1 hc
      exact wk_Store_choose_b22 X hr hlk hT hV ho σ _ _ _ (lv_sub hl [0] rfl) hW hS h
    · have h := h.2 hc
      refine lv_aload_n X.1 X.2.1 dX5_choose_15 rfl (lv_at hl 0 rfl) ?_
      refine wr_V (rV (As := []) (rest := []) X hT hW hS (met_Store_beginCommit l (w := w) hV o _ σ (by omega) h) (cwV 0 X.2.2.2.2 (lw_V q1033 q1035 qs26 q136 q1036) rfl rfl rfl (by decide +kernel) ⟨Nat.le_of_ble_eq_true rfl, Nat.le_of_ble_eq_true rfl⟩) vl3_o (by decide) rfl rfl hl.1 rfl (by first | exact Nat.le_of_ble_eq_true rfl | simp [catK, catI, catR, catL]) dX5_choose_16 ⟨Nat.le_refl _, Nat.le_refl _⟩) hS (fun σ_14 H locs rkσ_14 h hWσ_14 hS => ?_)
      have h := h rkσ_14
      refine lv_goto (tgt := 62) X.1 X.2.1 dX5_choose_19 (by decide) ?_
      exact wret_V X hr hlk hWσ_14 hS h dX5_choose_62
/-! Store.work()V -/
set_option maxHeartbeats 4000000 in
set_option maxRecDepth 100000 in
theorem wk_Store_work_b72 {p : Program} {l : Launch} {e : Env} {st : State} {m : MethodId} {args : Array Value} {below : List Frame} {meth : Method} {c : Code} {w : Wp} {o : Int} {Q : St → Prop} (X : CallFix p m c cX5_work 1 st args lw_all RX5) (hr : meth.sig.returnType = none) (hlk : meth.locks = false) (hT : Tb w st) (hV : Hvl w) (ho : 0 ≤ o ∧ o < 2) : ∀ (σ : St) (H : Heap) (locs : List Loc) (ls : Array Slot), lv_has ls 1 [(0, .ref (wad w 3 o))] → Wo w σ H → va_S (wA w) st.heap H locs → wp_Store_work_b72 (wc w) (wtv w) o Q σ → W p l e (headSpec (ws_ yX5_work cX5_work 1 none) rm_Store_work).room st m args below meth c H locs 0 0 (MQ below (QcV w Q) args st 0 0 (wA w)) (F0 m 72 ls []) := by
  have vl3_o : vl w 3 o := hV.hv 3 rfl ⟨by omega, by show _ < (2 : Int); omega⟩
  have vl4_o : vl w 4 o := hV.hv 4 rfl ⟨by omega, by show _ < (2 : Int); omega⟩
  intro σ H locs ls hl hW hS h
  unfold wp_Store_work_b72 at h
  refine lv_aload_n X.1 X.2.1 dX5_work_72 rfl (lv_at hl 0 rfl) ?_
  refine wg (v := .ref (wad w 4 o)) X hT hW 3 0 192 vl3_o rfl rfl (by decide) rfl (by decide) in_X5 q523 rfl dX5_work_73 ?_
  refine wr_Z (rV (As := []) (rest := []) X hT hW hS (met_Blocks_eraseOne l (w := w) hV o _ σ (by omega) h) (cwV 0 X.2.2.2.2 (lw_V q1741 q877 q878 q137 q879) rfl rfl rfl (by decide +kernel) ⟨Nat.le_of_ble_eq_true rfl, Nat.le_of_ble_eq_true rfl⟩) vl4_o (by decide) rfl rfl hl.1 rfl (by first | exact Nat.le_of_ble_eq_true rfl | simp [catK, catI, catR, catL]) dX5_work_76 ⟨Nat.le_refl _, Nat.le_refl _⟩) hS (fun r_15 σ_16 H locs rr_15 rkσ_16 h hWσ_16 hS => ?_)
  have h := h rr_15 rkσ_16
  refine w_if_ne (tgt := 96) X rr_15.i dX5_work_79 (by decide) (fun hc => ?_) (fun hc => ?_)
  · have h := h.1 hc
    exact wret_V X hr hlk hWσ_16 hS h dX5_work_96
  · have h := h.2 hc
    refine lv_aload_n X.1 X.2.1 dX5_work_82 rfl (lv_at hl 0 rfl) ?_
    refine wg (v := .ref (wad w 4 o)) X hT hWσ_16 3 0 192 vl3_o rfl rfl (by decide) rfl (by decide) in_X5 q523 rfl dX5_work_83 ?_
    refine wr_Z (rV (As := []) (rest := []) X hT hWσ_16 hS (met_Blocks_moveStep l (w := w) hV o _ σ_16 (by omega) h) (cwV 0 X.2.2.2.2 (lw_V q1742 q1743 q1744 q137 q1745) rfl rfl rfl (by decide +kernel) ⟨Nat.le_of_ble_eq_true rfl, Nat.le_of_ble_eq_true rfl⟩) vl4_o (by decide) rfl rfl hl.1 rfl (by first | exact Nat.le_of_ble_eq_true rfl | simp [catK, catI, catR, catL]) dX5_work_86 ⟨Nat.le_refl _, Nat.le_refl _⟩) hS (fun r_17 σ_18 H locs rr_17 rkσ_18 h hWσ_18 hS => ?_)
    have h := h rr_17 rkσ_18
    refine w_if_ne (tgt := 96) X rr_17.i dX5_work_89 (by decide) (fun hc => ?_) (fun hc => ?_)
    · have h := h.1 hc
      exact wret_V X hr hlk hWσ_18 hS h dX5_work_96
    · have h := h.2 hc
      refine lv_aload_n X.1 X.2.1 dX5_work_92 rfl (lv_at hl 0 rfl) ?_
      refine wr_V (rV (As := []) (rest := []) X hT hWσ_18 hS (met_Store_choose l (w := w) hV o _ σ_18 (by omega) h) (cwV 0 X.2.2.2.2 (lw_V q1766 q1768 qs85 q136 q1769) rfl rfl rfl (by decide +kernel) ⟨Nat.le_of_ble_eq_true rfl, Nat.le_of_ble_eq_true rfl⟩) vl3_o (by decide) rfl rfl hl.1 rfl (by first | exact Nat.le_of_ble_eq_true rfl | simp [catK, catI, catR, catL]) dX5_work_93 ⟨Nat.le_refl _, Nat.le_refl _⟩) hS (fun σ_20 H locs rkσ_20 h hWσ_20 hS => ?_)
      have h := h rkσ_20
      exact wret_V X hr hlk hWσ_20 hS h dX5_work_96
set_option maxHeartbeats 4000000 in
set_option maxRecDepth 100000 in
theorem wk_Store_work_b43 {p : Program} {l : Launch} {e : Env} {st : State} {m : MethodId} {args : Array Value} {below : List Frame} {meth : Method} {c : Code} {w : Wp} {o : Int} {Q : St → Prop} (X : CallFix p m c cX5_work 1 st args lw_all RX5) (hr : meth.sig.returnType = none) (hlk : meth.locks = false) (hT : Tb w st) (hV : Hvl w) (ho : 0 ≤ o ∧ o < 2) : ∀ (σ : St) (H : Heap) (locs : List Loc) (ls : Array Slot), lv_has ls 1 [(0, .ref (wad w 3 o))] → Wo w σ H → va_S (wA w) st.heap H locs → wp_Store_work_b43 (wc w) (wtv w) o Q σ → W p l e (headSpec (ws_ yX5_work cX5_work 1 none) rm_Store_work).room st m args below meth c H locs 0 0 (MQ below (QcV w Q) args st 0 0 (wA w)) (F0 m 43 ls []) := by
  have vl3_o : vl w 3 o := hV.hv 3 rfl ⟨by omega, by show _ < (2 : Int); omega⟩
  intro σ H locs ls hl hW hS h
  unfold wp_Store_work_b43 at h
  refine lv_aload_n X.1 X.2.1 dX5_work_43 rfl (lv_at hl 0 rfl) ?_
  refine wg (v := .int (oI (gI σ 223 o))) X hT hW 3 31 223 vl3_o rfl rfl (by decide) rfl (by decide) in_X5 q563 rfl dX5_work_44 ?_
  refine lv_iconst (v := oI (-1)) X.1 X.2.1 dX5_work_47 rfl ?_
  refine w_icmp_eq (tgt := 72) X (hW.r.i 223 o rfl) ((rB_lit (-1) (by decide)).i) dX5_work_48 (by decide) (fun hc => ?_) (fun hc => ?_)
  · have h := h.1 hc
    exact wk_Store_work_b72 X hr hlk hT hV ho σ _ _ _ (lv_sub hl [0] rfl) hW hS h
  · have h := h.2 hc
    refine lv_aload_n X.1 X.2.1 dX5_work_51 rfl (lv_at hl 0 rfl) ?_
    refine wg (v := .int (oI (gI σ 225 o))) X hT hW 3 33 225 vl3_o rfl rfl (by decide) rfl (by decide) in_X5 q565 rfl dX5_work_52 ?_
    refine w_if_eq (tgt := 72) X ((hW.r.z 225 o rfl).i) dX5_work_55 (by decide) (fun hc => ?_) (fun hc => ?_)
    · have h := h.1 hc
      exact wk_Store_work_b72 X hr hlk hT hV ho σ _ _ _ (lv_sub hl [0] rfl) hW hS h
    · have h := h.2 hc
      refine lv_aload_n X.1 X.2.1 dX5_work_58 rfl (lv_at hl 0 rfl) ?_
      refine wg (v := .int (oI (gI σ 205 o))) X hT hW 3 13 205 vl3_o rfl rfl (by decide) rfl (by decide) in_X5 q540 rfl dX5_work_59 ?_
      refine w_if_ne (tgt := 72) X (hW.r.i 205 o rfl) dX5_work_62 (by decide) (fun hc => ?_) (fun hc => ?_)
      · have h := h.1 hc
        exact wk_Store_work_b72 X hr hlk hT hV ho σ _ _ _ (lv_sub hl [0] rfl) hW hS h
      · have h := h.2 hc
        refine lv_aload_n X.1 X.2.1 dX5_work_65 rfl (lv_at hl 0 rfl) ?_
        refine wr_V (rV (As := []) (rest := []) X hT hW hS (met_Store_beginCommit l (w := w) hV o _ σ (by omega) h) (cwV 0 X.2.2.2.2 (lw_V q1033 q1035 qs26 q136 q1036) rfl rfl rfl (by decide +kernel) ⟨Nat.le_of_ble_eq_true rfl, Nat.le_of_ble_eq_true rfl⟩) vl3_o (by decide) rfl rfl hl.1 rfl (by first | exact Nat.le_of_ble_eq_true rfl | simp [catK, catI, catR, catL]) dX5_work_66 ⟨Nat.le_refl _, Nat.le_refl _⟩) hS (fun σ_22 H locs rkσ_22 h hWσ_22 hS => ?_)
        have h := h rkσ_22
        refine lv_goto (tgt := 96) X.1 X.2.1 dX5_work_69 (by decide) ?_
        exact wret_V X hr hlk hWσ_22 hS h dX5_work_96
set_option maxHeartbeats 4000000 in
set_option maxRecDepth 100000 in
theorem met_Store_work (l : Launch) {w : Wp} (hV : Hvl w) (o : Int) (Q : St → Prop) (σ : St) (ho : 0 ≤ o ∧ o < 2) (h : wp_Store_work (wc w) (wtv w) o Q σ) : Met l yX5_work (ws_ yX5_work cX5_work 1 none) rm_Store_work (PcW w σ [.ref (wad w 3 o)]) (QcV w Q) 0 0 (wA w) := by
  refine Met.ofW (cc := cX5_work) (maxL := 1) (ret := none) (by decide) rfl ?_
  intro p e st m args below meth c s₁ B hml hv
  obtain ⟨hargs, hW, hT⟩ := hv
  have X : CallFix p m c cX5_work 1 st _ lw_all RX5 := ⟨B.exec, B.bytes, hml, findClass_of_methodNamed B.named, fun w h => atoms_spec (ws := ws_ yX5_work cX5_work 1 none) B.pre w (List.mem_cons_of_mem _ h)⟩
  have hr := B.returns
  have hlk := B.notSynchronized
  have hS : va_S (wA w) st.heap st.heap [] := va_S.rf
  have vl3_o : vl w 3 o := hV.hv 3 rfl ⟨by omega, by show _ < (2 : Int); omega⟩
  have hl := lv_entry ([.ref (wad w 3 o)]) (n := 1) (Nat.le_of_ble_eq_true rfl)
  have hfr := lg_entry_eq m ([.ref (wad w 3 o)]) 1
  rw [← hargs] at hfr
  rw [hfr]
  generalize (lg_sl ([.ref (wad w 3 o)]) ++ List.replicate (1 - (lg_sl ([.ref (wad w 3 o)])).length) Slot.unset).toArray = ls at hl ⊢
  have hl : lv_has ls 1 [(0, .ref (wad w 3 o))] := hl
  unfold wp_Store_work at h
  refine lv_aload_n X.1 X.2.1 dX5_work_0 rfl (lv_at hl 0 rfl) ?_
  refine wg (v := .int (oI (gI σ 213 o))) X hT hW 3 21 213 vl3_o rfl rfl (by decide) rfl (by decide) in_X5 q551 rfl dX5_work_1 ?_
  refine w_if_eq (tgt := 14) X ((hW.r.z 213 o rfl).i) dX5_work_4 (by decide) (fun hc => ?_) (fun hc => ?_)
  · have h := h.1 hc
    refine lv_aload_n X.1 X.2.1 dX5_work_14 rfl (lv_at hl 0 rfl) ?_
    refine wg (v := .int (oI (gI σ 223 o))) X hT hW 3 31 223 vl3_o rfl rfl (by decide) rfl (by decide) in_X5 q563 rfl dX5_work_15 ?_
    refine lv_iconst (v := oI (-1)) X.1 X.2.1 dX5_work_18 rfl ?_
    refine w_icmp_eq (tgt := 43) X (hW.r.i 223 o rfl) ((rB_lit (-1) (by decide)).i) dX5_work_19 (by decide) (fun hc => ?_) (fun hc => ?_)
    · have h := h.1 hc
      exact wk_Store_work_b43 X hr hlk hT hV ho σ _ _ _ (lv_sub hl [0] rfl) hW hS h
    · have h := h.2 hc
      refine lv_aload_n X.1 X.2.1 dX5_work_22 rfl (lv_at hl 0 rfl) ?_
      refine wg (v := .int (oI (gI σ 225 o))) X hT hW 3 33 225 vl3_o rfl rfl (by decide) rfl (by decide) in_X5 q565 rfl dX5_work_23 ?_
      refine w_if_ne (tgt := 43) X ((hW.r.z 225 o rfl).i) dX5_work_26 (by decide) (fun hc => ?_) (fun hc => ?_)
      · have h := h.1 hc
        exact wk_Store_work_b43 X hr hlk hT hV ho σ _ _ _ (lv_sub hl [0] rfl) hW hS h
      · have h := h.2 hc
        refine lv_aload_n X.1 X.2.1 dX5_work_29 rfl (lv_at hl 0 rfl) ?_
        refine wr_Z (rV (As := []) (rest := []) X hT hW hS (met_Store_mayMove l (w := w) hV o _ σ (by omega) h) (cwV 0 X.2.2.2.2 (lw_V q1737 q1739 qs80 q136 q1740) rfl rfl rfl (by decide +kernel) ⟨Nat.le_of_ble_eq_true rfl, Nat.le_of_ble_eq_true rfl⟩) vl3_o (by decide) rfl rfl hl.1 rfl (by first | exact Nat.le_of_ble_eq_true rfl | simp [catK, catI, catR, catL]) dX5_work_30 ⟨Nat.le_refl _, Nat.le_refl _⟩) hS (fun r_23 σ_24 H locs rr_23 rkσ_24 h hWσ_24 hS => ?_)
        have h := h rr_23 rkσ_24
        refine w_if_eq (tgt := 43) X rr_23.i dX5_work_33 (by decide) (fun hc => ?_) (fun hc => ?_)
        · have h := h.1 hc
          exact wk_Store_work_b43 X hr hlk hT hV ho σ_24 _ _ _ (lv_sub hl [0] rfl) hWσ_24 hS h
        · have h := h.2 hc
          refine lv_aload_n X.1 X.2.1 dX5_work_36 rfl (lv_at hl 0 rfl) ?_
          refine wr_V (rV (As := []) (rest := []) X hT hWσ_24 hS (met_Store_collectStep l (w := w) hV o _ σ_24 (by omega) h) (cwV 0 X.2.2.2.2 (lw_V q1285 q1287 qs44 q136 q1288) rfl rfl rfl (by decide +kernel) ⟨Nat.le_of_ble_eq_true rfl, Nat.le_of_ble_eq_true rfl⟩) vl3_o (by decide) rfl rfl hl.1 rfl (by first | exact Nat.le_of_ble_eq_true rfl | simp [catK, catI, catR, catL]) dX5_work_37 ⟨Nat.le_refl _, Nat.le_refl _⟩) hS (fun σ_26 H locs rkσ_26 h hWσ_26 hS => ?_)
          have h := h rkσ_26
          refine lv_goto (tgt := 96) X.1 X.2.1 dX5_work_40 (by decide) ?_
          exact wret_V X hr hlk hWσ_26 hS h dX5_work_96
  · have h := h.2 hc
    refine lv_aload_n X.1 X.2.1 dX5_work_7 rfl (lv_at hl 0 rfl) ?_
    refine wr_V (rV (As := []) (rest := []) X hT hW hS (met_Store_commitStep l (w := w) hV o _ σ (by omega) h) (cwV 0 X.2.2.2.2 (lw_V q967 q969 qs20 q136 q970) rfl rfl rfl (by decide +kernel) ⟨Nat.le_of_ble_eq_true rfl, Nat.le_of_ble_eq_true rfl⟩) vl3_o (by decide) rfl rfl hl.1 rfl (by first | exact Nat.le_of_ble_eq_true rfl | simp [catK, catI, catR, catL]) dX5_work_8 ⟨Nat.le_refl _, Nat.le_refl _⟩) hS (fun σ_28 H locs rkσ_28 h hWσ_28 hS => ?_)
    have h := h rkσ_28
    refine lv_goto (tgt := 96) X.1 X.2.1 dX5_work_11 (by decide) ?_
    exact wret_V X hr hlk hWσ_28 hS h dX5_work_96
/-! Store.place()I -/
set_option maxHeartbeats 4000000 in
set_option maxRecDepth 100000 in
theorem met_Store_place (l : Launch) {w : Wp} (hV : Hvl w) (o : Int) (Q : Int → St → Prop) (σ : St) (ho : 0 ≤ o ∧ o < 2) (h : wp_Store_place (wc w) (wtv w) o Q σ) : Met l yX5_place (ws_ yX5_place cX5_place 1 (some .int)) rm_Store_place (PcW w σ [.ref (wad w 3 o)]) (QcI w Q) 0 0 (wA w) := by
  refine Met.ofW (cc := cX5_place) (maxL := 1) (ret := (some .int)) (by decide) rfl ?_
  intro p e st m args below meth c s₁ B hml hv
  obtain ⟨hargs, hW, hT⟩ := hv
  have X : CallFix p m c cX5_place 1 st _ lw_all RX5 := ⟨B.exec, B.bytes, hml, findClass_of_methodNamed B.named, fun w h => atoms_spec (ws := ws_ yX5_place cX5_place 1 (some .int)) B.pre w (List.mem_cons_of_mem _ h)⟩
  have hr := B.returns
  have hlk := B.notSynchronized
  have hS : va_S (wA w) st.heap st.heap [] := va_S.rf
  have vl3_o : vl w 3 o := hV.hv 3 rfl ⟨by omega, by show _ < (2 : Int); omega⟩
  have vl5_o : vl w 5 o := hV.hv 5 rfl ⟨by omega, by show _ < (2 : Int); omega⟩
  have vl7_o : vl w 7 o := hV.hv 7 rfl ⟨by omega, by show _ < (6 : Int); omega⟩
  have hl := lv_entry ([.ref (wad w 3 o)]) (n := 1) (Nat.le_of_ble_eq_true rfl)
  have hfr := lg_entry_eq m ([.ref (wad w 3 o)]) 1
  rw [← hargs] at hfr
  rw [hfr]
  generalize (lg_sl ([.ref (wad w 3 o)]) ++ List.replicate (1 - (lg_sl ([.ref (wad w 3 o)])).length) Slot.unset).toArray = ls at hl ⊢
  have hl : lv_has ls 1 [(0, .ref (wad w 3 o))] := hl
  unfold wp_Store_place at h
  refine lv_aload_n X.1 X.2.1 dX5_place_0 rfl (lv_at hl 0 rfl) ?_
  refine wg (v := .ref (wad w 7 o)) X hT hW 3 3 195 vl3_o rfl rfl (by decide) rfl (by decide) in_X5 q528 rfl dX5_place_1 ?_
  refine wg (v := .int (oI (gI σ 451 o))) X hT hW 7 3 451 vl7_o rfl rfl (by decide) rfl (by decide) in_X10 q509 rfl dX5_place_4 ?_
  refine lv_iconst (v := oI (-1)) X.1 X.2.1 dX5_place_7 rfl ?_
  refine w_icmp_ne (tgt := 21) X (hW.r.i 451 o rfl) ((rB_lit (-1) (by decide)).i) dX5_place_8 (by decide) (fun hc => ?_) (fun hc => ?_)
  · have h := h.1 hc
    refine lv_aload_n X.1 X.2.1 dX5_place_21 rfl (lv_at hl 0 rfl) ?_
    refine wg (v := .ref (wad w 7 o)) X hT hW 3 3 195 vl3_o rfl rfl (by decide) rfl (by decide) in_X5 q528 rfl dX5_place_22 ?_
    refine wg (v := .int (oI (gI σ 452 o))) X hT hW 7 4 452 vl7_o rfl rfl (by decide) rfl (by decide) in_X10 q511 rfl dX5_place_25 ?_
    exact wret_I X hr hlk hW hS (hW.r.i 452 o rfl) h dX5_place_28
  · have h := h.2 hc
    refine lv_aload_n X.1 X.2.1 dX5_place_11 rfl (lv_at hl 0 rfl) ?_
    refine wg (v := .ref (wad w 5 o)) X hT hW 3 1 193 vl3_o rfl rfl (by decide) rfl (by decide) in_X5 q525 rfl dX5_place_12 ?_
    refine wg (v := .int (oI (((wc w).2.1 - 2) * 128))) X hT hW 5 2 322 vl5_o rfl rfl (by decide) rfl (by decide) in_X7 q340 rfl dX5_place_15 ?_
    refine lv_goto (tgt := 28) X.1 X.2.1 dX5_place_18 (by decide) ?_
    exact wret_I X hr hlk hW hS (cin_r hT.c 322) h dX5_place_28
/-! Store.addKnots(LNandHouse$Knot;[I)V -/
set_option maxHeartbeats 4000000 in
set_option maxRecDepth 100000 in
theorem wk_Store_addKnots_L22B {p : Program} {l : Launch} {e : Env} {st : State} {m : MethodId} {args : Array Value} {below : List Frame} {meth : Method} {c : Code} {w : Wp} {o : Int} {x1 : Int} {x2f : Nat} {x2o : Int} {Q : St → Prop} {n : Nat} {F : Int → Int → Nat → Int → (St → Prop) → St → Prop} (X : CallFix p m c cX5_addKnots 4 st args lw_all RX5) (hr : meth.sig.returnType = none) (hlk : meth.locks = false) (hT : Tb w st) (hV : Hvl w) (hF : ∀ (o : Int) (x1 : Int) (x2f : Nat) (x2o : Int) (Q : St → Prop) (σ : St), 0 ≤ o ∧ o < 2 → rK x1 → vl w x2f x2o → ¬ x2f < 64 → aty x2f = 0 →  F o x1 x2f x2o Q σ → Met l yX5_addKnots (ws_ yX5_addKnots cX5_addKnots 4 none) (rm_Store_addKnots n) (PcW w σ [.ref (wad w 3 o), va_rf (knO w x1), .ref (wad w x2f x2o)]) (QcV w Q) 0 0 (wA w)) (ho : 0 ≤ o ∧ o < 2) (rx1 : rK x1) (vx2 : vl w x2f x2o) (nx2 : ¬ x2f < 64) (tx2 : aty x2f = 0) (K22 : Int → St → Prop) (hK22 : ∀ (y3 : Int) (σ : St) (H : Heap) (locs : List Loc) (ls : Array Slot), rI y3 → lv_has ls 4 [(0, .ref (wad w 3 o)), (1, va_rf (knO w x1)), (2, .ref (wad w x2f x2o)), (3, .int (oI y3))] → Wo w σ H → va_S (wA w) st.heap H locs → K22 y3 σ → W p l e (headSpec (ws_ yX5_addKnots cX5_addKnots 4 none) (rm_Store_addKnots (n + 1))).room st m args below meth c H locs 0 0 (MQ below (QcV w Q) args st 0 0 (wA w)) (F0 m 22 ls [])) : ∀ (y3 : Int) (σ : St) (H : Heap) (locs : List Loc) (ls : Array Slot), rI y3 → lv_has ls 4 [(0, .ref (wad w 3 o)), (1, va_rf (knO w x1)), (2, .ref (wad w x2f x2o)), (3, .int (oI y3))] → Wo w σ H → va_S (wA w) st.heap H locs → wp_Store_addKnots_L22 (wc w) (wtv w) o x1 x2f x2o F Q K22 y3 σ → W p l e (headSpec (ws_ yX5_addKnots cX5_addKnots 4 none) (rm_Store_addKnots (n + 1))).room st m args below meth c H locs 0 0 (MQ below (QcV w Q) args st 0 0 (wA w)) (F0 m 22 ls []) := by
  have vl3_o : vl w 3 o := hV.hv 3 rfl ⟨by omega, by show _ < (2 : Int); omega⟩
  intro y3 σ H locs ls ry3 hl hW hS h
  unfold wp_Store_addKnots_L22 at h
  refine lv_iload_n X.1 X.2.1 dX5_addKnots_22 rfl (lv_at hl 3 rfl) ?_
  refine w_kload_n (w := w) X dX5_addKnots_23 rfl (lv_at hl 1 rfl) ?_
  obtain ⟨hz_13, h⟩ := h
  rw [knR hz_13]
  refine wg (v := .int (oI (gI σ 577 x1))) X hT hW 9 1 577 (hV.hv 9 rfl ⟨hz_13, rx1.2⟩) rfl rfl (by decide) rfl (by decide) in_X9 q388 rfl dX5_addKnots_24 ?_
  refine w_icmp_ge (tgt := 54) X ry3 (hW.r.i 577 x1 rfl) dX5_addKnots_27 (by decide) (fun hc => ?_) (fun hc => ?_)
  · have h := h.1 hc
    exact wret_V X hr hlk hW hS h dX5_addKnots_54
  · have h := h.2 hc
    refine w_kload_n (w := w) X dX5_addKnots_30 rfl (lv_at hl 1 rfl) ?_
    rw [knR hz_13]
    refine wg (v := .int (oI (gI σ 576 x1))) X hT hW 9 0 576 (hV.hv 9 rfl ⟨hz_13, rx1.2⟩) rfl rfl (by decide) rfl (by decide) in_X9 q385 rfl dX5_addKnots_31 ?_
    refine w_if_le (tgt := 54) X (hW.r.i 576 x1 rfl) dX5_addKnots_34 (by decide) (fun hc => ?_) (fun hc => ?_)
    · have h := h.1 hc
      exact wret_V X hr hlk hW hS h dX5_addKnots_54
    · have h := h.2 hc
      refine lv_aload_n X.1 X.2.1 dX5_addKnots_37 rfl (lv_at hl 0 rfl) ?_
      refine w_kload_n (w := w) X dX5_addKnots_38 rfl (lv_at hl 1 rfl) ?_
      rw [knR hz_13]
      refine wg (v := .ref (wad w 583 x1)) X hT hW 9 7 583 (hV.hv 9 rfl ⟨hz_13, rx1.2⟩) rfl rfl (by decide) rfl (by decide) in_X9 q406 rfl dX5_addKnots_39 ?_
      refine lv_iload_n X.1 X.2.1 dX5_addKnots_42 rfl (lv_at hl 3 rfl) ?_
      obtain ⟨bi, h⟩ := h
      refine w_aald (n := 9) X hT hW 583 (hV.hv 583 rfl ⟨hz_13, rx1.2⟩) (by decide) rfl rfl bi dX5_addKnots_43 ?_
      refine lv_aload_n X.1 X.2.1 dX5_addKnots_44 rfl (lv_at hl 2 rfl) ?_
      refine wr_V (rV (As := [va_rf (knO w (gA σ 583 x1 y3)), .ref (wad w x2f x2o)]) (rest := []) X hT hW hS (hF o (gA σ 583 x1 y3) x2f x2o _ σ (by omega) (hW.r.ak 583 x1 y3 rfl) vx2 nx2 tx2 h) (cwV 2 X.2.2.2.2 (lw_V q1817 q1819 qs87 q136 q1820) rfl rfl rfl (by decide +kernel) ⟨by show _ ≤ _; simp only [headSpec, rm_Store_addKnots]; omega, by show _ ≤ _; simp only [headSpec, rm_Store_addKnots]; omega⟩) vl3_o (by decide) rfl rfl hl.1 rfl (by first | exact Nat.le_of_ble_eq_true rfl | simp [catK, catI, catR, catL]) dX5_addKnots_45 ⟨Nat.le_refl _, Nat.le_refl _⟩) hS (fun σ_15 H locs rkσ_15 h hWσ_15 hS => ?_)
      have h := h rkσ_15
      obtain ⟨y3_16, ey3_16⟩ : ∃ y : Int, y = w32 (y3 + 1) := ⟨_, rfl⟩
      have h := h y3_16 ey3_16
      have ry3_16 : rI y3_16 := by rw [ey3_16]; exact w32_r _
      refine lv_iinc (v := oI y3_16) (lv' := [(3, .int (oI y3_16)), (0, .ref (wad w 3 o)), (1, va_rf (knO w x1)), (2, .ref (wad w x2f x2o))]) X.1 X.2.1 dX5_addKnots_48 hl (k := 3) rfl (by rw [ey3_16]; exact oI_add _ _) (by decide) (by first | rfl | simp [catK, catI, catR, catL]) (fun ls hl => ?_)
      refine lv_goto (tgt := 22) X.1 X.2.1 dX5_addKnots_51 (by decide) ?_
      exact hK22 y3_16 σ_15 _ _ _ ry3_16 (lv_sub hl [1, 2, 3, 0] rfl) hWσ_15 hS h
theorem wk_Store_addKnots_L22 {p : Program} {l : Launch} {e : Env} {st : State} {m : MethodId} {args : Array Value} {below : List Frame} {meth : Method} {c : Code} {w : Wp} {o : Int} {x1 : Int} {x2f : Nat} {x2o : Int} {Q : St → Prop} {n : Nat} {F : Int → Int → Nat → Int → (St → Prop) → St → Prop} (X : CallFix p m c cX5_addKnots 4 st args lw_all RX5) (hr : meth.sig.returnType = none) (hlk : meth.locks = false) (hT : Tb w st) (hV : Hvl w) (hF : ∀ (o : Int) (x1 : Int) (x2f : Nat) (x2o : Int) (Q : St → Prop) (σ : St), 0 ≤ o ∧ o < 2 → rK x1 → vl w x2f x2o → ¬ x2f < 64 → aty x2f = 0 →  F o x1 x2f x2o Q σ → Met l yX5_addKnots (ws_ yX5_addKnots cX5_addKnots 4 none) (rm_Store_addKnots n) (PcW w σ [.ref (wad w 3 o), va_rf (knO w x1), .ref (wad w x2f x2o)]) (QcV w Q) 0 0 (wA w)) (ho : 0 ≤ o ∧ o < 2) (rx1 : rK x1) (vx2 : vl w x2f x2o) (nx2 : ¬ x2f < 64) (tx2 : aty x2f = 0) : ∀ (y3 : Int) (σ : St) (H : Heap) (locs : List Loc) (ls : Array Slot), rI y3 → lv_has ls 4 [(0, .ref (wad w 3 o)), (1, va_rf (knO w x1)), (2, .ref (wad w x2f x2o)), (3, .int (oI y3))] → Wo w σ H → va_S (wA w) st.heap H locs → lQ1 (wp_Store_addKnots_L22 (wc w) (wtv w) o x1 x2f x2o F Q) y3 σ → W p l e (headSpec (ws_ yX5_addKnots cX5_addKnots 4 none) (rm_Store_addKnots (n + 1))).room st m args below meth c H locs 0 0 (MQ below (QcV w Q) args st 0 0 (wA w)) (F0 m 22 ls []) := by
  intro y3 σ H locs ls ry3 hl hW hS h
  obtain ⟨fu, h⟩ := h
  induction fu generalizing y3 σ H locs ls with
  | zero => exact h.elim
  | succ fu ih =>
    exact wk_Store_addKnots_L22B X hr hlk hT hV hF ho rx1 vx2 nx2 tx2 (lq1 (wp_Store_addKnots_L22 (wc w) (wtv w) o x1 x2f x2o F Q) fu) (fun y3 σ H locs ls ry3 hl hW hS h => ih y3 σ H locs ls ry3 hl hW hS h) y3 σ H locs ls ry3 hl hW hS h
set_option maxHeartbeats 4000000 in
set_option maxRecDepth 100000 in
theorem wk_Store_addKnots_b20 {p : Program} {l : Launch} {e : Env} {st : State} {m : MethodId} {args : Array Value} {below : List Frame} {meth : Method} {c : Code} {w : Wp} {o : Int} {x1 : Int} {x2f : Nat} {x2o : Int} {Q : St → Prop} {n : Nat} {F : Int → Int → Nat → Int → (St → Prop) → St → Prop} (X : CallFix p m c cX5_addKnots 4 st args lw_all RX5) (hr : meth.sig.returnType = none) (hlk : meth.locks = false) (hT : Tb w st) (hV : Hvl w) (hF : ∀ (o : Int) (x1 : Int) (x2f : Nat) (x2o : Int) (Q : St → Prop) (σ : St), 0 ≤ o ∧ o < 2 → rK x1 → vl w x2f x2o → ¬ x2f < 64 → aty x2f = 0 →  F o x1 x2f x2o Q σ → Met l yX5_addKnots (ws_ yX5_addKnots cX5_addKnots 4 none) (rm_Store_addKnots n) (PcW w σ [.ref (wad w 3 o), va_rf (knO w x1), .ref (wad w x2f x2o)]) (QcV w Q) 0 0 (wA w)) (ho : 0 ≤ o ∧ o < 2) (rx1 : rK x1) (vx2 : vl w x2f x2o) (nx2 : ¬ x2f < 64) (tx2 : aty x2f = 0) : ∀ (σ : St) (H : Heap) (locs : List Loc) (ls : Array Slot), lv_has ls 4 [(0, .ref (wad w 3 o)), (1, va_rf (knO w x1)), (2, .ref (wad w x2f x2o))] → Wo w σ H → va_S (wA w) st.heap H locs → wp_Store_addKnots_b20 (wc w) (wtv w) o x1 x2f x2o F Q σ → W p l e (headSpec (ws_ yX5_addKnots cX5_addKnots 4 none) (rm_Store_addKnots (n + 1))).room st m args below meth c H locs 0 0 (MQ below (QcV w Q) args st 0 0 (wA w)) (F0 m 20 ls []) := by

  intro σ H locs ls hl hW hS h
  unfold wp_Store_addKnots_b20 at h
  refine lv_iconst (v := oI 0) X.1 X.2.1 dX5_addKnots_20 rfl ?_
  refine lv_istore_n (i := 3) (lv' := [(3, .int (oI 0)), (0, .ref (wad w 3 o)), (1, va_rf (knO w x1)), (2, .ref (wad w x2f x2o))]) X.1 X.2.1 dX5_addKnots_21 rfl hl (by decide) (by first | rfl | simp [catK, catI, catR, catL]) (fun ls hl => ?_)
  exact wk_Store_addKnots_L22 X hr hlk hT hV hF ho rx1 vx2 nx2 tx2 0 σ _ _ _ rZ_0.i (lv_sub hl [1, 2, 3, 0] rfl) hW hS h
set_option maxHeartbeats 4000000 in
set_option maxRecDepth 100000 in
theorem met_Store_addKnots_R (l : Launch) {w : Wp} (hV : Hvl w) {n : Nat} {F : Int → Int → Nat → Int → (St → Prop) → St → Prop} (hF : ∀ (o : Int) (x1 : Int) (x2f : Nat) (x2o : Int) (Q : St → Prop) (σ : St), 0 ≤ o ∧ o < 2 → rK x1 → vl w x2f x2o → ¬ x2f < 64 → aty x2f = 0 →  F o x1 x2f x2o Q σ → Met l yX5_addKnots (ws_ yX5_addKnots cX5_addKnots 4 none) (rm_Store_addKnots n) (PcW w σ [.ref (wad w 3 o), va_rf (knO w x1), .ref (wad w x2f x2o)]) (QcV w Q) 0 0 (wA w)) (o : Int) (x1 : Int) (x2f : Nat) (x2o : Int) (Q : St → Prop) (σ : St) (ho : 0 ≤ o ∧ o < 2) (rx1 : rK x1) (vx2 : vl w x2f x2o) (nx2 : ¬ x2f < 64) (tx2 : aty x2f = 0) (h : wp_Store_addKnots_R (wc w) (wtv w) o x1 x2f x2o F Q σ) : Met l yX5_addKnots (ws_ yX5_addKnots cX5_addKnots 4 none) (rm_Store_addKnots (n + 1)) (PcW w σ [.ref (wad w 3 o), va_rf (knO w x1), .ref (wad w x2f x2o)]) (QcV w Q) 0 0 (wA w) := by
  refine Met.ofW (cc := cX5_addKnots) (maxL := 4) (ret := none) (by decide) rfl ?_
  intro p e st m args below meth c s₁ B hml hv
  obtain ⟨hargs, hW, hT⟩ := hv
  have X : CallFix p m c cX5_addKnots 4 st _ lw_all RX5 := ⟨B.exec, B.bytes, hml, findClass_of_methodNamed B.named, fun w h => atoms_spec (ws := ws_ yX5_addKnots cX5_addKnots 4 none) B.pre w (List.mem_cons_of_mem _ h)⟩
  have hr := B.returns
  have hlk := B.notSynchronized
  have hS : va_S (wA w) st.heap st.heap [] := va_S.rf
  have vl3_o : vl w 3 o := hV.hv 3 rfl ⟨by omega, by show _ < (2 : Int); omega⟩
  have hl := lv_entry ([.ref (wad w 3 o), va_rf (knO w x1), .ref (wad w x2f x2o)]) (n := 4) (by simp [lg_sl, catK, catI, catR, catL])
  have hfr := lg_entry_eq m ([.ref (wad w 3 o), va_rf (knO w x1), .ref (wad w x2f x2o)]) 4
  rw [← hargs] at hfr
  rw [hfr]
  generalize (lg_sl ([.ref (wad w 3 o), va_rf (knO w x1), .ref (wad w x2f x2o)]) ++ List.replicate (4 - (lg_sl ([.ref (wad w 3 o), va_rf (knO w x1), .ref (wad w x2f x2o)])).length) Slot.unset).toArray = ls at hl ⊢
  simp [lv_args, catK, catI, catR, catL] at hl
  have hl : lv_has ls 4 [(0, .ref (wad w 3 o)), (1, va_rf (knO w x1)), (2, .ref (wad w x2f x2o))] := hl
  unfold wp_Store_addKnots_R at h
  refine w_kload_n (w := w) X dX5_addKnots_0 rfl (lv_at hl 1 rfl) ?_
  obtain ⟨hz_17, h⟩ := h
  rw [knR hz_17]
  refine wg (v := .int (oI (gI σ 584 x1))) X hT hW 9 8 584 (hV.hv 9 rfl ⟨hz_17, rx1.2⟩) rfl rfl (by decide) rfl (by decide) in_X9 q409 rfl dX5_addKnots_1 ?_
  refine w_if_ne (tgt := 20) X ((hW.r.z 584 x1 rfl).i) dX5_addKnots_4 (by decide) (fun hc => ?_) (fun hc => ?_)
  · have h := h.1 hc
    exact wk_Store_addKnots_b20 X hr hlk hT hV hF ho rx1 vx2 nx2 tx2 σ _ _ _ (lv_sub hl [0, 1, 2] rfl) hW hS h
  · have h := h.2 hc
    refine lv_aload_n X.1 X.2.1 dX5_addKnots_7 rfl (lv_at hl 2 rfl) ?_
    refine w_kload_n (w := w) X dX5_addKnots_8 rfl (lv_at hl 1 rfl) ?_
    rw [knR hz_17]
    refine wg (v := .int (oI (gI σ 585 x1))) X hT hW 9 9 585 (hV.hv 9 rfl ⟨hz_17, rx1.2⟩) rfl rfl (by decide) rfl (by decide) in_X9 q412 rfl dX5_addKnots_9 ?_
    refine lv_dup2_11 X.1 X.2.1 dX5_addKnots_12 rfl rfl ?_
    obtain ⟨bi, h⟩ := h
    refine w_iald (n := (aln (wc w) x2f x2o)) X hT hW x2f vx2 nx2 tx2 rfl bi dX5_addKnots_13 ?_
    refine w_kload_n (w := w) X dX5_addKnots_14 rfl (lv_at hl 1 rfl) ?_
    rw [knR hz_17]
    refine wg (v := .int (oI (gI σ 587 x1))) X hT hW 9 11 587 (hV.hv 9 rfl ⟨hz_17, rx1.2⟩) rfl rfl (by decide) rfl (by decide) in_X9 q416 rfl dX5_addKnots_15 ?_
    refine w_iadd X dX5_addKnots_18 ?_
    obtain ⟨bi, h⟩ := h
    refine w_iast (n := (aln (wc w) x2f x2o)) X hT hW hS x2f vx2 nx2 tx2 rfl bi (w32_r _) dX5_addKnots_19 (fun H locs hN hS => ?_)
    obtain ⟨σ_18, eσ_18⟩ : ∃ x, x = sA σ x2f x2o (gI σ 585 x1) (w32 ((gA σ x2f x2o (gI σ 585 x1)) + (gI σ 587 x1))) := ⟨_, rfl⟩
    have hWσ_18 : Wo w σ_18 H := eσ_18 ▸ hN
    have h := h σ_18 eσ_18
    clear hN
    exact wk_Store_addKnots_b20 X hr hlk hT hV hF ho rx1 vx2 nx2 tx2 σ_18 _ _ _ (lv_sub hl [0, 1, 2] rfl) hWσ_18 hS h
theorem met_Store_addKnots (l : Launch) {w : Wp} (hV : Hvl w) (n : Nat) : ∀ (o : Int) (x1 : Int) (x2f : Nat) (x2o : Int) (Q : St → Prop) (σ : St), 0 ≤ o ∧ o < 2 → rK x1 → vl w x2f x2o → ¬ x2f < 64 → aty x2f = 0 → wp_Store_addKnots (wc w) (wtv w) n o x1 x2f x2o Q σ → Met l yX5_addKnots (ws_ yX5_addKnots cX5_addKnots 4 none) (rm_Store_addKnots n) (PcW w σ [.ref (wad w 3 o), va_rf (knO w x1), .ref (wad w x2f x2o)]) (QcV w Q) 0 0 (wA w) := by
  induction n with
  | zero => intro o x1 x2f x2o Q σ ho rx1 vx2 nx2 tx2 h; exact h.elim
  | succ n ih => intro o x1 x2f x2o Q σ ho rx1 vx2 nx2 tx2 h; exact met_Store_addKnots_R l hV ih o x1 x2f x2o Q σ ho rx1 vx2 nx2 tx2 h
/-! Store.isSound([I)Z -/
set_option maxHeartbeats 4000000 in
set_option maxRecDepth 100000 in
theorem wk_Store_isSound_b330 {p : Program} {l : Launch} {e : Env} {st : State} {m : MethodId} {args : Array Value} {below : List Frame} {meth : Method} {c : Code} {w : Wp} {o : Int} {x1f : Nat} {x1o : Int} {Q : Int → St → Prop} (X : CallFix p m c cX5_isSound 4 st args lw_all RX5) (hr : meth.sig.returnType = (some .boolean)) (hlk : meth.locks = false) (hT : Tb w st) (hV : Hvl w) (ho : 0 ≤ o ∧ o < 2) (vx1 : vl w x1f x1o) (nx1 : ¬ x1f < 64) (tx1 : aty x1f = 0) (K335 : Int → Int → Int → St → Prop) (hK335 : ∀ (y3 t0 t1 : Int) (σ : St) (H : Heap) (locs : List Loc) (ls : Array Slot), rI y3 → rZ t0 → rZ t1 → lv_has ls 4 [(0, .ref (wad w 3 o)), (1, .ref (wad w x1f x1o)), (3, .int (oI y3))] → Wo w σ H → va_S (wA w) st.heap H locs → K335 y3 t0 t1 σ → W p l e (headSpec (ws_ yX5_isSound cX5_isSound 4 (some .boolean)) rm_Store_isSound).room st m args below meth c H locs 0 0 (MQ below (QcZ w Q) args st 0 0 (wA w)) (F0 m 335 ls [.int (oI t0), .int (oI t1)])) : ∀ (y3 t0 : Int) (σ : St) (H : Heap) (locs : List Loc) (ls : Array Slot), rI y3 → rZ t0 → lv_has ls 4 [(0, .ref (wad w 3 o)), (1, .ref (wad w x1f x1o)), (3, .int (oI y3))] → Wo w σ H → va_S (wA w) st.heap H locs → wp_Store_isSound_b330 (wc w) (wtv w) o x1f x1o Q K335 y3 t0 σ → W p l e (headSpec (ws_ yX5_isSound cX5_isSound 4 (some .boolean)) rm_Store_isSound).room st m args below meth c H locs 0 0 (MQ below (QcZ w Q) args st 0 0 (wA w)) (F0 m 330 ls [.int (oI t0)]) := by

  intro y3 t0 σ H locs ls ry3 rt0 hl hW hS h
  unfold wp_Store_isSound_b330 at h
  refine lv_iconst (v := oI 1) X.1 X.2.1 dX5_isSound_330 rfl ?_
  refine lv_goto (tgt := 335) X.1 X.2.1 dX5_isSound_331 (by decide) ?_
  exact hK335 y3 1 t0 σ _ _ _ ry3 rZ_1 rt0 (lv_sub hl [0, 1, 2] rfl) hW hS h
set_option maxHeartbeats 4000000 in
set_option maxRecDepth 100000 in
theorem wk_Store_isSound_b334 {p : Program} {l : Launch} {e : Env} {st : State} {m : MethodId} {args : Array Value} {below : List Frame} {meth : Method} {c : Code} {w : Wp} {o : Int} {x1f : Nat} {x1o : Int} {Q : Int → St → Prop} (X : CallFix p m c cX5_isSound 4 st args lw_all RX5) (hr : meth.sig.returnType = (some .boolean)) (hlk : meth.locks = false) (hT : Tb w st) (hV : Hvl w) (ho : 0 ≤ o ∧ o < 2) (vx1 : vl w x1f x1o) (nx1 : ¬ x1f < 64) (tx1 : aty x1f = 0) (K335 : Int → Int → Int → St → Prop) (hK335 : ∀ (y3 t0 t1 : Int) (σ : St) (H : Heap) (locs : List Loc) (ls : Array Slot), rI y3 → rZ t0 → rZ t1 → lv_has ls 4 [(0, .ref (wad w 3 o)), (1, .ref (wad w x1f x1o)), (3, .int (oI y3))] → Wo w σ H → va_S (wA w) st.heap H locs → K335 y3 t0 t1 σ → W p l e (headSpec (ws_ yX5_isSound cX5_isSound 4 (some .boolean)) rm_Store_isSound).room st m args below meth c H locs 0 0 (MQ below (QcZ w Q) args st 0 0 (wA w)) (F0 m 335 ls [.int (oI t0), .int (oI t1)])) : ∀ (y3 t0 : Int) (σ : St) (H : Heap) (locs : List Loc) (ls : Array Slot), rI y3 → rZ t0 → lv_has ls 4 [(0, .ref (wad w 3 o)), (1, .ref (wad w x1f x1o)), (3, .int (oI y3))] → Wo w σ H → va_S (wA w) st.heap H locs → wp_Store_isSound_b334 (wc w) (wtv w) o x1f x1o Q K335 y3 t0 σ → W p l e (headSpec (ws_ yX5_isSound cX5_isSound 4 (some .boolean)) rm_Store_isSound).room st m args below meth c H locs 0 0 (MQ below (QcZ w Q) args st 0 0 (wA w)) (F0 m 334 ls [.int (oI t0)]) := by

  intro y3 t0 σ H locs ls ry3 rt0 hl hW hS h
  unfold wp_Store_isSound_b334 at h
  refine lv_iconst (v := oI 0) X.1 X.2.1 dX5_isSound_334 rfl ?_
  exact hK335 y3 0 t0 σ _ _ _ ry3 rZ_0 rt0 (lv_sub hl [0, 1, 2] rfl) hW hS h
set_option maxHeartbeats 4000000 in
set_option maxRecDepth 100000 in
theorem wk_Store_isSound_b335 {p : Program} {l : Launch} {e : Env} {st : State} {m : MethodId} {args : Array Value} {below : List Frame} {meth : Method} {c : Code} {w : Wp} {o : Int} {x1f : Nat} {x1o : Int} {Q : Int → St → Prop} (X : CallFix p m c cX5_isSound 4 st args lw_all RX5) (hr : meth.sig.returnType = (some .boolean)) (hlk : meth.locks = false) (hT : Tb w st) (hV : Hvl w) (ho : 0 ≤ o ∧ o < 2) (vx1 : vl w x1f x1o) (nx1 : ¬ x1f < 64) (tx1 : aty x1f = 0) (K272 : Int → Int → St → Prop) (hK272 : ∀ (y2 y3 : Int) (σ : St) (H : Heap) (locs : List Loc) (ls : Array Slot), rZ y2 → rI y3 → lv_has ls 4 [(0, .ref (wad w 3 o)), (1, .ref (wad w x1f x1o)), (2, .int (oI y2)), (3, .int (oI y3))] → Wo w σ H → va_S (wA w) st.heap H locs → K272 y2 y3 σ → W p l e (headSpec (ws_ yX5_isSound cX5_isSound 4 (some .boolean)) rm_Store_isSound).room st m args below meth c H locs 0 0 (MQ below (QcZ w Q) args st 0 0 (wA w)) (F0 m 272 ls [])) : ∀ (y3 t0 t1 : Int) (σ : St) (H : Heap) (locs : List Loc) (ls : Array Slot), rI y3 → rZ t0 → rZ t1 → lv_has ls 4 [(0, .ref (wad w 3 o)), (1, .ref (wad w x1f x1o)), (3, .int (oI y3))] → Wo w σ H → va_S (wA w) st.heap H locs → wp_Store_isSound_b335 (wc w) (wtv w) o x1f x1o Q K272 y3 t0 t1 σ → W p l e (headSpec (ws_ yX5_isSound cX5_isSound 4 (some .boolean)) rm_Store_isSound).room st m args below meth c H locs 0 0 (MQ below (QcZ w Q) args st 0 0 (wA w)) (F0 m 335 ls [.int (oI t0), .int (oI t1)]) := by

  intro y3 t0 t1 σ H locs ls ry3 rt0 rt1 hl hW hS h
  unfold wp_Store_isSound_b335 at h
  refine w_iand X dX5_isSound_335 ?_
  refine w_top (fun y2_69 ey2_69 => ?_)
  have h := h y2_69 ey2_69
  have ry2_69 : rZ y2_69 := by rw [ey2_69]; exact (iand_Z rt1 rt0)
  refine lv_istore_n (i := 2) (lv' := [(2, .int (oI y2_69)), (0, .ref (wad w 3 o)), (1, .ref (wad w x1f x1o)), (3, .int (oI y3))]) X.1 X.2.1 dX5_isSound_336 rfl hl (by decide) (by first | rfl | simp [catK, catI, catR, catL]) (fun ls hl => ?_)
  obtain ⟨y3_70, ey3_70⟩ : ∃ y : Int, y = w32 (y3 + 1) := ⟨_, rfl⟩
  have h := h y3_70 ey3_70
  have ry3_70 : rI y3_70 := by rw [ey3_70]; exact w32_r _
  refine lv_iinc (v := oI y3_70) (lv' := [(3, .int (oI y3_70)), (2, .int (oI y2_69)), (0, .ref (wad w 3 o)), (1, .ref (wad w x1f x1o))]) X.1 X.2.1 dX5_isSound_337 hl (k := 3) rfl (by rw [ey3_70]; exact oI_add _ _) (by decide) (by first | rfl | simp [catK, catI, catR, catL]) (fun ls hl => ?_)
  refine lv_goto (tgt := 272) X.1 X.2.1 dX5_isSound_340 (by decide) ?_
  exact hK272 y2_69 y3_70 σ _ _ _ ry2_69 ry3_70 (lv_sub hl [2, 3, 1, 0] rfl) hW hS h
set_option maxHeartbeats 4000000 in
set_option maxRecDepth 100000 in
theorem wk_Store_isSound_b231 {p : Program} {l : Launch} {e : Env} {st : State} {m : MethodId} {args : Array Value} {below : List Frame} {meth : Method} {c : Code} {w : Wp} {o : Int} {x1f : Nat} {x1o : Int} {Q : Int → St → Prop} (X : CallFix p m c cX5_isSound 4 st args lw_all RX5) (hr : meth.sig.returnType = (some .boolean)) (hlk : meth.locks = false) (hT : Tb w st) (hV : Hvl w) (ho : 0 ≤ o ∧ o < 2) (vx1 : vl w x1f x1o) (nx1 : ¬ x1f < 64) (tx1 : aty x1f = 0) (K232 : Int → Int → St → Prop) (hK232 : ∀ (t0 t1 : Int) (σ : St) (H : Heap) (locs : List Loc) (ls : Array Slot), rZ t0 → rZ t1 → lv_has ls 4 [(0, .ref (wad w 3 o)), (1, .ref (wad w x1f x1o))] → Wo w σ H → va_S (wA w) st.heap H locs → K232 t0 t1 σ → W p l e (headSpec (ws_ yX5_isSound cX5_isSound 4 (some .boolean)) rm_Store_isSound).room st m args below meth c H locs 0 0 (MQ below (QcZ w Q) args st 0 0 (wA w)) (F0 m 232 ls [.int (oI t0), .int (oI t1)])) : ∀ (t0 : Int) (σ : St) (H : Heap) (locs : List Loc) (ls : Array Slot), rZ t0 → lv_has ls 4 [(0, .ref (wad w 3 o)), (1, .ref (wad w x1f x1o))] → Wo w σ H → va_S (wA w) st.heap H locs → wp_Store_isSound_b231 (wc w) (wtv w) o x1f x1o Q K232 t0 σ → W p l e (headSpec (ws_ yX5_isSound cX5_isSound 4 (some .boolean)) rm_Store_isSound).room st m args below meth c H locs 0 0 (MQ below (QcZ w Q) args st 0 0 (wA w)) (F0 m 231 ls [.int (oI t0)]) := by

  intro t0 σ H locs ls rt0 hl hW hS h
  unfold wp_Store_isSound_b231 at h
  refine lv_iconst (v := oI 0) X.1 X.2.1 dX5_isSound_231 rfl ?_
  exact hK232 0 t0 σ _ _ _ rZ_0 rt0 (lv_sub hl [0, 1] rfl) hW hS h
set_option maxHeartbeats 4000000 in
set_option maxRecDepth 100000 in
theorem wk_Store_isSound_b232 {p : Program} {l : Launch} {e : Env} {st : State} {m : MethodId} {args : Array Value} {below : List Frame} {meth : Method} {c : Code} {w : Wp} {o : Int} {x1f : Nat} {x1o : Int} {Q : Int → St → Prop} (X : CallFix p m c cX5_isSound 4 st args lw_all RX5) (hr : meth.sig.returnType = (some .boolean)) (hlk : meth.locks = false) (hT : Tb w st) (hV : Hvl w) (ho : 0 ≤ o ∧ o < 2) (vx1 : vl w x1f x1o) (nx1 : ¬ x1f < 64) (tx1 : aty x1f = 0) (K114 : Int → Int → St → Prop) (hK114 : ∀ (y2 y3 : Int) (σ : St) (H : Heap) (locs : List Loc) (ls : Array Slot), rZ y2 → rZ y3 → lv_has ls 4 [(0, .ref (wad w 3 o)), (1, .ref (wad w x1f x1o)), (2, .int (oI y2)), (3, .int (oI y3))] → Wo w σ H → va_S (wA w) st.heap H locs → K114 y2 y3 σ → W p l e (headSpec (ws_ yX5_isSound cX5_isSound 4 (some .boolean)) rm_Store_isSound).room st m args below meth c H locs 0 0 (MQ below (QcZ w Q) args st 0 0 (wA w)) (F0 m 114 ls [])) : ∀ (t0 t1 : Int) (σ : St) (H : Heap) (locs : List Loc) (ls : Array Slot), rZ t0 → rZ t1 → lv_has ls 4 [(0, .ref (wad w 3 o)), (1, .ref (wad w x1f x1o))] → Wo w σ H → va_S (wA w) st.heap H locs → wp_Store_isSound_b232 (wc w) (wtv w) o x1f x1o Q K114 t0 t1 σ → W p l e (headSpec (ws_ yX5_isSound cX5_isSound 4 (some .boolean)) rm_Store_isSound).room st m args below meth c H locs 0 0 (MQ below (QcZ w Q) args st 0 0 (wA w)) (F0 m 232 ls [.int (oI t0), .int (oI t1)]) := by
  have vl3_o : vl w 3 o := hV.hv 3 rfl ⟨by omega, by show _ < (2 : Int); omega⟩
  have vl6_o : vl w 6 o := hV.hv 6 rfl ⟨by omega, by show _ < (2 : Int); omega⟩
  intro t0 t1 σ H locs ls rt0 rt1 hl hW hS h
  unfold wp_Store_isSound_b232 at h
  refine w_iand X dX5_isSound_232 ?_
  refine w_top (fun y2_71 ey2_71 => ?_)
  have h := h y2_71 ey2_71
  have ry2_71 : rZ y2_71 := by rw [ey2_71]; exact (iand_Z rt1 rt0)
  refine lv_istore_n (i := 2) (lv' := [(2, .int (oI y2_71)), (0, .ref (wad w 3 o)), (1, .ref (wad w x1f x1o))]) X.1 X.2.1 dX5_isSound_233 rfl hl (by decide) (by first | rfl | simp [catK, catI, catR, catL]) (fun ls hl => ?_)
  refine lv_aload_n X.1 X.2.1 dX5_isSound_234 rfl (lv_at hl 2 rfl) ?_
  refine lv_aload_n X.1 X.2.1 dX5_isSound_235 rfl (lv_at hl 1 rfl) ?_
  refine wg (v := .ref (wad w 6 o)) X hT hW 3 2 194 vl3_o rfl rfl (by decide) rfl (by decide) in_X5 q526 rfl dX5_isSound_236 ?_
  refine wg (v := .int (oI (gI σ 393 o))) X hT hW 6 9 393 vl6_o rfl rfl (by decide) rfl (by decide) in_X8 q461 rfl dX5_isSound_239 ?_
  refine lv_dup2_11 X.1 X.2.1 dX5_isSound_242 rfl rfl ?_
  obtain ⟨bi, h⟩ := h
  refine w_iald (n := (aln (wc w) x1f x1o)) X hT hW x1f vx1 nx1 tx1 rfl bi dX5_isSound_243 ?_
  refine lv_aload_n X.1 X.2.1 dX5_isSound_244 rfl (lv_at hl 1 rfl) ?_
  refine wg (v := .ref (wad w 6 o)) X hT hW 3 2 194 vl3_o rfl rfl (by decide) rfl (by decide) in_X5 q526 rfl dX5_isSound_245 ?_
  refine wg (v := .int (oI (gI σ 395 o))) X hT hW 6 11 395 vl6_o rfl rfl (by decide) rfl (by decide) in_X8 q467 rfl dX5_isSound_248 ?_
  refine w_iadd X dX5_isSound_251 ?_
  obtain ⟨bi, h⟩ := h
  refine w_iast (n := (aln (wc w) x1f x1o)) X hT hW hS x1f vx1 nx1 tx1 rfl bi (w32_r _) dX5_isSound_252 (fun H locs hN hS => ?_)
  obtain ⟨σ_72, eσ_72⟩ : ∃ x, x = sA σ x1f x1o (gI σ 393 o) (w32 ((gA σ x1f x1o (gI σ 393 o)) + (gI σ 395 o))) := ⟨_, rfl⟩
  have hWσ_72 : Wo w σ_72 H := eσ_72 ▸ hN
  have h := h σ_72 eσ_72
  clear hN
  refine lv_aload_n X.1 X.2.1 dX5_isSound_253 rfl (lv_at hl 1 rfl) ?_
  refine wg (v := .ref (wad w 6 o)) X hT hWσ_72 3 2 194 vl3_o rfl rfl (by decide) rfl (by decide) in_X5 q526 rfl dX5_isSound_254 ?_
  refine wr_Z (rV (As := []) (rest := []) X hT hWσ_72 hS (met_Index_next l (w := w) hV o _ σ_72 (by omega) h) (cwV 0 X.2.2.2.2 (lw_V q1821 q1066 q1067 q139 q1068) rfl rfl rfl (by decide +kernel) ⟨Nat.le_of_ble_eq_true rfl, Nat.le_of_ble_eq_true rfl⟩) vl6_o (by decide) rfl rfl hl.1 rfl (by first | exact Nat.le_of_ble_eq_true rfl | simp [catK, catI, catR, catL]) dX5_isSound_257 ⟨Nat.le_refl _, Nat.le_refl _⟩) hS (fun r_73 σ_74 H locs rr_73 rkσ_74 h hWσ_74 hS => ?_)
  have h := h rr_73 rkσ_74
  refine lv_istore_n (i := 3) (lv' := [(3, .int (oI r_73)), (2, .int (oI y2_71)), (0, .ref (wad w 3 o)), (1, .ref (wad w x1f x1o))]) X.1 X.2.1 dX5_isSound_260 rfl hl (by decide) (by first | rfl | simp [catK, catI, catR, catL]) (fun ls hl => ?_)
  refine lv_goto (tgt := 114) X.1 X.2.1 dX5_isSound_261 (by decide) ?_
  exact hK114 y2_71 r_73 σ_74 _ _ _ ry2_71 rr_73 (lv_sub hl [2, 3, 1, 0] rfl) hWσ_74 hS h
set_option maxHeartbeats 4000000 in
set_option maxRecDepth 100000 in
theorem wk_Store_isSound_L272B {p : Program} {l : Launch} {e : Env} {st : State} {m : MethodId} {args : Array Value} {below : List Frame} {meth : Method} {c : Code} {w : Wp} {o : Int} {x1f : Nat} {x1o : Int} {Q : Int → St → Prop} (X : CallFix p m c cX5_isSound 4 st args lw_all RX5) (hr : meth.sig.returnType = (some .boolean)) (hlk : meth.locks = false) (hT : Tb w st) (hV : Hvl w) (ho : 0 ≤ o ∧ o < 2) (vx1 : vl w x1f x1o) (nx1 : ¬ x1f < 64) (tx1 : aty x1f = 0) (K272 : Int → Int → St → Prop) (hK272 : ∀ (y2 y3 : Int) (σ : St) (H : Heap) (locs : List Loc) (ls : Array Slot), rZ y2 → rI y3 → lv_has ls 4 [(0, .ref (wad w 3 o)), (1, .ref (wad w x1f x1o)), (2, .int (oI y2)), (3, .int (oI y3))] → Wo w σ H → va_S (wA w) st.heap H locs → K272 y2 y3 σ → W p l e (headSpec (ws_ yX5_isSound cX5_isSound 4 (some .boolean)) rm_Store_isSound).room st m args below meth c H locs 0 0 (MQ below (QcZ w Q) args st 0 0 (wA w)) (F0 m 272 ls [])) : ∀ (y2 y3 : Int) (σ : St) (H : Heap) (locs : List Loc) (ls : Array Slot), rZ y2 → rI y3 → lv_has ls 4 [(0, .ref (wad w 3 o)), (1, .ref (wad w x1f x1o)), (2, .int (oI y2)), (3, .int (oI y3))] → Wo w σ H → va_S (wA w) st.heap H locs → wp_Store_isSound_L272 (wc w) (wtv w) o x1f x1o Q K272 y2 y3 σ → W p l e (headSpec (ws_ yX5_isSound cX5_isSound 4 (some .boolean)) rm_Store_isSound).room st m args below meth c H locs 0 0 (MQ below (QcZ w Q) args st 0 0 (wA w)) (F0 m 272 ls []) := by
  have vl3_o : vl w 3 o := hV.hv 3 rfl ⟨by omega, by show _ < (2 : Int); omega⟩
  have vl323_o : vl w 323 o := hV.hv 323 rfl ⟨by omega, by show _ < (2 : Int); omega⟩
  have vl324_o : vl w 324 o := hV.hv 324 rfl ⟨by omega, by show _ < (2 : Int); omega⟩
  have vl4_o : vl w 4 o := hV.hv 4 rfl ⟨by omega, by show _ < (2 : Int); omega⟩
  have vl5_o : vl w 5 o := hV.hv 5 rfl ⟨by omega, by show _ < (2 : Int); omega⟩
  intro y2 y3 σ H locs ls ry2 ry3 hl hW hS h
  unfold wp_Store_isSound_L272 at h
  refine lv_iload_n X.1 X.2.1 dX5_isSound_272 rfl (lv_at hl 3 rfl) ?_
  refine lv_aload_n X.1 X.2.1 dX5_isSound_273 rfl (lv_at hl 0 rfl) ?_
  refine wg (v := .ref (wad w 4 o)) X hT hW 3 0 192 vl3_o rfl rfl (by decide) rfl (by decide) in_X5 q523 rfl dX5_isSound_274 ?_
  refine wg (v := .int (oI ((wc w).1 - 6))) X hT hW 4 1 257 vl4_o rfl rfl (by decide) rfl (by decide) in_X6 q272 rfl dX5_isSound_277 ?_
  refine w_icmp_ge (tgt := 343) X ry3 (cin_r hT.c 257) dX5_isSound_280 (by decide) (fun hc => ?_) (fun hc => ?_)
  · have h := h.1 hc
    refine lv_iload_n X.1 X.2.1 dX5_isSound_343 rfl (lv_at hl 2 rfl) ?_
    exact wret_Z X hr hlk hW hS ry2 h dX5_isSound_344
  · have h := h.2 hc
    refine lv_iload_n X.1 X.2.1 dX5_isSound_283 rfl (lv_at hl 2 rfl) ?_
    refine lv_aload_n X.1 X.2.1 dX5_isSound_284 rfl (lv_at hl 1 rfl) ?_
    refine lv_iload_n X.1 X.2.1 dX5_isSound_285 rfl (lv_at hl 3 rfl) ?_
    obtain ⟨bi, h⟩ := h
    refine w_iald (n := (aln (wc w) x1f x1o)) X hT hW x1f vx1 nx1 tx1 rfl bi dX5_isSound_286 ?_
    refine lv_aload_n X.1 X.2.1 dX5_isSound_287 rfl (lv_at hl 0 rfl) ?_
    refine wg (v := .ref (wad w 5 o)) X hT hW 3 1 193 vl3_o rfl rfl (by decide) rfl (by decide) in_X5 q525 rfl dX5_isSound_288 ?_
    refine wg (v := .ref (wad w 324 o)) X hT hW 5 4 324 vl5_o rfl rfl (by decide) rfl (by decide) in_X7 q347 rfl dX5_isSound_291 ?_
    refine lv_iload_n X.1 X.2.1 dX5_isSound_294 rfl (lv_at hl 3 rfl) ?_
    obtain ⟨bi, h⟩ := h
    refine w_iald (n := ((wc w).1 - 6)) X hT hW 324 vl324_o (by decide) rfl rfl bi dX5_isSound_295 ?_
    refine w_icmp_ne (tgt := 334) X (hW.r.ai x1f x1o y3 tx1) (hW.r.ai 324 o y3 rfl) dX5_isSound_296 (by decide) (fun hc => ?_) (fun hc => ?_)
    · have h := h.1 hc
      exact wk_Store_isSound_b334 X hr hlk hT hV ho vx1 nx1 tx1 (wp_Store_isSound_b335 (wc w) (wtv w) o x1f x1o Q K272) (wk_Store_isSound_b335 X hr hlk hT hV ho vx1 nx1 tx1 K272 hK272) y3 y2 σ _ _ _ ry3 ry2 (lv_sub hl [0, 1, 3] rfl) hW hS h
    · have h := h.2 hc
      refine lv_aload_n X.1 X.2.1 dX5_isSound_299 rfl (lv_at hl 1 rfl) ?_
      refine lv_iload_n X.1 X.2.1 dX5_isSound_300 rfl (lv_at hl 3 rfl) ?_
      obtain ⟨bi, h⟩ := h
      refine w_iald (n := (aln (wc w) x1f x1o)) X hT hW x1f vx1 nx1 tx1 rfl bi dX5_isSound_301 ?_
      refine lv_aload_n X.1 X.2.1 dX5_isSound_302 rfl (lv_at hl 0 rfl) ?_
      refine wg (v := .ref (wad w 5 o)) X hT hW 3 1 193 vl3_o rfl rfl (by decide) rfl (by decide) in_X5 q525 rfl dX5_isSound_303 ?_
      refine wg (v := .int (oI (((wc w).2.1 - 2) * 128))) X hT hW 5 2 322 vl5_o rfl rfl (by decide) rfl (by decide) in_X7 q340 rfl dX5_isSound_306 ?_
      refine w_icmp_gt (tgt := 334) X (hW.r.ai x1f x1o y3 tx1) (cin_r hT.c 322) dX5_isSound_309 (by decide) (fun hc => ?_) (fun hc => ?_)
      · have h := h.1 hc
        exact wk_Store_isSound_b334 X hr hlk hT hV ho vx1 nx1 tx1 (wp_Store_isSound_b335 (wc w) (wtv w) o x1f x1o Q K272) (wk_Store_isSound_b335 X hr hlk hT hV ho vx1 nx1 tx1 K272 hK272) y3 y2 σ _ _ _ ry3 ry2 (lv_sub hl [0, 1, 3] rfl) hW hS h
      · have h := h.2 hc
        refine lv_aload_n X.1 X.2.1 dX5_isSound_312 rfl (lv_at hl 0 rfl) ?_
        refine wg (v := .ref (wad w 5 o)) X hT hW 3 1 193 vl3_o rfl rfl (by decide) rfl (by decide) in_X5 q525 rfl dX5_isSound_313 ?_
        refine wg (v := .ref (wad w 323 o)) X hT hW 5 3 323 vl5_o rfl rfl (by decide) rfl (by decide) in_X7 q344 rfl dX5_isSound_316 ?_
        refine lv_iload_n X.1 X.2.1 dX5_isSound_319 rfl (lv_at hl 3 rfl) ?_
        obtain ⟨bi, h⟩ := h
        refine w_iald (n := ((wc w).1 - 6)) X hT hW 323 vl323_o (by decide) rfl rfl bi dX5_isSound_320 ?_
        refine w_if_ne (tgt := 330) X (hW.r.ai 323 o y3 rfl) dX5_isSound_321 (by decide) (fun hc => ?_) (fun hc => ?_)
        · have h := h.1 hc
          exact wk_Store_isSound_b330 X hr hlk hT hV ho vx1 nx1 tx1 (wp_Store_isSound_b335 (wc w) (wtv w) o x1f x1o Q K272) (wk_Store_isSound_b335 X hr hlk hT hV ho vx1 nx1 tx1 K272 hK272) y3 y2 σ _ _ _ ry3 ry2 (lv_sub hl [0, 1, 3] rfl) hW hS h
        · have h := h.2 hc
          refine lv_aload_n X.1 X.2.1 dX5_isSound_324 rfl (lv_at hl 1 rfl) ?_
          refine lv_iload_n X.1 X.2.1 dX5_isSound_325 rfl (lv_at hl 3 rfl) ?_
          obtain ⟨bi, h⟩ := h
          refine w_iald (n := (aln (wc w) x1f x1o)) X hT hW x1f vx1 nx1 tx1 rfl bi dX5_isSound_326 ?_
          refine w_if_ne (tgt := 334) X (hW.r.ai x1f x1o y3 tx1) dX5_isSound_327 (by decide) (fun hc => ?_) (fun hc => ?_)
          · have h := h.1 hc
            exact wk_Store_isSound_b334 X hr hlk hT hV ho vx1 nx1 tx1 (wp_Store_isSound_b335 (wc w) (wtv w) o x1f x1o Q K272) (wk_Store_isSound_b335 X hr hlk hT hV ho vx1 nx1 tx1 K272 hK272) y3 y2 σ _ _ _ ry3 ry2 (lv_sub hl [0, 1, 3] rfl) hW hS h
          · have h := h.2 hc
            exact wk_Store_isSound_b330 X hr hlk hT hV ho vx1 nx1 tx1 (wp_Store_isSound_b335 (wc w) (wtv w) o x1f x1o Q K272) (wk_Store_isSound_b335 X hr hlk hT hV ho vx1 nx1 tx1 K272 hK272) y3 y2 σ _ _ _ ry3 ry2 (lv_sub hl [0, 1, 3] rfl) hW hS h
theorem wk_Store_isSound_L272 {p : Program} {l : Launch} {e : Env} {st : State} {m : MethodId} {args : Array Value} {below : List Frame} {meth : Method} {c : Code} {w : Wp} {o : Int} {x1f : Nat} {x1o : Int} {Q : Int → St → Prop} (X : CallFix p m c cX5_isSound 4 st args lw_all RX5) (hr : meth.sig.returnType = (some .boolean)) (hlk : meth.locks = false) (hT : Tb w st) (hV : Hvl w) (ho : 0 ≤ o ∧ o < 2) (vx1 : vl w x1f x1o) (nx1 : ¬ x1f < 64) (tx1 : aty x1f = 0) : ∀ (y2 y3 : Int) (σ : St) (H : Heap) (locs : List Loc) (ls : Array Slot), rZ y2 → rI y3 → lv_has ls 4 [(0, .ref (wad w 3 o)), (1, .ref (wad w x1f x1o)), (2, .int (oI y2)), (3, .int (oI y3))] → Wo w σ H → va_S (wA w) st.heap H locs → lQ2 (wp_Store_isSound_L272 (wc w) (wtv w) o x1f x1o Q) y2 y3 σ → W p l e (headSpec (ws_ yX5_isSound cX5_isSound 4 (some .boolean)) rm_Store_isSound).room st m args below meth c H locs 0 0 (MQ below (QcZ w Q) args st 0 0 (wA w)) (F0 m 272 ls []) := by
  intro y2 y3 σ H locs ls ry2 ry3 hl hW hS h
  obtain ⟨fu, h⟩ := h
  induction fu generalizing y2 y3 σ H locs ls with
  | zero => exact h.elim
  | succ fu ih =>
    exact wk_Store_isSound_L272B X hr hlk hT hV ho vx1 nx1 tx1 (lq2 (wp_Store_isSound_L272 (wc w) (wtv w) o x1f x1o Q) fu) (fun y2 y3 σ H locs ls ry2 ry3 hl hW hS h => ih y2 y3 σ H locs ls ry2 ry3 hl hW hS h) y2 y3 σ H locs ls ry2 ry3 hl hW hS h
set_option maxHeartbeats 4000000 in
set_option maxRecDepth 100000 in
theorem wk_Store_isSound_L114B {p : Program} {l : Launch} {e : Env} {st : State} {m : MethodId} {args : Array Value} {below : List Frame} {meth : Method} {c : Code} {w : Wp} {o : Int} {x1f : Nat} {x1o : Int} {Q : Int → St → Prop} (X : CallFix p m c cX5_isSound 4 st args lw_all RX5) (hr : meth.sig.returnType = (some .boolean)) (hlk : meth.locks = false) (hT : Tb w st) (hV : Hvl w) (ho : 0 ≤ o ∧ o < 2) (vx1 : vl w x1f x1o) (nx1 : ¬ x1f < 64) (tx1 : aty x1f = 0) (K114 : Int → Int → St → Prop) (hK114 : ∀ (y2 y3 : Int) (σ : St) (H : Heap) (locs : List Loc) (ls : Array Slot), rZ y2 → rZ y3 → lv_has ls 4 [(0, .ref (wad w 3 o)), (1, .ref (wad w x1f x1o)), (2, .int (oI y2)), (3, .int (oI y3))] → Wo w σ H → va_S (wA w) st.heap H locs → K114 y2 y3 σ → W p l e (headSpec (ws_ yX5_isSound cX5_isSound 4 (some .boolean)) rm_Store_isSound).room st m args below meth c H locs 0 0 (MQ below (QcZ w Q) args st 0 0 (wA w)) (F0 m 114 ls [])) : ∀ (y2 y3 : Int) (σ : St) (H : Heap) (locs : List Loc) (ls : Array Slot), rZ y2 → rZ y3 → lv_has ls 4 [(0, .ref (wad w 3 o)), (1, .ref (wad w x1f x1o)), (2, .int (oI y2)), (3, .int (oI y3))] → Wo w σ H → va_S (wA w) st.heap H locs → wp_Store_isSound_L114 (wc w) (wtv w) o x1f x1o Q K114 y2 y3 σ → W p l e (headSpec (ws_ yX5_isSound cX5_isSound 4 (some .boolean)) rm_Store_isSound).room st m args below meth c H locs 0 0 (MQ below (QcZ w Q) args st 0 0 (wA w)) (F0 m 114 ls []) := by
  have vl3_o : vl w 3 o := hV.hv 3 rfl ⟨by omega, by show _ < (2 : Int); omega⟩
  have vl5_o : vl w 5 o := hV.hv 5 rfl ⟨by omega, by show _ < (2 : Int); omega⟩
  have vl6_o : vl w 6 o := hV.hv 6 rfl ⟨by omega, by show _ < (2 : Int); omega⟩
  have vl8_o : vl w 8 o := hV.hv 8 rfl ⟨by omega, by show _ < (8 : Int); omega⟩
  intro y2 y3 σ H locs ls ry2 ry3 hl hW hS h
  unfold wp_Store_isSound_L114 at h
  refine lv_iload_n X.1 X.2.1 dX5_isSound_114 rfl (lv_at hl 3 rfl) ?_
  refine w_if_eq (tgt := 264) X ry3.i dX5_isSound_115 (by decide) (fun hc => ?_) (fun hc => ?_)
  · have h := h.1 hc
    refine lv_aload_n X.1 X.2.1 dX5_isSound_264 rfl (lv_at hl 0 rfl) ?_
    refine wg (v := .ref (wad w 5 o)) X hT hW 3 1 193 vl3_o rfl rfl (by decide) rfl (by decide) in_X5 q525 rfl dX5_isSound_265 ?_
    refine wg (v := .int (oI (4 + (wc w).2.2))) X hT hW 5 1 321 vl5_o rfl rfl (by decide) rfl (by decide) in_X7 q338 rfl dX5_isSound_268 ?_
    refine w_top (fun y3_75 ey3_75 => ?_)
    have h := h y3_75 ey3_75
    have ry3_75 : rI y3_75 := by rw [ey3_75]; exact (cin_r hT.c 321)
    refine lv_istore_n (i := 3) (lv' := [(3, .int (oI y3_75)), (0, .ref (wad w 3 o)), (1, .ref (wad w x1f x1o)), (2, .int (oI y2))]) X.1 X.2.1 dX5_isSound_271 rfl hl (by decide) (by first | rfl | simp [catK, catI, catR, catL]) (fun ls hl => ?_)
    exact wk_Store_isSound_L272 X hr hlk hT hV ho vx1 nx1 tx1 y2 y3_75 σ _ _ _ ry2 ry3_75 (lv_sub hl [1, 2, 3, 0] rfl) hW hS h
  · have h := h.2 hc
    refine lv_aload_n X.1 X.2.1 dX5_isSound_118 rfl (lv_at hl 0 rfl) ?_
    refine lv_aload_n X.1 X.2.1 dX5_isSound_119 rfl (lv_at hl 0 rfl) ?_
    refine wg (v := .ref (wad w 6 o)) X hT hW 3 2 194 vl3_o rfl rfl (by decide) rfl (by decide) in_X5 q526 rfl dX5_isSound_120 ?_
    refine wg (v := .int (oI (gI σ 393 o))) X hT hW 6 9 393 vl6_o rfl rfl (by decide) rfl (by decide) in_X8 q461 rfl dX5_isSound_123 ?_
    refine lv_aload_n X.1 X.2.1 dX5_isSound_126 rfl (lv_at hl 0 rfl) ?_
    refine wg (v := .ref (wad w 6 o)) X hT hW 3 2 194 vl3_o rfl rfl (by decide) rfl (by decide) in_X5 q526 rfl dX5_isSound_127 ?_
    refine wg (v := .int (oI (gI σ 394 o))) X hT hW 6 10 394 vl6_o rfl rfl (by decide) rfl (by decide) in_X8 q464 rfl dX5_isSound_130 ?_
    refine lv_aload_n X.1 X.2.1 dX5_isSound_133 rfl (lv_at hl 0 rfl) ?_
    refine wg (v := .ref (wad w 6 o)) X hT hW 3 2 194 vl3_o rfl rfl (by decide) rfl (by decide) in_X5 q526 rfl dX5_isSound_134 ?_
    refine wg (v := .int (oI (gI σ 395 o))) X hT hW 6 11 395 vl6_o rfl rfl (by decide) rfl (by decide) in_X8 q467 rfl dX5_isSound_137 ?_
    refine lv_aload_n X.1 X.2.1 dX5_isSound_140 rfl (lv_at hl 0 rfl) ?_
    refine wg (v := .ref (wad w 8 o)) X hT hW 3 6 198 vl3_o rfl rfl (by decide) rfl (by decide) in_X5 q531 rfl dX5_isSound_141 ?_
    refine wr_V (rV (As := [.int (oI (gI σ 393 o)), .int (oI (gI σ 394 o)), .int (oI (gI σ 395 o)), .ref (wad w 8 o)]) (rest := []) X hT hW hS (met_Store_read l (w := w) hV o (gI σ 393 o) (gI σ 394 o) (gI σ 395 o) o _ σ (by omega) (hW.r.i 393 o rfl) (hW.r.i 394 o rfl) (hW.r.i 395 o rfl) (by omega) h) (cwV 4 X.2.2.2.2 (lw_V q1293 q1184 q1185 q136 q1186) rfl rfl rfl (by decide +kernel) ⟨Nat.le_of_ble_eq_true rfl, Nat.le_of_ble_eq_true rfl⟩) vl3_o (by decide) rfl rfl hl.1 rfl (by first | exact Nat.le_of_ble_eq_true rfl | simp [catK, catI, catR, catL]) dX5_isSound_144 ⟨Nat.le_refl _, Nat.le_refl _⟩) hS (fun σ_77 H locs rkσ_77 h hWσ_77 hS => ?_)
    have h := h rkσ_77
    refine lv_iload_n X.1 X.2.1 dX5_isSound_147 rfl (lv_at hl 2 rfl) ?_
    refine lv_aload_n X.1 X.2.1 dX5_isSound_148 rfl (lv_at hl 0 rfl) ?_
    refine wg (v := .ref (wad w 8 o)) X hT hWσ_77 3 6 198 vl3_o rfl rfl (by decide) rfl (by decide) in_X5 q531 rfl dX5_isSound_149 ?_
    refine lv_sipush (v := oI 320) X.1 X.2.1 dX5_isSound_152 (by decide) ?_
    refine wr_Z (rV (As := [.int (oI 320)]) (rest := [.int (oI y2)]) X hT hWσ_77 hS (met_Row_isWhole l (w := w) hV o 320 _ σ_77 (by omega) (rI_lit 320 (by decide)) h) (cwV 1 X.2.2.2.2 (lw_V q1295 q1296 q1297 q132 q1298) rfl rfl rfl (by decide +kernel) ⟨Nat.le_of_ble_eq_true rfl, Nat.le_of_ble_eq_true rfl⟩) vl8_o (by decide) rfl rfl hl.1 rfl (by first | exact Nat.le_of_ble_eq_true rfl | simp [catK, catI, catR, catL]) dX5_isSound_155 ⟨Nat.le_refl _, Nat.le_refl _⟩) hS (fun r_78 σ_79 H locs rr_78 rkσ_79 h hWσ_79 hS => ?_)
    have h := h rr_78 rkσ_79
    refine w_if_eq (tgt := 231) X rr_78.i dX5_isSound_158 (by decide) (fun hc => ?_) (fun hc => ?_)
    · have h := h.1 hc
      exact wk_Store_isSound_b231 X hr hlk hT hV ho vx1 nx1 tx1 (wp_Store_isSound_b232 (wc w) (wtv w) o x1f x1o Q K114) (wk_Store_isSound_b232 X hr hlk hT hV ho vx1 nx1 tx1 K114 hK114) y2 σ_79 _ _ _ ry2 (lv_sub hl [0, 1] rfl) hWσ_79 hS h
    · have h := h.2 hc
      refine lv_aload_n X.1 X.2.1 dX5_isSound_161 rfl (lv_at hl 0 rfl) ?_
      refine wg (v := .ref (wad w 8 o)) X hT hWσ_79 3 6 198 vl3_o rfl rfl (by decide) rfl (by decide) in_X5 q531 rfl dX5_isSound_162 ?_
      refine wr_I (rV (As := []) (rest := [.int (oI y2)]) X hT hWσ_79 hS (met_Row_length l (w := w) hV o _ σ_79 (by omega) h) (cwV 0 X.2.2.2.2 (lw_V q1294 q764 q765 q132 q766) rfl rfl rfl (by decide +kernel) ⟨Nat.le_of_ble_eq_true rfl, Nat.le_of_ble_eq_true rfl⟩) vl8_o (by decide) rfl rfl hl.1 rfl (by first | exact Nat.le_of_ble_eq_true rfl | simp [catK, catI, catR, catL]) dX5_isSound_165 ⟨Nat.le_refl _, Nat.le_refl _⟩) hS (fun r_80 σ_81 H locs rr_80 rkσ_81 h hWσ_81 hS => ?_)
      have h := h rr_80 rkσ_81
      refine lv_aload_n X.1 X.2.1 dX5_isSound_168 rfl (lv_at hl 0 rfl) ?_
      refine wg (v := .ref (wad w 6 o)) X hT hWσ_81 3 2 194 vl3_o rfl rfl (by decide) rfl (by decide) in_X5 q526 rfl dX5_isSound_169 ?_
      refine wg (v := .int (oI (gI σ_81 395 o))) X hT hWσ_81 6 11 395 vl6_o rfl rfl (by decide) rfl (by decide) in_X8 q467 rfl dX5_isSound_172 ?_
      refine w_icmp_ne (tgt := 231) X rr_80 (hWσ_81.r.i 395 o rfl) dX5_isSound_175 (by decide) (fun hc => ?_) (fun hc => ?_)
      · have h := h.1 hc
        exact wk_Store_isSound_b231 X hr hlk hT hV ho vx1 nx1 tx1 (wp_Store_isSound_b232 (wc w) (wtv w) o x1f x1o Q K114) (wk_Store_isSound_b232 X hr hlk hT hV ho vx1 nx1 tx1 K114 hK114) y2 σ_81 _ _ _ ry2 (lv_sub hl [0, 1] rfl) hWσ_81 hS h
      · have h := h.2 hc
        refine lv_aload_n X.1 X.2.1 dX5_isSound_178 rfl (lv_at hl 0 rfl) ?_
        refine wg (v := .ref (wad w 8 o)) X hT hWσ_81 3 6 198 vl3_o rfl rfl (by decide) rfl (by decide) in_X5 q531 rfl dX5_isSound_179 ?_
        refine wr_I (rV (As := []) (rest := [.int (oI y2)]) X hT hWσ_81 hS (met_Row_type l (w := w) hV o _ σ_81 (by omega) h) (cwV 0 X.2.2.2.2 (lw_V q1302 q1303 q1304 q132 q1305) rfl rfl rfl (by decide +kernel) ⟨Nat.le_of_ble_eq_true rfl, Nat.le_of_ble_eq_true rfl⟩) vl8_o (by decide) rfl rfl hl.1 rfl (by first | exact Nat.le_of_ble_eq_true rfl | simp [catK, catI, catR, catL]) dX5_isSound_182 ⟨Nat.le_refl _, Nat.le_refl _⟩) hS (fun r_82 σ_83 H locs rr_82 rkσ_83 h hWσ_83 hS => ?_)
        have h := h rr_82 rkσ_83
        refine wr_Z (rS (As := [.int (oI r_82)]) (rest := [.int (oI y2)]) X hT hWσ_83 hS (met_Store_isLeaf l (w := w) r_82 _ σ_83 rr_82 h) (va_cwS 1 X.2.2.2.2 (lw_S q1312 q1313 q136 q1314) rfl rfl rfl (by decide +kernel) ⟨Nat.le_of_ble_eq_true rfl, Nat.le_of_ble_eq_true rfl⟩) rfl hl.1 rfl (by first | exact Nat.le_of_ble_eq_true rfl | simp [catK, catI, catR, catL]) dX5_isSound_185 ⟨Nat.le_refl _, Nat.le_refl _⟩) hS (fun r_84 σ_85 H locs rr_84 rkσ_85 h hWσ_85 hS => ?_)
        have h := h rr_84 rkσ_85
        refine w_if_eq (tgt := 231) X rr_84.i dX5_isSound_188 (by decide) (fun hc => ?_) (fun hc => ?_)
        · have h := h.1 hc
          exact wk_Store_isSound_b231 X hr hlk hT hV ho vx1 nx1 tx1 (wp_Store_isSound_b232 (wc w) (wtv w) o x1f x1o Q K114) (wk_Store_isSound_b232 X hr hlk hT hV ho vx1 nx1 tx1 K114 hK114) y2 σ_85 _ _ _ ry2 (lv_sub hl [0, 1] rfl) hWσ_85 hS h
        · have h := h.2 hc
          refine lv_aload_n X.1 X.2.1 dX5_isSound_191 rfl (lv_at hl 0 rfl) ?_
          refine wg (v := .ref (wad w 8 o)) X hT hWσ_85 3 6 198 vl3_o rfl rfl (by decide) rfl (by decide) in_X5 q531 rfl dX5_isSound_192 ?_
          refine wr_J (rS (As := [.ref (wad w 8 o)]) (rest := [.int (oI y2)]) X hT hWσ_85 hS (met_Store_highOf l (w := w) hV o _ σ_85 (by omega) h) (va_cwS 1 X.2.2.2.2 (lw_S q1315 q1316 q136 q1317) rfl rfl rfl (by decide +kernel) ⟨Nat.le_of_ble_eq_true rfl, Nat.le_of_ble_eq_true rfl⟩) rfl hl.1 rfl (by first | exact Nat.le_of_ble_eq_true rfl | simp [catK, catI, catR, catL]) dX5_isSound_195 ⟨Nat.le_refl _, Nat.le_refl _⟩) hS (fun r_86 σ_87 H locs rr_86 rkσ_87 h hWσ_87 hS => ?_)
          have h := h rr_86 rkσ_87
          refine lv_aload_n X.1 X.2.1 dX5_isSound_198 rfl (lv_at hl 0 rfl) ?_
          refine wg (v := .ref (wad w 6 o)) X hT hWσ_87 3 2 194 vl3_o rfl rfl (by decide) rfl (by decide) in_X5 q526 rfl dX5_isSound_199 ?_
          refine wg (v := .long (oL (gI σ_87 391 o))) X hT hWσ_87 6 7 391 vl6_o rfl rfl (by decide) rfl (by decide) in_X8 q455 rfl dX5_isSound_202 ?_
          refine w_lcmp_ne (tgt := 231) X rr_86 (hWσ_87.r.j 391 o rfl) dX5_isSound_205 dX5_isSound_206 (by decide) (fun hc => ?_) (fun hc => ?_)
          · have h := h.1 hc
            exact wk_Store_isSound_b231 X hr hlk hT hV ho vx1 nx1 tx1 (wp_Store_isSound_b232 (wc w) (wtv w) o x1f x1o Q K114) (wk_Store_isSound_b232 X hr hlk hT hV ho vx1 nx1 tx1 K114 hK114) y2 σ_87 _ _ _ ry2 (lv_sub hl [0, 1] rfl) hWσ_87 hS h
          · have h := h.2 hc
            refine lv_aload_n X.1 X.2.1 dX5_isSound_209 rfl (lv_at hl 0 rfl) ?_
            refine wg (v := .ref (wad w 8 o)) X hT hWσ_87 3 6 198 vl3_o rfl rfl (by decide) rfl (by decide) in_X5 q531 rfl dX5_isSound_210 ?_
            refine wr_J (rS (As := [.ref (wad w 8 o)]) (rest := [.int (oI y2)]) X hT hWσ_87 hS (met_Store_lowOf l (w := w) hV o _ σ_87 (by omega) h) (va_cwS 1 X.2.2.2.2 (lw_S q1318 q1319 q136 q1320) rfl rfl rfl (by decide +kernel) ⟨Nat.le_of_ble_eq_true rfl, Nat.le_of_ble_eq_true rfl⟩) rfl hl.1 rfl (by first | exact Nat.le_of_ble_eq_true rfl | simp [catK, catI, catR, catL]) dX5_isSound_213 ⟨Nat.le_refl _, Nat.le_refl _⟩) hS (fun r_88 σ_89 H locs rr_88 rkσ_89 h hWσ_89 hS => ?_)
            have h := h rr_88 rkσ_89
            refine lv_aload_n X.1 X.2.1 dX5_isSound_216 rfl (lv_at hl 0 rfl) ?_
            refine wg (v := .ref (wad w 6 o)) X hT hWσ_89 3 2 194 vl3_o rfl rfl (by decide) rfl (by decide) in_X5 q526 rfl dX5_isSound_217 ?_
            refine wg (v := .long (oL (gI σ_89 392 o))) X hT hWσ_89 6 8 392 vl6_o rfl rfl (by decide) rfl (by decide) in_X8 q458 rfl dX5_isSound_220 ?_
            refine w_lcmp_ne (tgt := 231) X rr_88 (hWσ_89.r.j 392 o rfl) dX5_isSound_223 dX5_isSound_224 (by decide) (fun hc => ?_) (fun hc => ?_)
            · have h := h.1 hc
              exact wk_Store_isSound_b231 X hr hlk hT hV ho vx1 nx1 tx1 (wp_Store_isSound_b232 (wc w) (wtv w) o x1f x1o Q K114) (wk_Store_isSound_b232 X hr hlk hT hV ho vx1 nx1 tx1 K114 hK114) y2 σ_89 _ _ _ ry2 (lv_sub hl [0, 1] rfl) hWσ_89 hS h
            · have h := h.2 hc
              refine lv_iconst (v := oI 1) X.1 X.2.1 dX5_isSound_227 rfl ?_
              refine lv_goto (tgt := 232) X.1 X.2.1 dX5_isSound_228 (by decide) ?_
              exact wk_Store_isSound_b232 X hr hlk hT hV ho vx1 nx1 tx1 K114 hK114 1 y2 σ_89 _ _ _ rZ_1 ry2 (lv_sub hl [0, 1] rfl) hWσ_89 hS h
theorem wk_Store_isSound_L114 {p : Program} {l : Launch} {e : Env} {st : State} {m : MethodId} {args : Array Value} {below : List Frame} {meth : Method} {c : Code} {w : Wp} {o : Int} {x1f : Nat} {x1o : Int} {Q : Int → St → Prop} (X : CallFix p m c cX5_isSound 4 st args lw_all RX5) (hr : meth.sig.returnType = (some .boolean)) (hlk : meth.locks = false) (hT : Tb w st) (hV : Hvl w) (ho : 0 ≤ o ∧ o < 2) (vx1 : vl w x1f x1o) (nx1 : ¬ x1f < 64) (tx1 : aty x1f = 0) : ∀ (y2 y3 : Int) (σ : St) (H : Heap) (locs : List Loc) (ls : Array Slot), rZ y2 → rZ y3 → lv_has ls 4 [(0, .ref (wad w 3 o)), (1, .ref (wad w x1f x1o)), (2, .int (oI y2)), (3, .int (oI y3))] → Wo w σ H → va_S (wA w) st.heap H locs → lQ2 (wp_Store_isSound_L114 (wc w) (wtv w) o x1f x1o Q) y2 y3 σ → W p l e (headSpec (ws_ yX5_isSound cX5_isSound 4 (some .boolean)) rm_Store_isSound).room st m args below meth c H locs 0 0 (MQ below (QcZ w Q) args st 0 0 (wA w)) (F0 m 114 ls []) := by
  intro y2 y3 σ H locs ls ry2 ry3 hl hW hS h
  obtain ⟨fu, h⟩ := h
  induction fu generalizing y2 y3 σ H locs ls with
  | zero => exact h.elim
  | succ fu ih =>
    exact wk_Store_isSound_L114B X hr hlk hT hV ho vx1 nx1 tx1 (lq2 (wp_Store_isSound_L114 (wc w) (wtv w) o x1f x1o Q) fu) (fun y2 y3 σ H locs ls ry2 ry3 hl hW hS h => ih y2 y3 σ H locs ls ry2 ry3 hl hW hS h) y2 y3 σ H locs ls ry2 ry3 hl hW hS h
set_option maxHeartbeats 4000000 in
set_option maxRecDepth 100000 in
theorem wk_Store_isSound_L37B {p : Program} {l : Launch} {e : Env} {st : State} {m : MethodId} {args : Array Value} {below : List Frame} {meth : Method} {c : Code} {w : Wp} {o : Int} {x1f : Nat} {x1o : Int} {Q : Int → St → Prop} (X : CallFix p m c cX5_isSound 4 st args lw_all RX5) (hr : meth.sig.returnType = (some .boolean)) (hlk : meth.locks = false) (hT : Tb w st) (hV : Hvl w) (ho : 0 ≤ o ∧ o < 2) (vx1 : vl w x1f x1o) (nx1 : ¬ x1f < 64) (tx1 : aty x1f = 0) (K37 : Int → St → Prop) (hK37 : ∀ (y2 : Int) (σ : St) (H : Heap) (locs : List Loc) (ls : Array Slot), rI y2 → lv_has ls 4 [(0, .ref (wad w 3 o)), (1, .ref (wad w x1f x1o)), (2, .int (oI y2))] → Wo w σ H → va_S (wA w) st.heap H locs → K37 y2 σ → W p l e (headSpec (ws_ yX5_isSound cX5_isSound 4 (some .boolean)) rm_Store_isSound).room st m args below meth c H locs 0 0 (MQ below (QcZ w Q) args st 0 0 (wA w)) (F0 m 37 ls [])) : ∀ (y2 : Int) (σ : St) (H : Heap) (locs : List Loc) (ls : Array Slot), rI y2 → lv_has ls 4 [(0, .ref (wad w 3 o)), (1, .ref (wad w x1f x1o)), (2, .int (oI y2))] → Wo w σ H → va_S (wA w) st.heap H locs → wp_Store_isSound_L37 (wc w) (wtv w) o x1f x1o Q K37 y2 σ → W p l e (headSpec (ws_ yX5_isSound cX5_isSound 4 (some .boolean)) rm_Store_isSound).room st m args below meth c H locs 0 0 (MQ below (QcZ w Q) args st 0 0 (wA w)) (F0 m 37 ls []) := by
  have vl3_o : vl w 3 o := hV.hv 3 rfl ⟨by omega, by show _ < (2 : Int); omega⟩
  have vl388_o : vl w 388 o := hV.hv 388 rfl ⟨by omega, by show _ < (2 : Int); omega⟩
  have vl389_o : vl w 389 o := hV.hv 389 rfl ⟨by omega, by show _ < (2 : Int); omega⟩
  have vl6_o : vl w 6 o := hV.hv 6 rfl ⟨by omega, by show _ < (2 : Int); omega⟩
  intro y2 σ H locs ls ry2 hl hW hS h
  unfold wp_Store_isSound_L37 at h
  refine lv_iload_n X.1 X.2.1 dX5_isSound_37 rfl (lv_at hl 2 rfl) ?_
  refine lv_aload_n X.1 X.2.1 dX5_isSound_38 rfl (lv_at hl 0 rfl) ?_
  refine wg (v := .ref (wad w 6 o)) X hT hW 3 2 194 vl3_o rfl rfl (by decide) rfl (by decide) in_X5 q526 rfl dX5_isSound_39 ?_
  refine wgN (v := .int (oI (gI σ 390 o))) X hT hW 6 6 390 vl6_o rfl rfl (by decide) rfl (by decide) in_X8 5 rfl rfl dX5_isSound_42 ?_
  refine w_icmp_ge (tgt := 77) X ry2 (hW.r.i 390 o rfl) dX5_isSound_45 (by decide) (fun hc => ?_) (fun hc => ?_)
  · have h := h.1 hc
    refine lv_aload_n X.1 X.2.1 dX5_isSound_77 rfl (lv_at hl 0 rfl) ?_
    refine lv_aload_n X.1 X.2.1 dX5_isSound_78 rfl (lv_at hl 0 rfl) ?_
    refine wg (v := .ref (wad w 6 o)) X hT hW 3 2 194 vl3_o rfl rfl (by decide) rfl (by decide) in_X5 q526 rfl dX5_isSound_79 ?_
    refine wg (v := va_rf (knO w (gI σ 387 o))) X hT hW 6 3 387 vl6_o rfl rfl (by decide) rfl (by decide) in_X8 q446 rfl dX5_isSound_82 ?_
    refine lv_aload_n X.1 X.2.1 dX5_isSound_85 rfl (lv_at hl 1 rfl) ?_
    refine wr_V (rV (As := [va_rf (knO w (gI σ 387 o)), .ref (wad w x1f x1o)]) (rest := []) X hT hW hS (met_Store_addKnots l hV 12 o (gI σ 387 o) x1f x1o _ σ (by omega) (hW.r.k 387 o rfl) vx1 nx1 tx1 h) (cwV 2 X.2.2.2.2 (lw_V q1817 q1819 qs87 q136 q1820) rfl rfl rfl (by decide +kernel) ⟨Nat.le_of_ble_eq_true rfl, Nat.le_of_ble_eq_true rfl⟩) vl3_o (by decide) rfl rfl hl.1 rfl (by first | exact Nat.le_of_ble_eq_true rfl | simp [catK, catI, catR, catL]) dX5_isSound_86 ⟨Nat.le_refl _, Nat.le_refl _⟩) hS (fun σ_91 H locs rkσ_91 h hWσ_91 hS => ?_)
    have h := h rkσ_91
    refine lv_aload_n X.1 X.2.1 dX5_isSound_89 rfl (lv_at hl 1 rfl) ?_
    refine lv_aload_n X.1 X.2.1 dX5_isSound_90 rfl (lv_at hl 0 rfl) ?_
    refine wg (v := .int (oI (gI σ_91 214 o))) X hT hWσ_91 3 22 214 vl3_o rfl rfl (by decide) rfl (by decide) in_X5 q552 rfl dX5_isSound_91 ?_
    refine lv_dup2_11 X.1 X.2.1 dX5_isSound_94 rfl rfl ?_
    obtain ⟨bi, h⟩ := h
    refine w_iald (n := (aln (wc w) x1f x1o)) X hT hWσ_91 x1f vx1 nx1 tx1 rfl bi dX5_isSound_95 ?_
    refine lv_aload_n X.1 X.2.1 dX5_isSound_96 rfl (lv_at hl 0 rfl) ?_
    refine wg (v := .int (oI (gI σ_91 216 o))) X hT hWσ_91 3 24 216 vl3_o rfl rfl (by decide) rfl (by decide) in_X5 q554 rfl dX5_isSound_97 ?_
    refine w_iadd X dX5_isSound_100 ?_
    obtain ⟨bi, h⟩ := h
    refine w_iast (n := (aln (wc w) x1f x1o)) X hT hWσ_91 hS x1f vx1 nx1 tx1 rfl bi (w32_r _) dX5_isSound_101 (fun H locs hN hS => ?_)
    obtain ⟨σ_92, eσ_92⟩ : ∃ x, x = sA σ_91 x1f x1o (gI σ_91 214 o) (w32 ((gA σ_91 x1f x1o (gI σ_91 214 o)) + (gI σ_91 216 o))) := ⟨_, rfl⟩
    have hWσ_92 : Wo w σ_92 H := eσ_92 ▸ hN
    have h := h σ_92 eσ_92
    clear hN
    refine lv_iconst (v := oI 1) X.1 X.2.1 dX5_isSound_102 rfl ?_
    refine lv_istore_n (i := 2) (lv' := [(2, .int (oI 1)), (0, .ref (wad w 3 o)), (1, .ref (wad w x1f x1o))]) X.1 X.2.1 dX5_isSound_103 rfl hl (by decide) (by first | rfl | simp [catK, catI, catR, catL]) (fun ls hl => ?_)
    refine lv_aload_n X.1 X.2.1 dX5_isSound_104 rfl (lv_at hl 1 rfl) ?_
    refine wg (v := .ref (wad w 6 o)) X hT hWσ_92 3 2 194 vl3_o rfl rfl (by decide) rfl (by decide) in_X5 q526 rfl dX5_isSound_105 ?_
    refine lv_lconst (v := oL 0) X.1 X.2.1 dX5_isSound_108 (by decide) ?_
    refine lv_lconst (v := oL 0) X.1 X.2.1 dX5_isSound_109 (by decide) ?_
    refine wr_Z (rV (As := [.long (oL 0), .long (oL 0)]) (rest := []) X hT hWσ_92 hS (met_Index_seek l (w := w) hV o 0 0 _ σ_92 (by omega) (rJ_lit 0 (by decide)) (rJ_lit 0 (by decide)) h) (cwV 2 X.2.2.2.2 (lw_V q1359 q906 q907 q139 q908) rfl rfl rfl (by decide +kernel) ⟨Nat.le_of_ble_eq_true rfl, Nat.le_of_ble_eq_true rfl⟩) vl6_o (by decide) rfl rfl hl.1 rfl (by first | exact Nat.le_of_ble_eq_true rfl | simp [catK, catI, catR, catL]) dX5_isSound_110 ⟨Nat.le_refl _, Nat.le_refl _⟩) hS (fun r_93 σ_94 H locs rr_93 rkσ_94 h hWσ_94 hS => ?_)
    have h := h rr_93 rkσ_94
    refine lv_istore_n (i := 3) (lv' := [(3, .int (oI r_93)), (2, .int (oI 1)), (0, .ref (wad w 3 o)), (1, .ref (wad w x1f x1o))]) X.1 X.2.1 dX5_isSound_113 rfl hl (by decide) (by first | rfl | simp [catK, catI, catR, catL]) (fun ls hl => ?_)
    exact wk_Store_isSound_L114 X hr hlk hT hV ho vx1 nx1 tx1 1 r_93 σ_94 _ _ _ rZ_1 rr_93 (lv_sub hl [2, 3, 1, 0] rfl) hWσ_94 hS h
  · have h := h.2 hc
    refine lv_aload_n X.1 X.2.1 dX5_isSound_48 rfl (lv_at hl 1 rfl) ?_
    refine lv_aload_n X.1 X.2.1 dX5_isSound_49 rfl (lv_at hl 0 rfl) ?_
    refine wg (v := .ref (wad w 6 o)) X hT hW 3 2 194 vl3_o rfl rfl (by decide) rfl (by decide) in_X5 q526 rfl dX5_isSound_50 ?_
    refine wgN (v := .ref (wad w 388 o)) X hT hW 6 4 388 vl6_o rfl rfl (by decide) rfl (by decide) in_X8 3 rfl rfl dX5_isSound_53 ?_
    refine lv_iload_n X.1 X.2.1 dX5_isSound_56 rfl (lv_at hl 2 rfl) ?_
    obtain ⟨bi, h⟩ := h
    refine w_iald (n := 640) X hT hW 388 vl388_o (by decide) rfl rfl bi dX5_isSound_57 ?_
    refine lv_dup2_11 X.1 X.2.1 dX5_isSound_58 rfl rfl ?_
    obtain ⟨bi, h⟩ := h
    refine w_iald (n := (aln (wc w) x1f x1o)) X hT hW x1f vx1 nx1 tx1 rfl bi dX5_isSound_59 ?_
    refine lv_aload_n X.1 X.2.1 dX5_isSound_60 rfl (lv_at hl 0 rfl) ?_
    refine wg (v := .ref (wad w 6 o)) X hT hW 3 2 194 vl3_o rfl rfl (by decide) rfl (by decide) in_X5 q526 rfl dX5_isSound_61 ?_
    refine wgN (v := .ref (wad w 389 o)) X hT hW 6 5 389 vl6_o rfl rfl (by decide) rfl (by decide) in_X8 4 rfl rfl dX5_isSound_64 ?_
    refine lv_iload_n X.1 X.2.1 dX5_isSound_67 rfl (lv_at hl 2 rfl) ?_
    obtain ⟨bi, h⟩ := h
    refine w_iald (n := 640) X hT hW 389 vl389_o (by decide) rfl rfl bi dX5_isSound_68 ?_
    refine w_iadd X dX5_isSound_69 ?_
    obtain ⟨bi, h⟩ := h
    refine w_iast (n := (aln (wc w) x1f x1o)) X hT hW hS x1f vx1 nx1 tx1 rfl bi (w32_r _) dX5_isSound_70 (fun H locs hN hS => ?_)
    obtain ⟨σ_95, eσ_95⟩ : ∃ x, x = sA σ x1f x1o (gA σ 388 o y2) (w32 ((gA σ x1f x1o (gA σ 388 o y2)) + (gA σ 389 o y2))) := ⟨_, rfl⟩
    have hWσ_95 : Wo w σ_95 H := eσ_95 ▸ hN
    have h := h σ_95 eσ_95
    clear hN
    obtain ⟨y2_96, ey2_96⟩ : ∃ y : Int, y = w32 (y2 + 1) := ⟨_, rfl⟩
    have h := h y2_96 ey2_96
    have ry2_96 : rI y2_96 := by rw [ey2_96]; exact w32_r _
    refine lv_iinc (v := oI y2_96) (lv' := [(2, .int (oI y2_96)), (0, .ref (wad w 3 o)), (1, .ref (wad w x1f x1o))]) X.1 X.2.1 dX5_isSound_71 hl (k := 2) rfl (by rw [ey2_96]; exact oI_add _ _) (by decide) (by first | rfl | simp [catK, catI, catR, catL]) (fun ls hl => ?_)
    refine lv_goto (tgt := 37) X.1 X.2.1 dX5_isSound_74 (by decide) ?_
    exact hK37 y2_96 σ_95 _ _ _ ry2_96 (lv_sub hl [1, 2, 0] rfl) hWσ_95 hS h
theorem wk_Store_isSound_L37 {p : Program} {l : Launch} {e : Env} {st : State} {m : MethodId} {args : Array Value} {below : List Frame} {meth : Method} {c : Code} {w : Wp} {o : Int} {x1f : Nat} {x1o : Int} {Q : Int → St → Prop} (X : CallFix p m c cX5_isSound 4 st args lw_all RX5) (hr : meth.sig.returnType = (some .boolean)) (hlk : meth.locks = false) (hT : Tb w st) (hV : Hvl w) (ho : 0 ≤ o ∧ o < 2) (vx1 : vl w x1f x1o) (nx1 : ¬ x1f < 64) (tx1 : aty x1f = 0) : ∀ (y2 : Int) (σ : St) (H : Heap) (locs : List Loc) (ls : Array Slot), rI y2 → lv_has ls 4 [(0, .ref (wad w 3 o)), (1, .ref (wad w x1f x1o)), (2, .int (oI y2))] → Wo w σ H → va_S (wA w) st.heap H locs → lQ1 (wp_Store_isSound_L37 (wc w) (wtv w) o x1f x1o Q) y2 σ → W p l e (headSpec (ws_ yX5_isSound cX5_isSound 4 (some .boolean)) rm_Store_isSound).room st m args below meth c H locs 0 0 (MQ below (QcZ w Q) args st 0 0 (wA w)) (F0 m 37 ls []) := by
  intro y2 σ H locs ls ry2 hl hW hS h
  obtain ⟨fu, h⟩ := h
  induction fu generalizing y2 σ H locs ls with
  | zero => exact h.elim
  | succ fu ih =>
    exact wk_Store_isSound_L37B X hr hlk hT hV ho vx1 nx1 tx1 (lq1 (wp_Store_isSound_L37 (wc w) (wtv w) o x1f x1o Q) fu) (fun y2 σ H locs ls ry2 hl hW hS h => ih y2 σ H locs ls ry2 hl hW hS h) y2 σ H locs ls ry2 hl hW hS h
set_option maxHeartbeats 4000000 in
set_option maxRecDepth 100000 in
theorem met_Store_isSound (l : Launch) {w : Wp} (hV : Hvl w) (o : Int) (x1f : Nat) (x1o : Int) (Q : Int → St → Prop) (σ : St) (ho : 0 ≤ o ∧ o < 2) (vx1 : vl w x1f x1o) (nx1 : ¬ x1f < 64) (tx1 : aty x1f = 0) (h : wp_Store_isSound (wc w) (wtv w) o x1f x1o Q σ) : Met l yX5_isSound (ws_ yX5_isSound cX5_isSound 4 (some .boolean)) rm_Store_isSound (PcW w σ [.ref (wad w 3 o), .ref (wad w x1f x1o)]) (QcZ w Q) 0 0 (wA w) := by
  refine Met.ofW (cc := cX5_isSound) (maxL := 4) (ret := (some .boolean)) (by decide) rfl ?_
  intro p e st m args below meth c s₁ B hml hv
  obtain ⟨hargs, hW, hT⟩ := hv
  have X : CallFix p m c cX5_isSound 4 st _ lw_all RX5 := ⟨B.exec, B.bytes, hml, findClass_of_methodNamed B.named, fun w h => atoms_spec (ws := ws_ yX5_isSound cX5_isSound 4 (some .boolean)) B.pre w (List.mem_cons_of_mem _ h)⟩
  have hr := B.returns
  have hlk := B.notSynchronized
  have hS : va_S (wA w) st.heap st.heap [] := va_S.rf
  have vl3_o : vl w 3 o := hV.hv 3 rfl ⟨by omega, by show _ < (2 : Int); omega⟩
  have vl4_o : vl w 4 o := hV.hv 4 rfl ⟨by omega, by show _ < (2 : Int); omega⟩
  have vl6_o : vl w 6 o := hV.hv 6 rfl ⟨by omega, by show _ < (2 : Int); omega⟩
  have hl := lv_entry ([.ref (wad w 3 o), .ref (wad w x1f x1o)]) (n := 4) (Nat.le_of_ble_eq_true rfl)
  have hfr := lg_entry_eq m ([.ref (wad w 3 o), .ref (wad w x1f x1o)]) 4
  rw [← hargs] at hfr
  rw [hfr]
  generalize (lg_sl ([.ref (wad w 3 o), .ref (wad w x1f x1o)]) ++ List.replicate (4 - (lg_sl ([.ref (wad w 3 o), .ref (wad w x1f x1o)])).length) Slot.unset).toArray = ls at hl ⊢
  have hl : lv_has ls 4 [(0, .ref (wad w 3 o)), (1, .ref (wad w x1f x1o))] := hl
  unfold wp_Store_isSound at h
  refine lv_aload_n X.1 X.2.1 dX5_isSound_0 rfl (lv_at hl 0 rfl) ?_
  refine wg (v := .ref (wad w 4 o)) X hT hW 3 0 192 vl3_o rfl rfl (by decide) rfl (by decide) in_X5 q523 rfl dX5_isSound_1 ?_
  refine wr_Z (rV (As := []) (rest := []) X hT hW hS (met_Blocks_isSound l (w := w) hV o _ σ (by omega) h) (cwV 0 X.2.2.2.2 (lw_V q1806 q1807 q1808 q137 q1809) rfl rfl rfl (by decide +kernel) ⟨Nat.le_of_ble_eq_true rfl, Nat.le_of_ble_eq_true rfl⟩) vl4_o (by decide) rfl rfl hl.1 rfl (by first | exact Nat.le_of_ble_eq_true rfl | simp [catK, catI, catR, catL]) dX5_isSound_4 ⟨Nat.le_refl _, Nat.le_refl _⟩) hS (fun r_97 σ_98 H locs rr_97 rkσ_98 h hWσ_98 hS => ?_)
  have h := h rr_97 rkσ_98
  refine w_if_eq (tgt := 28) X rr_97.i dX5_isSound_7 (by decide) (fun hc => ?_) (fun hc => ?_)
  · have h := h.1 hc
    refine lv_iconst (v := oI 0) X.1 X.2.1 dX5_isSound_28 rfl ?_
    exact wret_Z X hr hlk hWσ_98 hS rZ_0 h dX5_isSound_29
  · have h := h.2 hc
    refine lv_aload_n X.1 X.2.1 dX5_isSound_10 rfl (lv_at hl 0 rfl) ?_
    refine wg (v := .ref (wad w 6 o)) X hT hWσ_98 3 2 194 vl3_o rfl rfl (by decide) rfl (by decide) in_X5 q526 rfl dX5_isSound_11 ?_
    refine lv_aload_n X.1 X.2.1 dX5_isSound_14 rfl (lv_at hl 0 rfl) ?_
    refine wg (v := .ref (wad w 6 o)) X hT hWσ_98 3 2 194 vl3_o rfl rfl (by decide) rfl (by decide) in_X5 q526 rfl dX5_isSound_15 ?_
    refine wg (v := va_rf (knO w (gI σ_98 387 o))) X hT hWσ_98 6 3 387 vl6_o rfl rfl (by decide) rfl (by decide) in_X8 q446 rfl dX5_isSound_18 ?_
    refine lv_iconst (v := oI 1) X.1 X.2.1 dX5_isSound_21 rfl ?_
    refine wr_Z (rV (As := [va_rf (knO w (gI σ_98 387 o)), .int (oI 1)]) (rest := []) X hT hWσ_98 hS (met_Index_isSound l hV 12 o (gI σ_98 387 o) 1 _ σ_98 (by omega) (hWσ_98.r.k 387 o rfl) rZ_1 h) (cwV 2 X.2.2.2.2 (lw_V q1810 q1811 q1812 q139 q1813) rfl rfl rfl (by decide +kernel) ⟨Nat.le_of_ble_eq_true rfl, Nat.le_of_ble_eq_true rfl⟩) vl6_o (by decide) rfl rfl hl.1 rfl (by first | exact Nat.le_of_ble_eq_true rfl | simp [catK, catI, catR, catL]) dX5_isSound_22 ⟨Nat.le_refl _, Nat.le_refl _⟩) hS (fun r_99 σ_100 H locs rr_99 rkσ_100 h hWσ_100 hS => ?_)
    have h := h rr_99 rkσ_100
    refine w_if_ne (tgt := 30) X rr_99.i dX5_isSound_25 (by decide) (fun hc => ?_) (fun hc => ?_)
    · have h := h.1 hc
      refine lv_aload_n X.1 X.2.1 dX5_isSound_30 rfl (lv_at hl 1 rfl) ?_
      refine lv_iconst (v := oI 0) X.1 X.2.1 dX5_isSound_31 rfl ?_
      refine wr_V (rS (As := [.ref (wad w x1f x1o), .int (oI 0)]) (rest := []) X hT hWσ_100 hS (met_Arrays_fill_2 l (w := w) x1f x1o 0 _ σ_100 vx1 nx1 tx1 rZ_0.i h) (va_cwS 2 X.2.2.2.2 (lw_S q1816 q653 q135 q654) rfl rfl rfl (by decide +kernel) ⟨Nat.le_of_ble_eq_true rfl, Nat.le_of_ble_eq_true rfl⟩) rfl hl.1 rfl (by first | exact Nat.le_of_ble_eq_true rfl | simp [catK, catI, catR, catL]) dX5_isSound_32 ⟨Nat.le_refl _, Nat.le_refl _⟩) hS (fun σ_102 H locs rkσ_102 h hWσ_102 hS => ?_)
      have h := h rkσ_102
      refine lv_iconst (v := oI 0) X.1 X.2.1 dX5_isSound_35 rfl ?_
      refine lv_istore_n (i := 2) (lv' := [(2, .int (oI 0)), (0, .ref (wad w 3 o)), (1, .ref (wad w x1f x1o))]) X.1 X.2.1 dX5_isSound_36 rfl hl (by decide) (by first | rfl | simp [catK, catI, catR, catL]) (fun ls hl => ?_)
      exact wk_Store_isSound_L37 X hr hlk hT hV ho vx1 nx1 tx1 0 σ_102 _ _ _ rZ_0.i (lv_sub hl [1, 2, 0] rfl) hWσ_102 hS h
    · have h := h.2 hc
      refine lv_iconst (v := oI 0) X.1 X.2.1 dX5_isSound_28 rfl ?_
      exact wret_Z X hr hlk hWσ_100 hS rZ_0 h dX5_isSound_29
/-! Store.isLike(LNandHouse$Store;)Z -/
set_option maxHeartbeats 4000000 in
set_option maxRecDepth 100000 in
theorem wk_Store_isLike_b209 {p : Program} {l : Launch} {e : Env} {st : State} {m : MethodId} {args : Array Value} {below : List Frame} {meth : Method} {c : Code} {w : Wp} {o : Int} {x1 : Int} {Q : Int → St → Prop} (X : CallFix p m c cX5_isLike 5 st args lw_all RX5) (hr : meth.sig.returnType = (some .boolean)) (hlk : meth.locks = false) (hT : Tb w st) (hV : Hvl w) (ho : 0 ≤ o ∧ o < 2) (hx1 : 0 ≤ x1 ∧ x1 < 2) (K29 : Int → Int → St → Prop) (hK29 : ∀ (y2 y3 : Int) (σ : St) (H : Heap) (locs : List Loc) (ls : Array Slot), rZ y2 → rZ y3 → lv_has ls 5 [(0, .ref (wad w 3 o)), (1, .ref (wad w 3 x1)), (2, .int (oI y2)), (3, .int (oI y3))] → Wo w σ H → va_S (wA w) st.heap H locs → K29 y2 y3 σ → W p l e (headSpec (ws_ yX5_isLike cX5_isLike 5 (some .boolean)) rm_Store_isLike).room st m args below meth c H locs 0 0 (MQ below (QcZ w Q) args st 0 0 (wA w)) (F0 m 29 ls [])) : ∀ (y3 : Int) (σ : St) (H : Heap) (locs : List Loc) (ls : Array Slot), rZ y3 → lv_has ls 5 [(0, .ref (wad w 3 o)), (1, .ref (wad w 3 x1)), (3, .int (oI y3))] → Wo w σ H → va_S (wA w) st.heap H locs → wp_Store_isLike_b209 (wc w) (wtv w) o x1 Q K29 y3 σ → W p l e (headSpec (ws_ yX5_isLike cX5_isLike 5 (some .boolean)) rm_Store_isLike).room st m args below meth c H locs 0 0 (MQ below (QcZ w Q) args st 0 0 (wA w)) (F0 m 209 ls []) := by
  have vl3_o : vl w 3 o := hV.hv 3 rfl ⟨by omega, by show _ < (2 : Int); omega⟩
  have vl3_x1 : vl w 3 x1 := hV.hv 3 rfl ⟨by omega, by show _ < (2 : Int); omega⟩
  have vl6_o : vl w 6 o := hV.hv 6 rfl ⟨by omega, by show _ < (2 : Int); omega⟩
  have vl6_x1 : vl w 6 x1 := hV.hv 6 rfl ⟨by omega, by show _ < (2 : Int); omega⟩
  intro y3 σ H locs ls ry3 hl hW hS h
  unfold wp_Store_isLike_b209 at h
  refine lv_aload_n X.1 X.2.1 dX5_isLike_209 rfl (lv_at hl 0 rfl) ?_
  refine wg (v := .ref (wad w 6 o)) X hT hW 3 2 194 vl3_o rfl rfl (by decide) rfl (by decide) in_X5 q526 rfl dX5_isLike_210 ?_
  refine wr_Z (rV (As := []) (rest := []) X hT hW hS (met_Index_next l (w := w) hV o _ σ (by omega) h) (cwV 0 X.2.2.2.2 (lw_V q1821 q1066 q1067 q139 q1068) rfl rfl rfl (by decide +kernel) ⟨Nat.le_of_ble_eq_true rfl, Nat.le_of_ble_eq_true rfl⟩) vl6_o (by decide) rfl rfl hl.1 rfl (by first | exact Nat.le_of_ble_eq_true rfl | simp [catK, catI, catR, catL]) dX5_isLike_213 ⟨Nat.le_refl _, Nat.le_refl _⟩) hS (fun r_33 σ_34 H locs rr_33 rkσ_34 h hWσ_34 hS => ?_)
  have h := h rr_33 rkσ_34
  refine lv_istore_n (i := 2) (lv' := [(2, .int (oI r_33)), (0, .ref (wad w 3 o)), (1, .ref (wad w 3 x1)), (3, .int (oI y3))]) X.1 X.2.1 dX5_isLike_216 rfl hl (by decide) (by first | rfl | simp [catK, catI, catR, catL]) (fun ls hl => ?_)
  refine lv_iload_n X.1 X.2.1 dX5_isLike_217 rfl (lv_at hl 3 rfl) ?_
  refine lv_iload_n X.1 X.2.1 dX5_isLike_218 rfl (lv_at hl 0 rfl) ?_
  refine lv_aload_n X.1 X.2.1 dX5_isLike_219 rfl (lv_at hl 2 rfl) ?_
  refine wg (v := .ref (wad w 6 x1)) X hT hWσ_34 3 2 194 vl3_x1 rfl rfl (by decide) rfl (by decide) in_X5 q526 rfl dX5_isLike_220 ?_
  refine wr_Z (rV (As := []) (rest := [.int (oI r_33), .int (oI y3)]) X hT hWσ_34 hS (met_Index_next l (w := w) hV x1 _ σ_34 (by omega) h) (cwV 0 X.2.2.2.2 (lw_V q1821 q1066 q1067 q139 q1068) rfl rfl rfl (by decide +kernel) ⟨Nat.le_of_ble_eq_true rfl, Nat.le_of_ble_eq_true rfl⟩) vl6_x1 (by decide) rfl rfl hl.1 rfl (by first | exact Nat.le_of_ble_eq_true rfl | simp [catK, catI, catR, catL]) dX5_isLike_223 ⟨Nat.le_refl _, Nat.le_refl _⟩) hS (fun r_35 σ_36 H locs rr_35 rkσ_36 h hWσ_36 hS => ?_)
  have h := h rr_35 rkσ_36
  refine w_cut (pc2 := 234) (st2 := [.int (oI (if r_33 = r_35 then (1 : Int) else (0 : Int))), .int (oI y3)]) (fun hj => ?_) ?_
  · refine w_icmp_ne (tgt := 233) X rr_33.i rr_35.i dX5_isLike_226 (by decide) (fun hc => ?_) (fun hc => ?_)
    · refine lv_iconst (v := oI 0) X.1 X.2.1 dX5_isLike_233 rfl ?_
      rw [if_neg hc] at hj; exact hj
    · refine lv_iconst (v := oI 1) X.1 X.2.1 dX5_isLike_229 rfl ?_
      refine lv_goto (tgt := 234) X.1 X.2.1 dX5_isLike_230 (by decide) ?_
      rw [if_pos hc] at hj; exact hj
  refine w_iand X dX5_isLike_234 ?_
  refine w_top (fun y3_37 ey3_37 => ?_)
  have h := h y3_37 ey3_37
  have ry3_37 : rZ y3_37 := by rw [ey3_37]; exact (iand_Z ry3 (ite_rZ rZ_1 rZ_0))
  refine lv_istore_n (i := 3) (lv' := [(3, .int (oI y3_37)), (2, .int (oI r_33)), (0, .ref (wad w 3 o)), (1, .ref (wad w 3 x1))]) X.1 X.2.1 dX5_isLike_235 rfl hl (by decide) (by first | rfl | simp [catK, catI, catR, catL]) (fun ls hl => ?_)
  refine lv_goto (tgt := 29) X.1 X.2.1 dX5_isLike_236 (by decide) ?_
  exact hK29 r_33 y3_37 σ_36 _ _ _ rr_33 ry3_37 (lv_sub hl [2, 3, 1, 0] rfl) hWσ_36 hS h
set_option maxHeartbeats 4000000 in
set_option maxRecDepth 100000 in
theorem wk_Store_isLike_L158B {p : Program} {l : Launch} {e : Env} {st : State} {m : MethodId} {args : Array Value} {below : List Frame} {meth : Method} {c : Code} {w : Wp} {o : Int} {x1 : Int} {Q : Int → St → Prop} (X : CallFix p m c cX5_isLike 5 st args lw_all RX5) (hr : meth.sig.returnType = (some .boolean)) (hlk : meth.locks = false) (hT : Tb w st) (hV : Hvl w) (ho : 0 ≤ o ∧ o < 2) (hx1 : 0 ≤ x1 ∧ x1 < 2) (K29 : Int → Int → St → Prop) (K158 : Int → Int → St → Prop) (hK29 : ∀ (y2 y3 : Int) (σ : St) (H : Heap) (locs : List Loc) (ls : Array Slot), rZ y2 → rZ y3 → lv_has ls 5 [(0, .ref (wad w 3 o)), (1, .ref (wad w 3 x1)), (2, .int (oI y2)), (3, .int (oI y3))] → Wo w σ H → va_S (wA w) st.heap H locs → K29 y2 y3 σ → W p l e (headSpec (ws_ yX5_isLike cX5_isLike 5 (some .boolean)) rm_Store_isLike).room st m args below meth c H locs 0 0 (MQ below (QcZ w Q) args st 0 0 (wA w)) (F0 m 29 ls [])) (hK158 : ∀ (y3 y4 : Int) (σ : St) (H : Heap) (locs : List Loc) (ls : Array Slot), rZ y3 → rI y4 → lv_has ls 5 [(0, .ref (wad w 3 o)), (1, .ref (wad w 3 x1)), (3, .int (oI y3)), (4, .int (oI y4))] → Wo w σ H → va_S (wA w) st.heap H locs → K158 y3 y4 σ → W p l e (headSpec (ws_ yX5_isLike cX5_isLike 5 (some .boolean)) rm_Store_isLike).room st m args below meth c H locs 0 0 (MQ below (QcZ w Q) args st 0 0 (wA w)) (F0 m 158 ls [])) : ∀ (y3 y4 : Int) (σ : St) (H : Heap) (locs : List Loc) (ls : Array Slot), rZ y3 → rI y4 → lv_has ls 5 [(0, .ref (wad w 3 o)), (1, .ref (wad w 3 x1)), (3, .int (oI y3)), (4, .int (oI y4))] → Wo w σ H → va_S (wA w) st.heap H locs → wp_Store_isLike_L158 (wc w) (wtv w) o x1 Q K29 K158 y3 y4 σ → W p l e (headSpec (ws_ yX5_isLike cX5_isLike 5 (some .boolean)) rm_Store_isLike).room st m args below meth c H locs 0 0 (MQ below (QcZ w Q) args st 0 0 (wA w)) (F0 m 158 ls []) := by
  have vl3_o : vl w 3 o := hV.hv 3 rfl ⟨by omega, by show _ < (2 : Int); omega⟩
  have vl3_x1 : vl w 3 x1 := hV.hv 3 rfl ⟨by omega, by show _ < (2 : Int); omega⟩
  have vl512_o : vl w 512 o := hV.hv 512 rfl ⟨by omega, by show _ < (8 : Int); omega⟩
  have vl512_x1 : vl w 512 x1 := hV.hv 512 rfl ⟨by omega, by show _ < (8 : Int); omega⟩
  have vl6_o : vl w 6 o := hV.hv 6 rfl ⟨by omega, by show _ < (2 : Int); omega⟩
  have vl8_o : vl w 8 o := hV.hv 8 rfl ⟨by omega, by show _ < (8 : Int); omega⟩
  have vl8_x1 : vl w 8 x1 := hV.hv 8 rfl ⟨by omega, by show _ < (8 : Int); omega⟩
  intro y3 y4 σ H locs ls ry3 ry4 hl hW hS h
  unfold wp_Store_isLike_L158 at h
  refine lv_iload X.1 X.2.1 dX5_isLike_158 (lv_at hl 3 rfl) ?_
  refine lv_aload_n X.1 X.2.1 dX5_isLike_160 rfl (lv_at hl 0 rfl) ?_
  refine wg (v := .ref (wad w 6 o)) X hT hW 3 2 194 vl3_o rfl rfl (by decide) rfl (by decide) in_X5 q526 rfl dX5_isLike_161 ?_
  refine wg (v := .int (oI (gI σ 395 o))) X hT hW 6 11 395 vl6_o rfl rfl (by decide) rfl (by decide) in_X8 q467 rfl dX5_isLike_164 ?_
  refine w_icmp_ge (tgt := 209) X ry4 (hW.r.i 395 o rfl) dX5_isLike_167 (by decide) (fun hc => ?_) (fun hc => ?_)
  · have h := h.1 hc
    exact wk_Store_isLike_b209 X hr hlk hT hV ho hx1 K29 hK29 y3 σ _ _ _ ry3 (lv_sub hl [0, 1, 2] rfl) hW hS h
  · have h := h.2 hc
    refine lv_iload_n X.1 X.2.1 dX5_isLike_170 rfl (lv_at hl 2 rfl) ?_
    refine w_if_eq (tgt := 209) X ry3.i dX5_isLike_171 (by decide) (fun hc => ?_) (fun hc => ?_)
    · have h := h.1 hc
      exact wk_Store_isLike_b209 X hr hlk hT hV ho hx1 K29 hK29 y3 σ _ _ _ ry3 (lv_sub hl [0, 1, 2] rfl) hW hS h
    · have h := h.2 hc
      refine lv_aload_n X.1 X.2.1 dX5_isLike_174 rfl (lv_at hl 0 rfl) ?_
      refine wg (v := .ref (wad w 8 o)) X hT hW 3 6 198 vl3_o rfl rfl (by decide) rfl (by decide) in_X5 q531 rfl dX5_isLike_175 ?_
      refine wg (v := .ref (wad w 512 o)) X hT hW 8 0 512 vl8_o rfl rfl (by decide) rfl (by decide) in_X2 q166 rfl dX5_isLike_178 ?_
      refine lv_iload X.1 X.2.1 dX5_isLike_181 (lv_at hl 3 rfl) ?_
      obtain ⟨bi, h⟩ := h
      refine w_bald (n := (rowL o)) X hT hW 512 vl512_o (by decide) rfl rfl bi dX5_isLike_183 ?_
      refine lv_aload_n X.1 X.2.1 dX5_isLike_184 rfl (lv_at hl 1 rfl) ?_
      refine wg (v := .ref (wad w 8 x1)) X hT hW 3 6 198 vl3_x1 rfl rfl (by decide) rfl (by decide) in_X5 q531 rfl dX5_isLike_185 ?_
      refine wg (v := .ref (wad w 512 x1)) X hT hW 8 0 512 vl8_x1 rfl rfl (by decide) rfl (by decide) in_X2 q166 rfl dX5_isLike_188 ?_
      refine lv_iload X.1 X.2.1 dX5_isLike_191 (lv_at hl 3 rfl) ?_
      obtain ⟨bi, h⟩ := h
      refine w_bald (n := (rowL x1)) X hT hW 512 vl512_x1 (by decide) rfl rfl bi dX5_isLike_193 ?_
      refine w_cut (pc2 := 202) (st2 := [.int (oI (if (gA σ 512 o y4) = (gA σ 512 x1 y4) then (1 : Int) else (0 : Int)))]) (fun hj => ?_) ?_
      · refine w_icmp_ne (tgt := 201) X ((hW.r.ab 512 o y4 rfl).i) ((hW.r.ab 512 x1 y4 rfl).i) dX5_isLike_194 (by decide) (fun hc => ?_) (fun hc => ?_)
        · refine lv_iconst (v := oI 0) X.1 X.2.1 dX5_isLike_201 rfl ?_
          rw [if_neg hc] at hj; exact hj
        · refine lv_iconst (v := oI 1) X.1 X.2.1 dX5_isLike_197 rfl ?_
          refine lv_goto (tgt := 202) X.1 X.2.1 dX5_isLike_198 (by decide) ?_
          rw [if_pos hc] at hj; exact hj
      refine w_top (fun y3_38 ey3_38 => ?_)
      have h := h y3_38 ey3_38
      have ry3_38 : rZ y3_38 := by rw [ey3_38]; exact (ite_rZ rZ_1 rZ_0)
      refine lv_istore_n (i := 3) (lv' := [(3, .int (oI y3_38)), (0, .ref (wad w 3 o)), (1, .ref (wad w 3 x1)), (4, .int (oI y4))]) X.1 X.2.1 dX5_isLike_202 rfl hl (by decide) (by first | rfl | simp [catK, catI, catR, catL]) (fun ls hl => ?_)
      obtain ⟨y4_39, ey4_39⟩ : ∃ y : Int, y = w32 (y4 + 1) := ⟨_, rfl⟩
      have h := h y4_39 ey4_39
      have ry4_39 : rI y4_39 := by rw [ey4_39]; exact w32_r _
      refine lv_iinc (v := oI y4_39) (lv' := [(4, .int (oI y4_39)), (3, .int (oI y3_38)), (0, .ref (wad w 3 o)), (1, .ref (wad w 3 x1))]) X.1 X.2.1 dX5_isLike_203 hl (k := 3) rfl (by rw [ey4_39]; exact oI_add _ _) (by decide) (by first | rfl | simp [catK, catI, catR, catL]) (fun ls hl => ?_)
      refine lv_goto (tgt := 158) X.1 X.2.1 dX5_isLike_206 (by decide) ?_
      exact hK158 y3_38 y4_39 σ _ _ _ ry3_38 ry4_39 (lv_sub hl [2, 3, 1, 0] rfl) hW hS h
theorem wk_Store_isLike_L158 {p : Program} {l : Launch} {e : Env} {st : State} {m : MethodId} {args : Array Value} {below : List Frame} {meth : Method} {c : Code} {w : Wp} {o : Int} {x1 : Int} {Q : Int → St → Prop} (X : CallFix p m c cX5_isLike 5 st args lw_all RX5) (hr : meth.sig.returnType = (some .boolean)) (hlk : meth.locks = false) (hT : Tb w st) (hV : Hvl w) (ho : 0 ≤ o ∧ o < 2) (hx1 : 0 ≤ x1 ∧ x1 < 2) (K29 : Int → Int → St → Prop) (hK29 : ∀ (y2 y3 : Int) (σ : St) (H : Heap) (locs : List Loc) (ls : Array Slot), rZ y2 → rZ y3 → lv_has ls 5 [(0, .ref (wad w 3 o)), (1, .ref (wad w 3 x1)), (2, .int (oI y2)), (3, .int (oI y3))] → Wo w σ H → va_S (wA w) st.heap H locs → K29 y2 y3 σ → W p l e (headSpec (ws_ yX5_isLike cX5_isLike 5 (some .boolean)) rm_Store_isLike).room st m args below meth c H locs 0 0 (MQ below (QcZ w Q) args st 0 0 (wA w)) (F0 m 29 ls [])) : ∀ (y3 y4 : Int) (σ : St) (H : Heap) (locs : List Loc) (ls : Array Slot), rZ y3 → rI y4 → lv_has ls 5 [(0, .ref (wad w 3 o)), (1, .ref (wad w 3 x1)), (3, .int (oI y3)), (4, .int (oI y4))] → Wo w σ H → va_S (wA w) st.heap H locs → lQ2 (wp_Store_isLike_L158 (wc w) (wtv w) o x1 Q K29) y3 y4 σ → W p l e (headSpec (ws_ yX5_isLike cX5_isLike 5 (some .boolean)) rm_Store_isLike).room st m args below meth c H locs 0 0 (MQ below (QcZ w Q) args st 0 0 (wA w)) (F0 m 158 ls []) := by
  intro y3 y4 σ H locs ls ry3 ry4 hl hW hS h
  obtain ⟨fu, h⟩ := h
  induction fu generalizing y3 y4 σ H locs ls with
  | zero => exact h.elim
  | succ fu ih =>
    exact wk_Store_isLike_L158B X hr hlk hT hV ho hx1 K29 (lq2 (wp_Store_isLike_L158 (wc w) (wtv w) o x1 Q K29) fu) hK29 (fun y3 y4 σ H locs ls ry3 ry4 hl hW hS h => ih y3 y4 σ H locs ls ry3 ry4 hl hW hS h) y3 y4 σ H locs ls ry3 ry4 hl hW hS h
set_option maxHeartbeats 4000000 in
set_option maxRecDepth 100000 in
theorem wk_Store_isLike_b239 {p : Program} {l : Launch} {e : Env} {st : State} {m : MethodId} {args : Array Value} {below : List Frame} {meth : Method} {c : Code} {w : Wp} {o : Int} {x1 : Int} {Q : Int → St → Prop} (X : CallFix p m c cX5_isLike 5 st args lw_all RX5) (hr : meth.sig.returnType = (some .boolean)) (hlk : meth.locks = false) (hT : Tb w st) (hV : Hvl w) (ho : 0 ≤ o ∧ o < 2) (hx1 : 0 ≤ x1 ∧ x1 < 2) : ∀ (y3 : Int) (σ : St) (H : Heap) (locs : List Loc) (ls : Array Slot), rZ y3 → lv_has ls 5 [(0, .ref (wad w 3 o)), (1, .ref (wad w 3 x1)), (3, .int (oI y3))] → Wo w σ H → va_S (wA w) st.heap H locs → wp_Store_isLike_b239 (wc w) (wtv w) o x1 Q y3 σ → W p l e (headSpec (ws_ yX5_isLike cX5_isLike 5 (some .boolean)) rm_Store_isLike).room st m args below meth c H locs 0 0 (MQ below (QcZ w Q) args st 0 0 (wA w)) (F0 m 239 ls []) := by
  have vl3_o : vl w 3 o := hV.hv 3 rfl ⟨by omega, by show _ < (2 : Int); omega⟩
  have vl3_x1 : vl w 3 x1 := hV.hv 3 rfl ⟨by omega, by show _ < (2 : Int); omega⟩
  intro y3 σ H locs ls ry3 hl hW hS h
  unfold wp_Store_isLike_b239 at h
  refine lv_iload_n X.1 X.2.1 dX5_isLike_239 rfl (lv_at hl 2 rfl) ?_
  refine w_if_eq (tgt := 258) X ry3.i dX5_isLike_240 (by decide) (fun hc => ?_) (fun hc => ?_)
  · have h := h.1 hc
    refine lv_iconst (v := oI 0) X.1 X.2.1 dX5_isLike_258 rfl ?_
    exact wret_Z X hr hlk hW hS rZ_0 h dX5_isLike_259
  · have h := h.2 hc
    refine lv_aload_n X.1 X.2.1 dX5_isLike_243 rfl (lv_at hl 0 rfl) ?_
    refine wg (v := .int (oI (gI σ 203 o))) X hT hW 3 11 203 vl3_o rfl rfl (by decide) rfl (by decide) in_X5 q537 rfl dX5_isLike_244 ?_
    refine lv_aload_n X.1 X.2.1 dX5_isLike_247 rfl (lv_at hl 1 rfl) ?_
    refine wg (v := .int (oI (gI σ 203 x1))) X hT hW 3 11 203 vl3_x1 rfl rfl (by decide) rfl (by decide) in_X5 q537 rfl dX5_isLike_248 ?_
    refine w_icmp_ne (tgt := 258) X (hW.r.i 203 o rfl) (hW.r.i 203 x1 rfl) dX5_isLike_251 (by decide) (fun hc => ?_) (fun hc => ?_)
    · have h := h.1 hc
      refine lv_iconst (v := oI 0) X.1 X.2.1 dX5_isLike_258 rfl ?_
      exact wret_Z X hr hlk hW hS rZ_0 h dX5_isLike_259
    · have h := h.2 hc
      refine lv_iconst (v := oI 1) X.1 X.2.1 dX5_isLike_254 rfl ?_
      refine lv_goto (tgt := 259) X.1 X.2.1 dX5_isLike_255 (by decide) ?_
      exact wret_Z X hr hlk hW hS rZ_1 h dX5_isLike_259
set_option maxHeartbeats 4000000 in
set_option maxRecDepth 100000 in
theorem wk_Store_isLike_b94 {p : Program} {l : Launch} {e : Env} {st : State} {m : MethodId} {args : Array Value} {below : List Frame} {meth : Method} {c : Code} {w : Wp} {o : Int} {x1 : Int} {Q : Int → St → Prop} (X : CallFix p m c cX5_isLike 5 st args lw_all RX5) (hr : meth.sig.returnType = (some .boolean)) (hlk : meth.locks = false) (hT : Tb w st) (hV : Hvl w) (ho : 0 ≤ o ∧ o < 2) (hx1 : 0 ≤ x1 ∧ x1 < 2) (K95 : Int → St → Prop) (hK95 : ∀ (t0 : Int) (σ : St) (H : Heap) (locs : List Loc) (ls : Array Slot), rZ t0 → lv_has ls 5 [(0, .ref (wad w 3 o)), (1, .ref (wad w 3 x1))] → Wo w σ H → va_S (wA w) st.heap H locs → K95 t0 σ → W p l e (headSpec (ws_ yX5_isLike cX5_isLike 5 (some .boolean)) rm_Store_isLike).room st m args below meth c H locs 0 0 (MQ below (QcZ w Q) args st 0 0 (wA w)) (F0 m 95 ls [.int (oI t0)])) : ∀ (σ : St) (H : Heap) (locs : List Loc) (ls : Array Slot), lv_has ls 5 [(0, .ref (wad w 3 o)), (1, .ref (wad w 3 x1))] → Wo w σ H → va_S (wA w) st.heap H locs → wp_Store_isLike_b94 (wc w) (wtv w) o x1 Q K95 σ → W p l e (headSpec (ws_ yX5_isLike cX5_isLike 5 (some .boolean)) rm_Store_isLike).room st m args below meth c H locs 0 0 (MQ below (QcZ w Q) args st 0 0 (wA w)) (F0 m 94 ls []) := by

  intro σ H locs ls hl hW hS h
  unfold wp_Store_isLike_b94 at h
  refine lv_iconst (v := oI 0) X.1 X.2.1 dX5_isLike_94 rfl ?_
  exact hK95 0 σ _ _ _ rZ_0 (lv_sub hl [0, 1] rfl) hW hS h
set_option maxHeartbeats 4000000 in
set_option maxRecDepth 100000 in
theorem wk_Store_isLike_b95 {p : Program} {l : Launch} {e : Env} {st : State} {m : MethodId} {args : Array Value} {below : List Frame} {meth : Method} {c : Code} {w : Wp} {o : Int} {x1 : Int} {Q : Int → St → Prop} (X : CallFix p m c cX5_isLike 5 st args lw_all RX5) (hr : meth.sig.returnType = (some .boolean)) (hlk : meth.locks = false) (hT : Tb w st) (hV : Hvl w) (ho : 0 ≤ o ∧ o < 2) (hx1 : 0 ≤ x1 ∧ x1 < 2) (K29 : Int → Int → St → Prop) (hK29 : ∀ (y2 y3 : Int) (σ : St) (H : Heap) (locs : List Loc) (ls : Array Slot), rZ y2 → rZ y3 → lv_has ls 5 [(0, .ref (wad w 3 o)), (1, .ref (wad w 3 x1)), (2, .int (oI y2)), (3, .int (oI y3))] → Wo w σ H → va_S (wA w) st.heap H locs → K29 y2 y3 σ → W p l e (headSpec (ws_ yX5_isLike cX5_isLike 5 (some .boolean)) rm_Store_isLike).room st m args below meth c H locs 0 0 (MQ below (QcZ w Q) args st 0 0 (wA w)) (F0 m 29 ls [])) : ∀ (t0 : Int) (σ : St) (H : Heap) (locs : List Loc) (ls : Array Slot), rZ t0 → lv_has ls 5 [(0, .ref (wad w 3 o)), (1, .ref (wad w 3 x1))] → Wo w σ H → va_S (wA w) st.heap H locs → wp_Store_isLike_b95 (wc w) (wtv w) o x1 Q K29 t0 σ → W p l e (headSpec (ws_ yX5_isLike cX5_isLike 5 (some .boolean)) rm_Store_isLike).room st m args below meth c H locs 0 0 (MQ below (QcZ w Q) args st 0 0 (wA w)) (F0 m 95 ls [.int (oI t0)]) := by
  have vl3_o : vl w 3 o := hV.hv 3 rfl ⟨by omega, by show _ < (2 : Int); omega⟩
  have vl3_x1 : vl w 3 x1 := hV.hv 3 rfl ⟨by omega, by show _ < (2 : Int); omega⟩
  have vl6_o : vl w 6 o := hV.hv 6 rfl ⟨by omega, by show _ < (2 : Int); omega⟩
  have vl6_x1 : vl w 6 x1 := hV.hv 6 rfl ⟨by omega, by show _ < (2 : Int); omega⟩
  have vl8_o : vl w 8 o := hV.hv 8 rfl ⟨by omega, by show _ < (8 : Int); omega⟩
  have vl8_x1 : vl w 8 x1 := hV.hv 8 rfl ⟨by omega, by show _ < (8 : Int); omega⟩
  intro t0 σ H locs ls rt0 hl hW hS h
  unfold wp_Store_isLike_b95 at h
  refine lv_istore_n (i := 3) (lv' := [(3, .int (oI t0)), (0, .ref (wad w 3 o)), (1, .ref (wad w 3 x1))]) X.1 X.2.1 dX5_isLike_95 rfl hl (by decide) (by first | rfl | simp [catK, catI, catR, catL]) (fun ls hl => ?_)
  refine lv_aload_n X.1 X.2.1 dX5_isLike_96 rfl (lv_at hl 1 rfl) ?_
  refine lv_aload_n X.1 X.2.1 dX5_isLike_97 rfl (lv_at hl 1 rfl) ?_
  refine wg (v := .ref (wad w 6 o)) X hT hW 3 2 194 vl3_o rfl rfl (by decide) rfl (by decide) in_X5 q526 rfl dX5_isLike_98 ?_
  refine wg (v := .int (oI (gI σ 393 o))) X hT hW 6 9 393 vl6_o rfl rfl (by decide) rfl (by decide) in_X8 q461 rfl dX5_isLike_101 ?_
  refine lv_aload_n X.1 X.2.1 dX5_isLike_104 rfl (lv_at hl 1 rfl) ?_
  refine wg (v := .ref (wad w 6 o)) X hT hW 3 2 194 vl3_o rfl rfl (by decide) rfl (by decide) in_X5 q526 rfl dX5_isLike_105 ?_
  refine wg (v := .int (oI (gI σ 394 o))) X hT hW 6 10 394 vl6_o rfl rfl (by decide) rfl (by decide) in_X8 q464 rfl dX5_isLike_108 ?_
  refine lv_aload_n X.1 X.2.1 dX5_isLike_111 rfl (lv_at hl 1 rfl) ?_
  refine wg (v := .ref (wad w 6 o)) X hT hW 3 2 194 vl3_o rfl rfl (by decide) rfl (by decide) in_X5 q526 rfl dX5_isLike_112 ?_
  refine wg (v := .int (oI (gI σ 395 o))) X hT hW 6 11 395 vl6_o rfl rfl (by decide) rfl (by decide) in_X8 q467 rfl dX5_isLike_115 ?_
  refine lv_aload_n X.1 X.2.1 dX5_isLike_118 rfl (lv_at hl 1 rfl) ?_
  refine wg (v := .ref (wad w 8 o)) X hT hW 3 6 198 vl3_o rfl rfl (by decide) rfl (by decide) in_X5 q531 rfl dX5_isLike_119 ?_
  refine wr_V (rV (As := [.int (oI (gI σ 393 o)), .int (oI (gI σ 394 o)), .int (oI (gI σ 395 o)), .ref (wad w 8 o)]) (rest := []) X hT hW hS (met_Store_read l (w := w) hV o (gI σ 393 o) (gI σ 394 o) (gI σ 395 o) o _ σ (by omega) (hW.r.i 393 o rfl) (hW.r.i 394 o rfl) (hW.r.i 395 o rfl) (by omega) h) (cwV 4 X.2.2.2.2 (lw_V q1293 q1184 q1185 q136 q1186) rfl rfl rfl (by decide +kernel) ⟨Nat.le_of_ble_eq_true rfl, Nat.le_of_ble_eq_true rfl⟩) vl3_o (by decide) rfl rfl hl.1 rfl (by first | exact Nat.le_of_ble_eq_true rfl | simp [catK, catI, catR, catL]) dX5_isLike_122 ⟨Nat.le_refl _, Nat.le_refl _⟩) hS (fun σ_41 H locs rkσ_41 h hWσ_41 hS => ?_)
  have h := h rkσ_41
  refine lv_aload_n X.1 X.2.1 dX5_isLike_125 rfl (lv_at hl 2 rfl) ?_
  refine lv_aload_n X.1 X.2.1 dX5_isLike_126 rfl (lv_at hl 2 rfl) ?_
  refine wg (v := .ref (wad w 6 x1)) X hT hWσ_41 3 2 194 vl3_x1 rfl rfl (by decide) rfl (by decide) in_X5 q526 rfl dX5_isLike_127 ?_
  refine wg (v := .int (oI (gI σ_41 393 x1))) X hT hWσ_41 6 9 393 vl6_x1 rfl rfl (by decide) rfl (by decide) in_X8 q461 rfl dX5_isLike_130 ?_
  refine lv_aload_n X.1 X.2.1 dX5_isLike_133 rfl (lv_at hl 2 rfl) ?_
  refine wg (v := .ref (wad w 6 x1)) X hT hWσ_41 3 2 194 vl3_x1 rfl rfl (by decide) rfl (by decide) in_X5 q526 rfl dX5_isLike_134 ?_
  refine wg (v := .int (oI (gI σ_41 394 x1))) X hT hWσ_41 6 10 394 vl6_x1 rfl rfl (by decide) rfl (by decide) in_X8 q464 rfl dX5_isLike_137 ?_
  refine lv_aload_n X.1 X.2.1 dX5_isLike_140 rfl (lv_at hl 2 rfl) ?_
  refine wg (v := .ref (wad w 6 x1)) X hT hWσ_41 3 2 194 vl3_x1 rfl rfl (by decide) rfl (by decide) in_X5 q526 rfl dX5_isLike_141 ?_
  refine wg (v := .int (oI (gI σ_41 395 x1))) X hT hWσ_41 6 11 395 vl6_x1 rfl rfl (by decide) rfl (by decide) in_X8 q467 rfl dX5_isLike_144 ?_
  refine lv_aload_n X.1 X.2.1 dX5_isLike_147 rfl (lv_at hl 2 rfl) ?_
  refine wg (v := .ref (wad w 8 x1)) X hT hWσ_41 3 6 198 vl3_x1 rfl rfl (by decide) rfl (by decide) in_X5 q531 rfl dX5_isLike_148 ?_
  refine wr_V (rV (As := [.int (oI (gI σ_41 393 x1)), .int (oI (gI σ_41 394 x1)), .int (oI (gI σ_41 395 x1)), .ref (wad w 8 x1)]) (rest := []) X hT hWσ_41 hS (met_Store_read l (w := w) hV x1 (gI σ_41 393 x1) (gI σ_41 394 x1) (gI σ_41 395 x1) x1 _ σ_41 (by omega) (hWσ_41.r.i 393 x1 rfl) (hWσ_41.r.i 394 x1 rfl) (hWσ_41.r.i 395 x1 rfl) (by omega) h) (cwV 4 X.2.2.2.2 (lw_V q1293 q1184 q1185 q136 q1186) rfl rfl rfl (by decide +kernel) ⟨Nat.le_of_ble_eq_true rfl, Nat.le_of_ble_eq_true rfl⟩) vl3_x1 (by decide) rfl rfl hl.1 rfl (by first | exact Nat.le_of_ble_eq_true rfl | simp [catK, catI, catR, catL]) dX5_isLike_151 ⟨Nat.le_refl _, Nat.le_refl _⟩) hS (fun σ_43 H locs rkσ_43 h hWσ_43 hS => ?_)
  have h := h rkσ_43
  refine lv_bipush (v := oI 24) X.1 X.2.1 dX5_isLike_154 (by decide) ?_
  refine lv_istore (i := 4) (lv' := [(4, .int (oI 24)), (3, .int (oI t0)), (0, .ref (wad w 3 o)), (1, .ref (wad w 3 x1))]) X.1 X.2.1 dX5_isLike_156 hl (by decide) (by first | rfl | simp [catK, catI, catR, catL]) (fun ls hl => ?_)
  exact wk_Store_isLike_L158 X hr hlk hT hV ho hx1 K29 hK29 t0 24 σ_43 _ _ _ rt0 ((rB_lit 24 (by decide)).i) (lv_sub hl [2, 3, 1, 0] rfl) hWσ_43 hS h
set_option maxHeartbeats 4000000 in
set_option maxRecDepth 100000 in
theorem wk_Store_isLike_L29B {p : Program} {l : Launch} {e : Env} {st : State} {m : MethodId} {args : Array Value} {below : List Frame} {meth : Method} {c : Code} {w : Wp} {o : Int} {x1 : Int} {Q : Int → St → Prop} (X : CallFix p m c cX5_isLike 5 st args lw_all RX5) (hr : meth.sig.returnType = (some .boolean)) (hlk : meth.locks = false) (hT : Tb w st) (hV : Hvl w) (ho : 0 ≤ o ∧ o < 2) (hx1 : 0 ≤ x1 ∧ x1 < 2) (K29 : Int → Int → St → Prop) (hK29 : ∀ (y2 y3 : Int) (σ : St) (H : Heap) (locs : List Loc) (ls : Array Slot), rZ y2 → rZ y3 → lv_has ls 5 [(0, .ref (wad w 3 o)), (1, .ref (wad w 3 x1)), (2, .int (oI y2)), (3, .int (oI y3))] → Wo w σ H → va_S (wA w) st.heap H locs → K29 y2 y3 σ → W p l e (headSpec (ws_ yX5_isLike cX5_isLike 5 (some .boolean)) rm_Store_isLike).room st m args below meth c H locs 0 0 (MQ below (QcZ w Q) args st 0 0 (wA w)) (F0 m 29 ls [])) : ∀ (y2 y3 : Int) (σ : St) (H : Heap) (locs : List Loc) (ls : Array Slot), rZ y2 → rZ y3 → lv_has ls 5 [(0, .ref (wad w 3 o)), (1, .ref (wad w 3 x1)), (2, .int (oI y2)), (3, .int (oI y3))] → Wo w σ H → va_S (wA w) st.heap H locs → wp_Store_isLike_L29 (wc w) (wtv w) o x1 Q K29 y2 y3 σ → W p l e (headSpec (ws_ yX5_isLike cX5_isLike 5 (some .boolean)) rm_Store_isLike).room st m args below meth c H locs 0 0 (MQ below (QcZ w Q) args st 0 0 (wA w)) (F0 m 29 ls []) := by
  have vl3_o : vl w 3 o := hV.hv 3 rfl ⟨by omega, by show _ < (2 : Int); omega⟩
  have vl3_x1 : vl w 3 x1 := hV.hv 3 rfl ⟨by omega, by show _ < (2 : Int); omega⟩
  have vl6_o : vl w 6 o := hV.hv 6 rfl ⟨by omega, by show _ < (2 : Int); omega⟩
  have vl6_x1 : vl w 6 x1 := hV.hv 6 rfl ⟨by omega, by show _ < (2 : Int); omega⟩
  intro y2 y3 σ H locs ls ry2 ry3 hl hW hS h
  unfold wp_Store_isLike_L29 at h
  refine lv_iload_n X.1 X.2.1 dX5_isLike_29 rfl (lv_at hl 2 rfl) ?_
  refine w_if_eq (tgt := 239) X ry2.i dX5_isLike_30 (by decide) (fun hc => ?_) (fun hc => ?_)
  · have h := h.1 hc
    exact wk_Store_isLike_b239 X hr hlk hT hV ho hx1 y3 σ _ _ _ ry3 (lv_sub hl [0, 1, 3] rfl) hW hS h
  · have h := h.2 hc
    refine lv_iload_n X.1 X.2.1 dX5_isLike_33 rfl (lv_at hl 3 rfl) ?_
    refine w_if_eq (tgt := 239) X ry3.i dX5_isLike_34 (by decide) (fun hc => ?_) (fun hc => ?_)
    · have h := h.1 hc
      exact wk_Store_isLike_b239 X hr hlk hT hV ho hx1 y3 σ _ _ _ ry3 (lv_sub hl [0, 1, 3] rfl) hW hS h
    · have h := h.2 hc
      refine lv_aload_n X.1 X.2.1 dX5_isLike_37 rfl (lv_at hl 0 rfl) ?_
      refine wg (v := .ref (wad w 6 o)) X hT hW 3 2 194 vl3_o rfl rfl (by decide) rfl (by decide) in_X5 q526 rfl dX5_isLike_38 ?_
      refine wg (v := .long (oL (gI σ 391 o))) X hT hW 6 7 391 vl6_o rfl rfl (by decide) rfl (by decide) in_X8 q455 rfl dX5_isLike_41 ?_
      refine lv_aload_n X.1 X.2.1 dX5_isLike_44 rfl (lv_at hl 1 rfl) ?_
      refine wg (v := .ref (wad w 6 x1)) X hT hW 3 2 194 vl3_x1 rfl rfl (by decide) rfl (by decide) in_X5 q526 rfl dX5_isLike_45 ?_
      refine wg (v := .long (oL (gI σ 391 x1))) X hT hW 6 7 391 vl6_x1 rfl rfl (by decide) rfl (by decide) in_X8 q455 rfl dX5_isLike_48 ?_
      refine w_lcmp_ne (tgt := 94) X (hW.r.j 391 o rfl) (hW.r.j 391 x1 rfl) dX5_isLike_51 dX5_isLike_52 (by decide) (fun hc => ?_) (fun hc => ?_)
      · have h := h.1 hc
        exact wk_Store_isLike_b94 X hr hlk hT hV ho hx1 (wp_Store_isLike_b95 (wc w) (wtv w) o x1 Q K29) (wk_Store_isLike_b95 X hr hlk hT hV ho hx1 K29 hK29) σ _ _ _ (lv_sub hl [0, 1] rfl) hW hS h
      · have h := h.2 hc
        refine lv_aload_n X.1 X.2.1 dX5_isLike_55 rfl (lv_at hl 0 rfl) ?_
        refine wg (v := .ref (wad w 6 o)) X hT hW 3 2 194 vl3_o rfl rfl (by decide) rfl (by decide) in_X5 q526 rfl dX5_isLike_56 ?_
        refine wg (v := .long (oL (gI σ 392 o))) X hT hW 6 8 392 vl6_o rfl rfl (by decide) rfl (by decide) in_X8 q458 rfl dX5_isLike_59 ?_
        refine lv_aload_n X.1 X.2.1 dX5_isLike_62 rfl (lv_at hl 1 rfl) ?_
        refine wg (v := .ref (wad w 6 x1)) X hT hW 3 2 194 vl3_x1 rfl rfl (by decide) rfl (by decide) in_X5 q526 rfl dX5_isLike_63 ?_
        refine wg (v := .long (oL (gI σ 392 x1))) X hT hW 6 8 392 vl6_x1 rfl rfl (by decide) rfl (by decide) in_X8 q458 rfl dX5_isLike_66 ?_
        refine w_lcmp_ne (tgt := 94) X (hW.r.j 392 o rfl) (hW.r.j 392 x1 rfl) dX5_isLike_69 dX5_isLike_70 (by decide) (fun hc => ?_) (fun hc => ?_)
        · have h := h.1 hc
          exact wk_Store_isLike_b94 X hr hlk hT hV ho hx1 (wp_Store_isLike_b95 (wc w) (wtv w) o x1 Q K29) (wk_Store_isLike_b95 X hr hlk hT hV ho hx1 K29 hK29) σ _ _ _ (lv_sub hl [0, 1] rfl) hW hS h
        · have h := h.2 hc
          refine lv_aload_n X.1 X.2.1 dX5_isLike_73 rfl (lv_at hl 0 rfl) ?_
          refine wg (v := .ref (wad w 6 o)) X hT hW 3 2 194 vl3_o rfl rfl (by decide) rfl (by decide) in_X5 q526 rfl dX5_isLike_74 ?_
          refine wg (v := .int (oI (gI σ 395 o))) X hT hW 6 11 395 vl6_o rfl rfl (by decide) rfl (by decide) in_X8 q467 rfl dX5_isLike_77 ?_
          refine lv_aload_n X.1 X.2.1 dX5_isLike_80 rfl (lv_at hl 1 rfl) ?_
          refine wg (v := .ref (wad w 6 x1)) X hT hW 3 2 194 vl3_x1 rfl rfl (by decide) rfl (by decide) in_X5 q526 rfl dX5_isLike_81 ?_
          refine wg (v := .int (oI (gI σ 395 x1))) X hT hW 6 11 395 vl6_x1 rfl rfl (by decide) rfl (by decide) in_X8 q467 rfl dX5_isLike_84 ?_
          refine w_icmp_ne (tgt := 94) X (hW.r.i 395 o rfl) (hW.r.i 395 x1 rfl) dX5_isLike_87 (by decide) (fun hc => ?_) (fun hc => ?_)
          · have h := h.1 hc
            exact wk_Store_isLike_b94 X hr hlk hT hV ho hx1 (wp_Store_isLike_b95 (wc w) (wtv w) o x1 Q K29) (wk_Store_isLike_b95 X hr hlk hT hV ho hx1 K29 hK29) σ _ _ _ (lv_sub hl [0, 1] rfl) hW hS h
          · have h := h.2 hc
            refine lv_iconst (v := oI 1) X.1 X.2.1 dX5_isLike_90 rfl ?_
            refine lv_goto (tgt := 95) X.1 X.2.1 dX5_isLike_91 (by decide) ?_
            exact wk_Store_isLike_b95 X hr hlk hT hV ho hx1 K29 hK29 1 σ _ _ _ rZ_1 (lv_sub hl [0, 1] rfl) hW hS h
theorem wk_Store_isLike_L29 {p : Program} {l : Launch} {e : Env} {st : State} {m : MethodId} {args : Array Value} {below : List Frame} {meth : Method} {c : Code} {w : Wp} {o : Int} {x1 : Int} {Q : Int → St → Prop} (X : CallFix p m c cX5_isLike 5 st args lw_all RX5) (hr : meth.sig.returnType = (some .boolean)) (hlk : meth.locks = false) (hT : Tb w st) (hV : Hvl w) (ho : 0 ≤ o ∧ o < 2) (hx1 : 0 ≤ x1 ∧ x1 < 2) : ∀ (y2 y3 : Int) (σ : St) (H : Heap) (locs : List Loc) (ls : Array Slot), rZ y2 → rZ y3 → lv_has ls 5 [(0, .ref (wad w 3 o)), (1, .ref (wad w 3 x1)), (2, .int (oI y2)), (3, .int (oI y3))] → Wo w σ H → va_S (wA w) st.heap H locs → lQ2 (wp_Store_isLike_L29 (wc w) (wtv w) o x1 Q) y2 y3 σ → W p l e (headSpec (ws_ yX5_isLike cX5_isLike 5 (some .boolean)) rm_Store_isLike).room st m args below meth c H locs 0 0 (MQ below (QcZ w Q) args st 0 0 (wA w)) (F0 m 29 ls []) := by
  intro y2 y3 σ H locs ls ry2 ry3 hl hW hS h
  obtain ⟨fu, h⟩ := h
  induction fu generalizing y2 y3 σ H locs ls with
  | zero => exact h.elim
  | succ fu ih =>
    exact wk_Store_isLike_L29B X hr hlk hT hV ho hx1 (lq2 (wp_Store_isLike_L29 (wc w) (wtv w) o x1 Q) fu) (fun y2 y3 σ H locs ls ry2 ry3 hl hW hS h => ih y2 y3 σ H locs ls ry2 ry3 hl hW hS h) y2 y3 σ H locs ls ry2 ry3 hl hW hS h
set_option maxHeartbeats 4000000 in
set_option maxRecDepth 100000 in
theorem met_Store_isLike (l : Launch) {w : Wp} (hV : Hvl w) (o : Int) (x1 : Int) (Q : Int → St → Prop) (σ : St) (ho : 0 ≤ o ∧ o < 2) (hx1 : 0 ≤ x1 ∧ x1 < 2) (h : wp_Store_isLike (wc w) (wtv w) o x1 Q σ) : Met l yX5_isLike (ws_ yX5_isLike cX5_isLike 5 (some .boolean)) rm_Store_isLike (PcW w σ [.ref (wad w 3 o), .ref (wad w 3 x1)]) (QcZ w Q) 0 0 (wA w) := by
  refine Met.ofW (cc := cX5_isLike) (maxL := 5) (ret := (some .boolean)) (by decide) rfl ?_
  intro p e st m args below meth c s₁ B hml hv
  obtain ⟨hargs, hW, hT⟩ := hv
  have X : CallFix p m c cX5_isLike 5 st _ lw_all RX5 := ⟨B.exec, B.bytes, hml, findClass_of_methodNamed B.named, fun w h => atoms_spec (ws := ws_ yX5_isLike cX5_isLike 5 (some .boolean)) B.pre w (List.mem_cons_of_mem _ h)⟩
  have hr := B.returns
  have hlk := B.notSynchronized
  have hS : va_S (wA w) st.heap st.heap [] := va_S.rf
  have vl3_o : vl w 3 o := hV.hv 3 rfl ⟨by omega, by show _ < (2 : Int); omega⟩
  have vl3_x1 : vl w 3 x1 := hV.hv 3 rfl ⟨by omega, by show _ < (2 : Int); omega⟩
  have vl6_o : vl w 6 o := hV.hv 6 rfl ⟨by omega, by show _ < (2 : Int); omega⟩
  have vl6_x1 : vl w 6 x1 := hV.hv 6 rfl ⟨by omega, by show _ < (2 : Int); omega⟩
  have hl := lv_entry ([.ref (wad w 3 o), .ref (wad w 3 x1)]) (n := 5) (Nat.le_of_ble_eq_true rfl)
  have hfr := lg_entry_eq m ([.ref (wad w 3 o), .ref (wad w 3 x1)]) 5
  rw [← hargs] at hfr
  rw [hfr]
  generalize (lg_sl ([.ref (wad w 3 o), .ref (wad w 3 x1)]) ++ List.replicate (5 - (lg_sl ([.ref (wad w 3 o), .ref (wad w 3 x1)])).length) Slot.unset).toArray = ls at hl ⊢
  have hl : lv_has ls 5 [(0, .ref (wad w 3 o)), (1, .ref (wad w 3 x1))] := hl
  unfold wp_Store_isLike at h
  refine lv_aload_n X.1 X.2.1 dX5_isLike_0 rfl (lv_at hl 0 rfl) ?_
  refine wg (v := .ref (wad w 6 o)) X hT hW 3 2 194 vl3_o rfl rfl (by decide) rfl (by decide) in_X5 q526 rfl dX5_isLike_1 ?_
  refine lv_lconst (v := oL 0) X.1 X.2.1 dX5_isLike_4 (by decide) ?_
  refine lv_lconst (v := oL 0) X.1 X.2.1 dX5_isLike_5 (by decide) ?_
  refine wr_Z (rV (As := [.long (oL 0), .long (oL 0)]) (rest := []) X hT hW hS (met_Index_seek l (w := w) hV o 0 0 _ σ (by omega) (rJ_lit 0 (by decide)) (rJ_lit 0 (by decide)) h) (cwV 2 X.2.2.2.2 (lw_V q1359 q906 q907 q139 q908) rfl rfl rfl (by decide +kernel) ⟨Nat.le_of_ble_eq_true rfl, Nat.le_of_ble_eq_true rfl⟩) vl6_o (by decide) rfl rfl hl.1 rfl (by first | exact Nat.le_of_ble_eq_true rfl | simp [catK, catI, catR, catL]) dX5_isLike_6 ⟨Nat.le_refl _, Nat.le_refl _⟩) hS (fun r_44 σ_45 H locs rr_44 rkσ_45 h hWσ_45 hS => ?_)
  have h := h rr_44 rkσ_45
  refine lv_istore_n (i := 2) (lv' := [(2, .int (oI r_44)), (0, .ref (wad w 3 o)), (1, .ref (wad w 3 x1))]) X.1 X.2.1 dX5_isLike_9 rfl hl (by decide) (by first | rfl | simp [catK, catI, catR, catL]) (fun ls hl => ?_)
  refine lv_iload_n X.1 X.2.1 dX5_isLike_10 rfl (lv_at hl 0 rfl) ?_
  refine lv_aload_n X.1 X.2.1 dX5_isLike_11 rfl (lv_at hl 2 rfl) ?_
  refine wg (v := .ref (wad w 6 x1)) X hT hWσ_45 3 2 194 vl3_x1 rfl rfl (by decide) rfl (by decide) in_X5 q526 rfl dX5_isLike_12 ?_
  refine lv_lconst (v := oL 0) X.1 X.2.1 dX5_isLike_15 (by decide) ?_
  refine lv_lconst (v := oL 0) X.1 X.2.1 dX5_isLike_16 (by decide) ?_
  refine wr_Z (rV (As := [.long (oL 0), .long (oL 0)]) (rest := [.int (oI r_44)]) X hT hWσ_45 hS (met_Index_seek l (w := w) hV x1 0 0 _ σ_45 (by omega) (rJ_lit 0 (by decide)) (rJ_lit 0 (by decide)) h) (cwV 2 X.2.2.2.2 (lw_V q1359 q906 q907 q139 q908) rfl rfl rfl (by decide +kernel) ⟨Nat.le_of_ble_eq_true rfl, Nat.le_of_ble_eq_true rfl⟩) vl6_x1 (by decide) rfl rfl hl.1 rfl (by first | exact Nat.le_of_ble_eq_true rfl | simp [catK, catI, catR, catL]) dX5_isLike_17 ⟨Nat.le_refl _, Nat.le_refl _⟩) hS (fun r_46 σ_47 H locs rr_46 rkσ_47 h hWσ_47 hS => ?_)
  have h := h rr_46 rkσ_47
  refine w_cut (pc2 := 28) (st2 := [.int (oI (if r_44 = r_46 then (1 : Int) else (0 : Int)))]) (fun hj => ?_) ?_
  · refine w_icmp_ne (tgt := 27) X rr_44.i rr_46.i dX5_isLike_20 (by decide) (fun hc => ?_) (fun hc => ?_)
    · refine lv_iconst (v := oI 0) X.1 X.2.1 dX5_isLike_27 rfl ?_
      rw [if_neg hc] at hj; exact hj
    · refine lv_iconst (v := oI 1) X.1 X.2.1 dX5_isLike_23 rfl ?_
      refine lv_goto (tgt := 28) X.1 X.2.1 dX5_isLike_24 (by decide) ?_
      rw [if_pos hc] at hj; exact hj
  refine w_top (fun y3_48 ey3_48 => ?_)
  have h := h y3_48 ey3_48
  have ry3_48 : rZ y3_48 := by rw [ey3_48]; exact (ite_rZ rZ_1 rZ_0)
  refine lv_istore_n (i := 3) (lv' := [(3, .int (oI y3_48)), (2, .int (oI r_44)), (0, .ref (wad w 3 o)), (1, .ref (wad w 3 x1))]) X.1 X.2.1 dX5_isLike_28 rfl hl (by decide) (by first | rfl | simp [catK, catI, catR, catL]) (fun ls hl => ?_)
  exact wk_Store_isLike_L29 X hr hlk hT hV ho hx1 r_44 y3_48 σ_47 _ _ _ rr_44 ry3_48 (lv_sub hl [2, 3, 1, 0] rfl) hWσ_47 hS h
