/-! House.count()V -/
set_option maxHeartbeats 4000000 in
set_option maxRecDepth 100000 in
theorem wk_House_count_L23B {p : Program} {l : Launch} {e : Env} {st : State} {m : MethodId} {args : Array Value} {below : List Frame} {meth : Method} {c : Code} {w : Wp} {Q : St → Prop} (X : CallFix p m c cX1_count 2 st args lw_all RX1) (hr : meth.sig.returnType = none) (hlk : meth.locks = false) (hT : Tb w st) (hV : Hvl w) (K23 : Int → St → Prop) (hK23 : ∀ (y1 : Int) (σ : St) (H : Heap) (locs : List Loc) (ls : Array Slot), rZ y1 → lv_has ls 2 [(0, .ref (wad w 1 0)), (1, .int (oI y1))] → Wo w σ H → va_S (wA w) st.heap H locs → K23 y1 σ → W p l e (headSpec (ws_ yX1_count cX1_count 2 none) rm_House_count).room st m args below meth c H locs 0 0 (MQ below (QcV w Q) args st 0 0 (wA w)) (F0 m 23 ls [])) : ∀ (y1 : Int) (σ : St) (H : Heap) (locs : List Loc) (ls : Array Slot), rZ y1 → lv_has ls 2 [(0, .ref (wad w 1 0)), (1, .int (oI y1))] → Wo w σ H → va_S (wA w) st.heap H locs → wp_House_count_L23 (wc w) (wtv w) Q K23 y1 σ → W p l e (headSpec (ws_ yX1_count cX1_count 2 none) rm_House_count).room st m args below meth c H locs 0 0 (MQ below (QcV w Q) args st 0 0 (wA w)) (F0 m 23 ls []) := by
  have vl1_0 : vl w 1 0 := hV.hv 1 rfl ⟨by omega, by show _ < (1 : Int); omega⟩
  have vl3_0 : vl w 3 0 := hV.hv 3 rfl ⟨by omega, by show _ < (2 : Int); omega⟩
  have vl6_0 : vl w 6 0 := hV.hv 6 rfl ⟨by omega, by show _ < (2 : Int); omega⟩
  intro y1 σ H locs ls ry1 hl hW hS h
  unfold wp_House_count_L23 at h
  refine lv_iload_n X.1 X.2.1 dX1_count_23 rfl (lv_at hl 1 rfl) ?_
  refine w_if_eq (tgt := 97) X ry1.i dX1_count_24 (by decide) (fun hc => ?_) (fun hc => ?_)
  · have h := h.1 hc
    exact wret_V X hr hlk hW hS h dX1_count_97
  · have h := h.2 hc
    refine lv_aload_n X.1 X.2.1 dX1_count_27 rfl (lv_at hl 0 rfl) ?_
    refine lv_dup X.1 X.2.1 dX1_count_28 rfl ?_
    refine wg (v := .int (oI (gI σ 71 0))) X hT hW 1 7 71 vl1_0 rfl rfl (by decide) rfl (by decide) in_X1 q1077 rfl dX1_count_29 ?_
    refine lv_aload_n X.1 X.2.1 dX1_count_32 rfl (lv_at hl 0 rfl) ?_
    refine wg (v := .ref (wad w 3 0)) X hT hW 1 1 65 vl1_0 rfl rfl (by decide) rfl (by decide) in_X1 q1071 rfl dX1_count_33 ?_
    refine wg (v := .ref (wad w 6 0)) X hT hW 3 2 194 vl3_0 rfl rfl (by decide) rfl (by decide) in_X5 q527 rfl dX1_count_36 ?_
    refine wg (v := .int (oI (gI σ 395 0))) X hT hW 6 11 395 vl6_0 rfl rfl (by decide) rfl (by decide) in_X8 q466 rfl dX1_count_39 ?_
    refine lv_sipush (v := oI 192) X.1 X.2.1 dX1_count_42 (by decide) ?_
    refine w_iadd X dX1_count_45 ?_
    refine w_iadd X dX1_count_46 ?_
    refine wput (z := w32 ((gI σ 71 0) + (w32 ((gI σ 395 0) + 192)))) X hT hW hS 1 7 71 vl1_0 rfl rfl (by decide) rfl (by decide) in_X1 tyX1 tyX1_ok nmX1 q1077 rfl rfl (w32_r _) (fv0 w rfl) rfl rfl dX1_count_47 (fun H locs hN hS => ?_)
    obtain ⟨σ_9, eσ_9⟩ : ∃ x, x = sI σ 71 0 (w32 ((gI σ 71 0) + (w32 ((gI σ 395 0) + 192)))) := ⟨_, rfl⟩
    have hWσ_9 : Wo w σ_9 H := eσ_9 ▸ hN
    have h := h σ_9 eσ_9
    clear hN
    refine lv_aload_n X.1 X.2.1 dX1_count_50 rfl (lv_at hl 0 rfl) ?_
    refine lv_dup X.1 X.2.1 dX1_count_51 rfl ?_
    refine wg (v := .int (oI (gI σ_9 72 0))) X hT hWσ_9 1 8 72 vl1_0 rfl rfl (by decide) rfl (by decide) in_X1 q1078 rfl dX1_count_52 ?_
    refine lv_aload_n X.1 X.2.1 dX1_count_55 rfl (lv_at hl 0 rfl) ?_
    refine wg (v := .ref (wad w 3 0)) X hT hWσ_9 1 1 65 vl1_0 rfl rfl (by decide) rfl (by decide) in_X1 q1071 rfl dX1_count_56 ?_
    refine wg (v := .ref (wad w 6 0)) X hT hWσ_9 3 2 194 vl3_0 rfl rfl (by decide) rfl (by decide) in_X5 q527 rfl dX1_count_59 ?_
    refine wg (v := .long (oL (gI σ_9 391 0))) X hT hWσ_9 6 7 391 vl6_0 rfl rfl (by decide) rfl (by decide) in_X8 q454 rfl dX1_count_62 ?_
    refine w_ldc2 X (z := 4) q896 (by decide) dX1_count_65 ?_
    refine w_lrem X (hWσ_9.r.j 391 0 rfl) (rJ_lit 4 (by decide)) (by decide) dX1_count_68 ?_
    refine lv_lconst (v := oL 0) X.1 X.2.1 dX1_count_69 (by decide) ?_
    refine w_cut (pc2 := 79) (st2 := [.int (oI (if (jrl (gI σ_9 391 0) 4) = 0 then (1 : Int) else (0 : Int))), .int (oI (gI σ_9 72 0)), .ref (wad w 1 0)]) (fun hj => ?_) ?_
    · refine w_lcmp_ne (tgt := 78) X (jrl_r _ _) (rJ_lit 0 (by decide)) dX1_count_70 dX1_count_71 (by decide) (fun hc => ?_) (fun hc => ?_)
      · refine lv_iconst (v := oI 0) X.1 X.2.1 dX1_count_78 rfl ?_
        rw [if_neg hc] at hj; exact hj
      · refine lv_iconst (v := oI 1) X.1 X.2.1 dX1_count_74 rfl ?_
        refine lv_goto (tgt := 79) X.1 X.2.1 dX1_count_75 (by decide) ?_
        rw [if_pos hc] at hj; exact hj
    refine w_iadd X dX1_count_79 ?_
    refine wput (z := w32 ((gI σ_9 72 0) + (if (jrl (gI σ_9 391 0) 4) = 0 then (1 : Int) else (0 : Int)))) X hT hWσ_9 hS 1 8 72 vl1_0 rfl rfl (by decide) rfl (by decide) in_X1 tyX1 tyX1_ok nmX1 q1078 rfl rfl (w32_r _) (fv0 w rfl) rfl rfl dX1_count_80 (fun H locs hN hS => ?_)
    obtain ⟨σ_10, eσ_10⟩ : ∃ x, x = sI σ_9 72 0 (w32 ((gI σ_9 72 0) + (if (jrl (gI σ_9 391 0) 4) = 0 then (1 : Int) else (0 : Int)))) := ⟨_, rfl⟩
    have hWσ_10 : Wo w σ_10 H := eσ_10 ▸ hN
    have h := h σ_10 eσ_10
    clear hN
    refine lv_aload_n X.1 X.2.1 dX1_count_83 rfl (lv_at hl 0 rfl) ?_
    refine wg (v := .ref (wad w 3 0)) X hT hWσ_10 1 1 65 vl1_0 rfl rfl (by decide) rfl (by decide) in_X1 q1071 rfl dX1_count_84 ?_
    refine wg (v := .ref (wad w 6 0)) X hT hWσ_10 3 2 194 vl3_0 rfl rfl (by decide) rfl (by decide) in_X5 q527 rfl dX1_count_87 ?_
    refine wr_Z (rV (As := []) (rest := []) X hT hWσ_10 hS (met_Index_next l (w := w) hV 0 _ σ_10 (by omega) h) (cwV 0 X.2.2.2.2 (lw_V q1065 q1066 q1067 q139 q1068) rfl rfl rfl (by decide +kernel) ⟨Nat.le_of_ble_eq_true rfl, Nat.le_of_ble_eq_true rfl⟩) vl6_0 (by decide) rfl rfl hl.1 rfl (by first | exact Nat.le_of_ble_eq_true rfl | simp [catK, catI, catR, catL]) dX1_count_90 ⟨Nat.le_refl _, Nat.le_refl _⟩) hS (fun r_11 σ_12 H locs rr_11 rkσ_12 h hWσ_12 hS => ?_)
    have h := h rr_11 rkσ_12
    refine lv_istore_n (i := 1) (lv' := [(1, .int (oI r_11)), (0, .ref (wad w 1 0))]) X.1 X.2.1 dX1_count_93 rfl hl (by decide) (by first | rfl | simp [catK, catI, catR, catL]) (fun ls hl => ?_)
    refine lv_goto (tgt := 23) X.1 X.2.1 dX1_count_94 (by decide) ?_
    exact hK23 r_11 σ_12 _ _ _ rr_11 (lv_sub hl [1, 0] rfl) hWσ_12 hS h
theorem wk_House_count_L23 {p : Program} {l : Launch} {e : Env} {st : State} {m : MethodId} {args : Array Value} {below : List Frame} {meth : Method} {c : Code} {w : Wp} {Q : St → Prop} (X : CallFix p m c cX1_count 2 st args lw_all RX1) (hr : meth.sig.returnType = none) (hlk : meth.locks = false) (hT : Tb w st) (hV : Hvl w) : ∀ (y1 : Int) (σ : St) (H : Heap) (locs : List Loc) (ls : Array Slot), rZ y1 → lv_has ls 2 [(0, .ref (wad w 1 0)), (1, .int (oI y1))] → Wo w σ H → va_S (wA w) st.heap H locs → lQ1 (wp_House_count_L23 (wc w) (wtv w) Q) y1 σ → W p l e (headSpec (ws_ yX1_count cX1_count 2 none) rm_House_count).room st m args below meth c H locs 0 0 (MQ below (QcV w Q) args st 0 0 (wA w)) (F0 m 23 ls []) := by
  intro y1 σ H locs ls ry1 hl hW hS h
  obtain ⟨fu, h⟩ := h
  induction fu generalizing y1 σ H locs ls with
  | zero => exact h.elim
  | succ fu ih =>
    exact wk_House_count_L23B X hr hlk hT hV (lq1 (wp_House_count_L23 (wc w) (wtv w) Q) fu) (fun y1 σ H locs ls ry1 hl hW hS h => ih y1 σ H locs ls ry1 hl hW hS h) y1 σ H locs ls ry1 hl hW hS h
set_option maxHeartbeats 4000000 in
set_option maxRecDepth 100000 in
theorem met_House_count (l : Launch) {w : Wp} (hV : Hvl w) (Q : St → Prop) (σ : St) (h : wp_House_count (wc w) (wtv w) Q σ) : Met l yX1_count (ws_ yX1_count cX1_count 2 none) rm_House_count (PcW w σ [.ref (wad w 1 0)]) (QcV w Q) 0 0 (wA w) := by
  refine Met.ofW (cc := cX1_count) (maxL := 2) (ret := none) (by decide) rfl ?_
  intro p e st m args below meth c s₁ B hml hv
  obtain ⟨hargs, hW, hT⟩ := hv
  have X : CallFix p m c cX1_count 2 st _ lw_all RX1 := ⟨B.exec, B.bytes, hml, findClass_of_methodNamed B.named, fun w h => atoms_spec (ws := ws_ yX1_count cX1_count 2 none) B.pre w (List.mem_cons_of_mem _ h)⟩
  have hr := B.returns
  have hlk := B.notSynchronized
  have hS : va_S (wA w) st.heap st.heap [] := va_S.rf
  have vl1_0 : vl w 1 0 := hV.hv 1 rfl ⟨by omega, by show _ < (1 : Int); omega⟩
  have vl3_0 : vl w 3 0 := hV.hv 3 rfl ⟨by omega, by show _ < (2 : Int); omega⟩
  have vl6_0 : vl w 6 0 := hV.hv 6 rfl ⟨by omega, by show _ < (2 : Int); omega⟩
  have hl := lv_entry ([.ref (wad w 1 0)]) (n := 2) (Nat.le_of_ble_eq_true rfl)
  have hfr := lg_entry_eq m ([.ref (wad w 1 0)]) 2
  rw [← hargs] at hfr
  rw [hfr]
  generalize (lg_sl ([.ref (wad w 1 0)]) ++ List.replicate (2 - (lg_sl ([.ref (wad w 1 0)])).length) Slot.unset).toArray = ls at hl ⊢
  have hl : lv_has ls 2 [(0, .ref (wad w 1 0))] := hl
  unfold wp_House_count at h
  refine lv_aload_n X.1 X.2.1 dX1_count_0 rfl (lv_at hl 0 rfl) ?_
  refine lv_iconst (v := oI 0) X.1 X.2.1 dX1_count_1 rfl ?_
  refine wput (z := 0) X hT hW hS 1 7 71 vl1_0 rfl rfl (by decide) rfl (by decide) in_X1 tyX1 tyX1_ok nmX1 q1077 rfl rfl rZ_0.i (fv0 w rfl) rfl rfl dX1_count_2 (fun H locs hN hS => ?_)
  obtain ⟨σ_13, eσ_13⟩ : ∃ x, x = sI σ 71 0 0 := ⟨_, rfl⟩
  have hWσ_13 : Wo w σ_13 H := eσ_13 ▸ hN
  have h := h σ_13 eσ_13
  clear hN
  refine lv_aload_n X.1 X.2.1 dX1_count_5 rfl (lv_at hl 0 rfl) ?_
  refine lv_iconst (v := oI 0) X.1 X.2.1 dX1_count_6 rfl ?_
  refine wput (z := 0) X hT hWσ_13 hS 1 8 72 vl1_0 rfl rfl (by decide) rfl (by decide) in_X1 tyX1 tyX1_ok nmX1 q1078 rfl rfl rZ_0.i (fv0 w rfl) rfl rfl dX1_count_7 (fun H locs hN hS => ?_)
  obtain ⟨σ_14, eσ_14⟩ : ∃ x, x = sI σ_13 72 0 0 := ⟨_, rfl⟩
  have hWσ_14 : Wo w σ_14 H := eσ_14 ▸ hN
  have h := h σ_14 eσ_14
  clear hN
  refine lv_aload_n X.1 X.2.1 dX1_count_10 rfl (lv_at hl 0 rfl) ?_
  refine wg (v := .ref (wad w 3 0)) X hT hWσ_14 1 1 65 vl1_0 rfl rfl (by decide) rfl (by decide) in_X1 q1071 rfl dX1_count_11 ?_
  refine wg (v := .ref (wad w 6 0)) X hT hWσ_14 3 2 194 vl3_0 rfl rfl (by decide) rfl (by decide) in_X5 q527 rfl dX1_count_14 ?_
  refine lv_lconst (v := oL 0) X.1 X.2.1 dX1_count_17 (by decide) ?_
  refine lv_lconst (v := oL 0) X.1 X.2.1 dX1_count_18 (by decide) ?_
  refine wr_Z (rV (As := [.long (oL 0), .long (oL 0)]) (rest := []) X hT hWσ_14 hS (met_Index_seek l (w := w) hV 0 0 0 _ σ_14 (by omega) (rJ_lit 0 (by decide)) (rJ_lit 0 (by decide)) h) (cwV 2 X.2.2.2.2 (lw_V q1064 q906 q907 q139 q908) rfl rfl rfl (by decide +kernel) ⟨Nat.le_of_ble_eq_true rfl, Nat.le_of_ble_eq_true rfl⟩) vl6_0 (by decide) rfl rfl hl.1 rfl (by first | exact Nat.le_of_ble_eq_true rfl | simp [catK, catI, catR, catL]) dX1_count_19 ⟨Nat.le_refl _, Nat.le_refl _⟩) hS (fun r_15 σ_16 H locs rr_15 rkσ_16 h hWσ_16 hS => ?_)
  have h := h rr_15 rkσ_16
  refine lv_istore_n (i := 1) (lv' := [(1, .int (oI r_15)), (0, .ref (wad w 1 0))]) X.1 X.2.1 dX1_count_22 rfl hl (by decide) (by first | rfl | simp [catK, catI, catR, catL]) (fun ls hl => ?_)
  exact wk_House_count_L23 X hr hlk hT hV r_15 σ_16 _ _ _ rr_15 (lv_sub hl [1, 0] rfl) hWσ_16 hS h
/-! House.isName(J)Z -/
set_option maxHeartbeats 4000000 in
set_option maxRecDepth 100000 in
theorem wk_House_isName_b80 {p : Program} {l : Launch} {e : Env} {st : State} {m : MethodId} {args : Array Value} {below : List Frame} {meth : Method} {c : Code} {w : Wp} {x0 : Int} {Q : Int → St → Prop} (X : CallFix p m c cX1_isName 6 st args lw_all RX1) (hr : meth.sig.returnType = (some .boolean)) (hlk : meth.locks = false) (hT : Tb w st) (rx0 : rJ x0) (K21 : Int → Int → Int → St → Prop) (hK21 : ∀ (y2 y3 y4 : Int) (σ : St) (H : Heap) (locs : List Loc) (ls : Array Slot), rZ y2 → rZ y3 → rI y4 → lv_has ls 6 [(0, .long (oL x0)), (2, .int (oI y2)), (3, .int (oI y3)), (4, .int (oI y4))] → Wo w σ H → va_S (wA w) st.heap H locs → K21 y2 y3 y4 σ → W p l e (headSpec (ws_ yX1_isName cX1_isName 6 (some .boolean)) rm_House_isName).room st m args below meth c H locs 0 0 (MQ below (QcZ w Q) args st 0 0 (wA w)) (F0 m 21 ls [])) : ∀ (y2 y4 t0 : Int) (σ : St) (H : Heap) (locs : List Loc) (ls : Array Slot), rZ y2 → rI y4 → rZ t0 → lv_has ls 6 [(0, .long (oL x0)), (2, .int (oI y2)), (4, .int (oI y4))] → Wo w σ H → va_S (wA w) st.heap H locs → wp_House_isName_b80 (wc w) (wtv w) x0 Q K21 y2 y4 t0 σ → W p l e (headSpec (ws_ yX1_isName cX1_isName 6 (some .boolean)) rm_House_isName).room st m args below meth c H locs 0 0 (MQ below (QcZ w Q) args st 0 0 (wA w)) (F0 m 80 ls [.int (oI t0)]) := by

  intro y2 y4 t0 σ H locs ls ry2 ry4 rt0 hl hW hS h
  unfold wp_House_isName_b80 at h
  refine lv_istore_n (i := 3) (lv' := [(3, .int (oI t0)), (0, .long (oL x0)), (2, .int (oI y2)), (4, .int (oI y4))]) X.1 X.2.1 dX1_isName_80 rfl hl (by decide) (by first | rfl | simp [catK, catI, catR, catL]) (fun ls hl => ?_)
  obtain ⟨y4_13, ey4_13⟩ : ∃ y : Int, y = w32 (y4 + 1) := ⟨_, rfl⟩
  have h := h y4_13 ey4_13
  have ry4_13 : rI y4_13 := by rw [ey4_13]; exact w32_r _
  refine lv_iinc (v := oI y4_13) (lv' := [(4, .int (oI y4_13)), (3, .int (oI t0)), (0, .long (oL x0)), (2, .int (oI y2))]) X.1 X.2.1 dX1_isName_81 hl (k := 3) rfl (by rw [ey4_13]; exact oI_add _ _) (by decide) (by first | rfl | simp [catK, catI, catR, catL]) (fun ls hl => ?_)
  refine lv_goto (tgt := 21) X.1 X.2.1 dX1_isName_84 (by decide) ?_
  exact hK21 y2 t0 y4_13 σ _ _ _ ry2 rt0 ry4_13 (lv_sub hl [2, 3, 1, 0] rfl) hW hS h
set_option maxHeartbeats 4000000 in
set_option maxRecDepth 100000 in
theorem wk_House_isName_b75 {p : Program} {l : Launch} {e : Env} {st : State} {m : MethodId} {args : Array Value} {below : List Frame} {meth : Method} {c : Code} {w : Wp} {x0 : Int} {Q : Int → St → Prop} (X : CallFix p m c cX1_isName 6 st args lw_all RX1) (hr : meth.sig.returnType = (some .boolean)) (hlk : meth.locks = false) (hT : Tb w st) (rx0 : rJ x0) (K80 : Int → Int → Int → St → Prop) (hK80 : ∀ (y2 y4 t0 : Int) (σ : St) (H : Heap) (locs : List Loc) (ls : Array Slot), rZ y2 → rI y4 → rZ t0 → lv_has ls 6 [(0, .long (oL x0)), (2, .int (oI y2)), (4, .int (oI y4))] → Wo w σ H → va_S (wA w) st.heap H locs → K80 y2 y4 t0 σ → W p l e (headSpec (ws_ yX1_isName cX1_isName 6 (some .boolean)) rm_House_isName).room st m args below meth c H locs 0 0 (MQ below (QcZ w Q) args st 0 0 (wA w)) (F0 m 80 ls [.int (oI t0)])) : ∀ (y2 y4 : Int) (σ : St) (H : Heap) (locs : List Loc) (ls : Array Slot), rZ y2 → rI y4 → lv_has ls 6 [(0, .long (oL x0)), (2, .int (oI y2)), (4, .int (oI y4))] → Wo w σ H → va_S (wA w) st.heap H locs → wp_House_isName_b75 (wc w) (wtv w) x0 Q K80 y2 y4 σ → W p l e (headSpec (ws_ yX1_isName cX1_isName 6 (some .boolean)) rm_House_isName).room st m args below meth c H locs 0 0 (MQ below (QcZ w Q) args st 0 0 (wA w)) (F0 m 75 ls []) := by

  intro y2 y4 σ H locs ls ry2 ry4 hl hW hS h
  unfold wp_House_isName_b75 at h
  refine lv_iconst (v := oI 1) X.1 X.2.1 dX1_isName_75 rfl ?_
  refine lv_goto (tgt := 80) X.1 X.2.1 dX1_isName_76 (by decide) ?_
  exact hK80 y2 y4 1 σ _ _ _ ry2 ry4 rZ_1 (lv_sub hl [0, 1, 2] rfl) hW hS h
set_option maxHeartbeats 4000000 in
set_option maxRecDepth 100000 in
theorem wk_House_isName_b79 {p : Program} {l : Launch} {e : Env} {st : State} {m : MethodId} {args : Array Value} {below : List Frame} {meth : Method} {c : Code} {w : Wp} {x0 : Int} {Q : Int → St → Prop} (X : CallFix p m c cX1_isName 6 st args lw_all RX1) (hr : meth.sig.returnType = (some .boolean)) (hlk : meth.locks = false) (hT : Tb w st) (rx0 : rJ x0) (K80 : Int → Int → Int → St → Prop) (hK80 : ∀ (y2 y4 t0 : Int) (σ : St) (H : Heap) (locs : List Loc) (ls : Array Slot), rZ y2 → rI y4 → rZ t0 → lv_has ls 6 [(0, .long (oL x0)), (2, .int (oI y2)), (4, .int (oI y4))] → Wo w σ H → va_S (wA w) st.heap H locs → K80 y2 y4 t0 σ → W p l e (headSpec (ws_ yX1_isName cX1_isName 6 (some .boolean)) rm_House_isName).room st m args below meth c H locs 0 0 (MQ below (QcZ w Q) args st 0 0 (wA w)) (F0 m 80 ls [.int (oI t0)])) : ∀ (y2 y4 : Int) (σ : St) (H : Heap) (locs : List Loc) (ls : Array Slot), rZ y2 → rI y4 → lv_has ls 6 [(0, .long (oL x0)), (2, .int (oI y2)), (4, .int (oI y4))] → Wo w σ H → va_S (wA w) st.heap H locs → wp_House_isName_b79 (wc w) (wtv w) x0 Q K80 y2 y4 σ → W p l e (headSpec (ws_ yX1_isName cX1_isName 6 (some .boolean)) rm_House_isName).room st m args below meth c H locs 0 0 (MQ below (QcZ w Q) args st 0 0 (wA w)) (F0 m 79 ls []) := by

  intro y2 y4 σ H locs ls ry2 ry4 hl hW hS h
  unfold wp_House_isName_b79 at h
  refine lv_iconst (v := oI 0) X.1 X.2.1 dX1_isName_79 rfl ?_
  exact hK80 y2 y4 0 σ _ _ _ ry2 ry4 rZ_0 (lv_sub hl [0, 1, 2] rfl) hW hS h
set_option maxHeartbeats 4000000 in
set_option maxRecDepth 100000 in
theorem wk_House_isName_L21B {p : Program} {l : Launch} {e : Env} {st : State} {m : MethodId} {args : Array Value} {below : List Frame} {meth : Method} {c : Code} {w : Wp} {x0 : Int} {Q : Int → St → Prop} (X : CallFix p m c cX1_isName 6 st args lw_all RX1) (hr : meth.sig.returnType = (some .boolean)) (hlk : meth.locks = false) (hT : Tb w st) (rx0 : rJ x0) (K21 : Int → Int → Int → St → Prop) (hK21 : ∀ (y2 y3 y4 : Int) (σ : St) (H : Heap) (locs : List Loc) (ls : Array Slot), rZ y2 → rZ y3 → rI y4 → lv_has ls 6 [(0, .long (oL x0)), (2, .int (oI y2)), (3, .int (oI y3)), (4, .int (oI y4))] → Wo w σ H → va_S (wA w) st.heap H locs → K21 y2 y3 y4 σ → W p l e (headSpec (ws_ yX1_isName cX1_isName 6 (some .boolean)) rm_House_isName).room st m args below meth c H locs 0 0 (MQ below (QcZ w Q) args st 0 0 (wA w)) (F0 m 21 ls [])) : ∀ (y2 y3 y4 : Int) (σ : St) (H : Heap) (locs : List Loc) (ls : Array Slot), rZ y2 → rZ y3 → rI y4 → lv_has ls 6 [(0, .long (oL x0)), (2, .int (oI y2)), (3, .int (oI y3)), (4, .int (oI y4))] → Wo w σ H → va_S (wA w) st.heap H locs → wp_House_isName_L21 (wc w) (wtv w) x0 Q K21 y2 y3 y4 σ → W p l e (headSpec (ws_ yX1_isName cX1_isName 6 (some .boolean)) rm_House_isName).room st m args below meth c H locs 0 0 (MQ below (QcZ w Q) args st 0 0 (wA w)) (F0 m 21 ls []) := by

  intro y2 y3 y4 σ H locs ls ry2 ry3 ry4 hl hW hS h
  unfold wp_House_isName_L21 at h
  refine lv_iload X.1 X.2.1 dX1_isName_21 (lv_at hl 3 rfl) ?_
  refine lv_bipush (v := oI 8) X.1 X.2.1 dX1_isName_23 (by decide) ?_
  refine w_icmp_ge (tgt := 87) X ry4 ((rB_lit 8 (by decide)).i) dX1_isName_25 (by decide) (fun hc => ?_) (fun hc => ?_)
  · have h := h.1 hc
    refine lv_iload_n X.1 X.2.1 dX1_isName_87 rfl (lv_at hl 2 rfl) ?_
    exact wret_Z X hr hlk hW hS ry3 h dX1_isName_88
  · have h := h.2 hc
    refine lv_iload_n X.1 X.2.1 dX1_isName_28 rfl (lv_at hl 2 rfl) ?_
    refine w_if_eq (tgt := 87) X ry3.i dX1_isName_29 (by decide) (fun hc => ?_) (fun hc => ?_)
    · have h := h.1 hc
      refine lv_iload_n X.1 X.2.1 dX1_isName_87 rfl (lv_at hl 2 rfl) ?_
      exact wret_Z X hr hlk hW hS ry3 h dX1_isName_88
    · have h := h.2 hc
      refine lv_lload_n X.1 X.2.1 dX1_isName_32 rfl (lv_at hl 0 rfl) ?_
      refine lv_bipush (v := oI 8) X.1 X.2.1 dX1_isName_33 (by decide) ?_
      refine lv_iload X.1 X.2.1 dX1_isName_35 (lv_at hl 3 rfl) ?_
      refine w_imul X dX1_isName_37 ?_
      refine w_lushr X dX1_isName_38 ?_
      refine w_l2i X dX1_isName_39 ?_
      refine lv_sipush (v := oI 255) X.1 X.2.1 dX1_isName_40 (by decide) ?_
      refine w_iand X dX1_isName_43 ?_
      refine w_top (fun y5_14 ey5_14 => ?_)
      have h := h y5_14 ey5_14
      have ry5_14 : rI y5_14 := by rw [ey5_14]; exact (iand_r _ _)
      refine lv_istore (i := 5) (lv' := [(5, .int (oI y5_14)), (0, .long (oL x0)), (2, .int (oI y2)), (3, .int (oI y3)), (4, .int (oI y4))]) X.1 X.2.1 dX1_isName_44 hl (by decide) (by first | rfl | simp [catK, catI, catR, catL]) (fun ls hl => ?_)
      refine lv_iload_n X.1 X.2.1 dX1_isName_46 rfl (lv_at hl 2 rfl) ?_
      refine lv_iload X.1 X.2.1 dX1_isName_47 (lv_at hl 0 rfl) ?_
      refine w_cut (pc2 := 57) (st2 := [.int (oI (if y5_14 = 0 then (1 : Int) else (0 : Int))), .int (oI y2)]) (fun hj => ?_) ?_
      · refine w_if_ne (tgt := 56) X ry5_14 dX1_isName_49 (by decide) (fun hc => ?_) (fun hc => ?_)
        · refine lv_iconst (v := oI 0) X.1 X.2.1 dX1_isName_56 rfl ?_
          rw [if_neg hc] at hj; exact hj
        · refine lv_iconst (v := oI 1) X.1 X.2.1 dX1_isName_52 rfl ?_
          refine lv_goto (tgt := 57) X.1 X.2.1 dX1_isName_53 (by decide) ?_
          rw [if_pos hc] at hj; exact hj
      refine w_ior X dX1_isName_57 ?_
      refine w_top (fun y2_15 ey2_15 => ?_)
      have h := h y2_15 ey2_15
      have ry2_15 : rZ y2_15 := by rw [ey2_15]; exact (ior_Z ry2 (ite_rZ rZ_1 rZ_0))
      refine lv_istore_n (i := 2) (lv' := [(2, .int (oI y2_15)), (5, .int (oI y5_14)), (0, .long (oL x0)), (3, .int (oI y3)), (4, .int (oI y4))]) X.1 X.2.1 dX1_isName_58 rfl hl (by decide) (by first | rfl | simp [catK, catI, catR, catL]) (fun ls hl => ?_)
      refine lv_iload X.1 X.2.1 dX1_isName_59 (lv_at hl 1 rfl) ?_
      refine lv_bipush (v := oI 47) X.1 X.2.1 dX1_isName_61 (by decide) ?_
      refine w_icmp_eq (tgt := 79) X ry5_14 ((rB_lit 47 (by decide)).i) dX1_isName_63 (by decide) (fun hc => ?_) (fun hc => ?_)
      · have h := h.1 hc
        exact wk_House_isName_b79 X hr hlk hT rx0 (wp_House_isName_b80 (wc w) (wtv w) x0 Q K21) (wk_House_isName_b80 X hr hlk hT rx0 K21 hK21) y2_15 y4 σ _ _ _ ry2_15 ry4 (lv_sub hl [2, 0, 4] rfl) hW hS h
      · have h := h.2 hc
        refine lv_iload X.1 X.2.1 dX1_isName_66 (lv_at hl 1 rfl) ?_
        refine w_if_eq (tgt := 75) X ry5_14 dX1_isName_68 (by decide) (fun hc => ?_) (fun hc => ?_)
        · have h := h.1 hc
          exact wk_House_isName_b75 X hr hlk hT rx0 (wp_House_isName_b80 (wc w) (wtv w) x0 Q K21) (wk_House_isName_b80 X hr hlk hT rx0 K21 hK21) y2_15 y4 σ _ _ _ ry2_15 ry4 (lv_sub hl [2, 0, 4] rfl) hW hS h
        · have h := h.2 hc
          refine lv_iload_n X.1 X.2.1 dX1_isName_71 rfl (lv_at hl 0 rfl) ?_
          refine w_if_ne (tgt := 79) X ry2_15.i dX1_isName_72 (by decide) (fun hc => ?_) (fun hc => ?_)
          · have h := h.1 hc
            exact wk_House_isName_b79 X hr hlk hT rx0 (wp_House_isName_b80 (wc w) (wtv w) x0 Q K21) (wk_House_isName_b80 X hr hlk hT rx0 K21 hK21) y2_15 y4 σ _ _ _ ry2_15 ry4 (lv_sub hl [2, 0, 4] rfl) hW hS h
          · have h := h.2 hc
            exact wk_House_isName_b75 X hr hlk hT rx0 (wp_House_isName_b80 (wc w) (wtv w) x0 Q K21) (wk_House_isName_b80 X hr hlk hT rx0 K21 hK21) y2_15 y4 σ _ _ _ ry2_15 ry4 (lv_sub hl [2, 0, 4] rfl) hW hS h
theorem wk_House_isName_L21 {p : Program} {l : Launch} {e : Env} {st : State} {m : MethodId} {args : Array Value} {below : List Frame} {meth : Method} {c : Code} {w : Wp} {x0 : Int} {Q : Int → St → Prop} (X : CallFix p m c cX1_isName 6 st args lw_all RX1) (hr : meth.sig.returnType = (some .boolean)) (hlk : meth.locks = false) (hT : Tb w st) (rx0 : rJ x0) : ∀ (y2 y3 y4 : Int) (σ : St) (H : Heap) (locs : List Loc) (ls : Array Slot), rZ y2 → rZ y3 → rI y4 → lv_has ls 6 [(0, .long (oL x0)), (2, .int (oI y2)), (3, .int (oI y3)), (4, .int (oI y4))] → Wo w σ H → va_S (wA w) st.heap H locs → lQ3 (wp_House_isName_L21 (wc w) (wtv w) x0 Q) y2 y3 y4 σ → W p l e (headSpec (ws_ yX1_isName cX1_isName 6 (some .boolean)) rm_House_isName).room st m args below meth c H locs 0 0 (MQ below (QcZ w Q) args st 0 0 (wA w)) (F0 m 21 ls []) := by
  intro y2 y3 y4 σ H locs ls ry2 ry3 ry4 hl hW hS h
  obtain ⟨fu, h⟩ := h
  induction fu generalizing y2 y3 y4 σ H locs ls with
  | zero => exact h.elim
  | succ fu ih =>
    exact wk_House_isName_L21B X hr hlk hT rx0 (lq3 (wp_House_isName_L21 (wc w) (wtv w) x0 Q) fu) (fun y2 y3 y4 σ H locs ls ry2 ry3 ry4 hl hW hS h => ih y2 y3 y4 σ H locs ls ry2 ry3 ry4 hl hW hS h) y2 y3 y4 σ H locs ls ry2 ry3 ry4 hl hW hS h
set_option maxHeartbeats 4000000 in
set_option maxRecDepth 100000 in
theorem met_House_isName (l : Launch) {w : Wp} (x0 : Int) (Q : Int → St → Prop) (σ : St) (rx0 : rJ x0) (h : wp_House_isName (wc w) (wtv w) x0 Q σ) : Met l yX1_isName (ws_ yX1_isName cX1_isName 6 (some .boolean)) rm_House_isName (PcW w σ [.long (oL x0)]) (QcZ w Q) 0 0 (wA w) := by
  refine Met.ofW (cc := cX1_isName) (maxL := 6) (ret := (some .boolean)) (by decide) rfl ?_
  intro p e st m args below meth c s₁ B hml hv
  obtain ⟨hargs, hW, hT⟩ := hv
  have X : CallFix p m c cX1_isName 6 st _ lw_all RX1 := ⟨B.exec, B.bytes, hml, findClass_of_methodNamed B.named, fun w h => atoms_spec (ws := ws_ yX1_isName cX1_isName 6 (some .boolean)) B.pre w (List.mem_cons_of_mem _ h)⟩
  have hr := B.returns
  have hlk := B.notSynchronized
  have hS : va_S (wA w) st.heap st.heap [] := va_S.rf
  have hl := lv_entry ([.long (oL x0)]) (n := 6) (Nat.le_of_ble_eq_true rfl)
  have hfr := lg_entry_eq m ([.long (oL x0)]) 6
  rw [← hargs] at hfr
  rw [hfr]
  generalize (lg_sl ([.long (oL x0)]) ++ List.replicate (6 - (lg_sl ([.long (oL x0)])).length) Slot.unset).toArray = ls at hl ⊢
  have hl : lv_has ls 6 [(0, .long (oL x0))] := hl
  unfold wp_House_isName at h
  refine lv_iconst (v := oI 0) X.1 X.2.1 dX1_isName_0 rfl ?_
  refine lv_istore_n (i := 2) (lv' := [(2, .int (oI 0)), (0, .long (oL x0))]) X.1 X.2.1 dX1_isName_1 rfl hl (by decide) (by first | rfl | simp [catK, catI, catR, catL]) (fun ls hl => ?_)
  refine lv_lload_n X.1 X.2.1 dX1_isName_2 rfl (lv_at hl 1 rfl) ?_
  refine w_ldc2 X (z := 255) q1172 (by decide) dX1_isName_3 ?_
  refine w_land X dX1_isName_6 ?_
  refine lv_lconst (v := oL 0) X.1 X.2.1 dX1_isName_7 (by decide) ?_
  refine w_cut (pc2 := 17) (st2 := [.int (oI (if (land x0 255) = 0 then (0 : Int) else (1 : Int)))]) (fun hj => ?_) ?_
  · refine w_lcmp_eq (tgt := 16) X (land_r _ _) (rJ_lit 0 (by decide)) dX1_isName_8 dX1_isName_9 (by decide) (fun hc => ?_) (fun hc => ?_)
    · refine lv_iconst (v := oI 0) X.1 X.2.1 dX1_isName_16 rfl ?_
      rw [if_pos hc] at hj; exact hj
    · refine lv_iconst (v := oI 1) X.1 X.2.1 dX1_isName_12 rfl ?_
      refine lv_goto (tgt := 17) X.1 X.2.1 dX1_isName_13 (by decide) ?_
      rw [if_neg hc] at hj; exact hj
  refine w_top (fun y3_16 ey3_16 => ?_)
  have h := h y3_16 ey3_16
  have ry3_16 : rZ y3_16 := by rw [ey3_16]; exact (ite_rZ rZ_0 rZ_1)
  refine lv_istore_n (i := 3) (lv' := [(3, .int (oI y3_16)), (2, .int (oI 0)), (0, .long (oL x0))]) X.1 X.2.1 dX1_isName_17 rfl hl (by decide) (by first | rfl | simp [catK, catI, catR, catL]) (fun ls hl => ?_)
  refine lv_iconst (v := oI 0) X.1 X.2.1 dX1_isName_18 rfl ?_
  refine lv_istore (i := 4) (lv' := [(4, .int (oI 0)), (3, .int (oI y3_16)), (2, .int (oI 0)), (0, .long (oL x0))]) X.1 X.2.1 dX1_isName_19 hl (by decide) (by first | rfl | simp [catK, catI, catR, catL]) (fun ls hl => ?_)
  exact wk_House_isName_L21 X hr hlk hT rx0 0 y3_16 0 σ _ _ _ rZ_0 ry3_16 rZ_0.i (lv_sub hl [3, 2, 1, 0] rfl) hW hS h
/-! House.read(ILNandHouse$Inode;)Z -/
set_option maxHeartbeats 4000000 in
set_option maxRecDepth 100000 in
theorem met_House_read (l : Launch) {w : Wp} (hV : Hvl w) (x1 : Int) (x2 : Int) (Q : Int → St → Prop) (σ : St) (rx1 : rI x1) (hx2 : 0 ≤ x2 ∧ x2 < 4) (h : wp_House_read (wc w) (wtv w) x1 x2 Q σ) : Met l yX1_read (ws_ yX1_read cX1_read 4 (some .boolean)) rm_House_read (PcW w σ [.ref (wad w 1 0), .int (oI x1), .ref (wad w 10 x2)]) (QcZ w Q) 0 0 (wA w) := by
  refine Met.ofW (cc := cX1_read) (maxL := 4) (ret := (some .boolean)) (by decide) rfl ?_
  intro p e st m args below meth c s₁ B hml hv
  obtain ⟨hargs, hW, hT⟩ := hv
  have X : CallFix p m c cX1_read 4 st _ lw_all RX1 := ⟨B.exec, B.bytes, hml, findClass_of_methodNamed B.named, fun w h => atoms_spec (ws := ws_ yX1_read cX1_read 4 (some .boolean)) B.pre w (List.mem_cons_of_mem _ h)⟩
  have hr := B.returns
  have hlk := B.notSynchronized
  have hS : va_S (wA w) st.heap st.heap [] := va_S.rf
  have vl1_0 : vl w 1 0 := hV.hv 1 rfl ⟨by omega, by show _ < (1 : Int); omega⟩
  have vl10_x2 : vl w 10 x2 := hV.hv 10 rfl ⟨by omega, by show _ < (4 : Int); omega⟩
  have vl3_0 : vl w 3 0 := hV.hv 3 rfl ⟨by omega, by show _ < (2 : Int); omega⟩
  have vl6_0 : vl w 6 0 := hV.hv 6 rfl ⟨by omega, by show _ < (2 : Int); omega⟩
  have vl8_0 : vl w 8 0 := hV.hv 8 rfl ⟨by omega, by show _ < (8 : Int); omega⟩
  have hl := lv_entry ([.ref (wad w 1 0), .int (oI x1), .ref (wad w 10 x2)]) (n := 4) (Nat.le_of_ble_eq_true rfl)
  have hfr := lg_entry_eq m ([.ref (wad w 1 0), .int (oI x1), .ref (wad w 10 x2)]) 4
  rw [← hargs] at hfr
  rw [hfr]
  generalize (lg_sl ([.ref (wad w 1 0), .int (oI x1), .ref (wad w 10 x2)]) ++ List.replicate (4 - (lg_sl ([.ref (wad w 1 0), .int (oI x1), .ref (wad w 10 x2)])).length) Slot.unset).toArray = ls at hl ⊢
  have hl : lv_has ls 4 [(0, .ref (wad w 1 0)), (1, .int (oI x1)), (2, .ref (wad w 10 x2))] := hl
  unfold wp_House_read at h
  refine lv_aload_n X.1 X.2.1 dX1_read_0 rfl (lv_at hl 0 rfl) ?_
  refine wg (v := .ref (wad w 3 0)) X hT hW 1 1 65 vl1_0 rfl rfl (by decide) rfl (by decide) in_X1 q1071 rfl dX1_read_1 ?_
  refine wg (v := .ref (wad w 6 0)) X hT hW 3 2 194 vl3_0 rfl rfl (by decide) rfl (by decide) in_X5 q527 rfl dX1_read_4 ?_
  refine lv_astore_n (i := 3) (lv' := [(3, .ref (wad w 6 0)), (0, .ref (wad w 1 0)), (1, .int (oI x1)), (2, .ref (wad w 10 x2))]) X.1 X.2.1 dX1_read_7 rfl hl (by decide) (by first | rfl | simp [catK, catI, catR, catL]) (fun ls hl => ?_)
  refine lv_iload_n X.1 X.2.1 dX1_read_8 rfl (lv_at hl 2 rfl) ?_
  refine lv_iconst (v := oI 1) X.1 X.2.1 dX1_read_9 rfl ?_
  refine w_icmp_lt (tgt := 26) X rx1 rZ_1.i dX1_read_10 (by decide) (fun hc => ?_) (fun hc => ?_)
  · have h := h.1 hc
    refine lv_iconst (v := oI 0) X.1 X.2.1 dX1_read_26 rfl ?_
    exact wret_Z X hr hlk hW hS rZ_0 h dX1_read_27
  · have h := h.2 hc
    refine lv_aload_n X.1 X.2.1 dX1_read_13 rfl (lv_at hl 0 rfl) ?_
    refine lv_iload_n X.1 X.2.1 dX1_read_14 rfl (lv_at hl 2 rfl) ?_
    refine lv_iconst (v := oI 0) X.1 X.2.1 dX1_read_15 rfl ?_
    refine wr_J (rS (As := [.int (oI x1), .int (oI 0)]) (rest := [.ref (wad w 6 0)]) X hT hW hS (met_House_keyOf l (w := w) x1 0 _ σ rx1 rZ_0.i h) (va_cwS 2 X.2.2.2.2 (lw_S q1181 q894 q131 q895) rfl rfl rfl (by decide +kernel) ⟨Nat.le_of_ble_eq_true rfl, Nat.le_of_ble_eq_true rfl⟩) rfl hl.1 rfl (by first | exact Nat.le_of_ble_eq_true rfl | simp [catK, catI, catR, catL]) dX1_read_16 ⟨Nat.le_refl _, Nat.le_refl _⟩) hS (fun r_23 σ_24 H locs rr_23 rkσ_24 h hWσ_24 hS => ?_)
    have h := h rr_23 rkσ_24
    refine lv_lconst (v := oL 0) X.1 X.2.1 dX1_read_19 (by decide) ?_
    refine wr_Z (rV (As := [.long (oL r_23), .long (oL 0)]) (rest := []) X hT hWσ_24 hS (met_Index_find l (w := w) hV 0 r_23 0 _ σ_24 (by omega) rr_23 (rJ_lit 0 (by decide)) h) (cwV 2 X.2.2.2.2 (lw_V q1182 q902 q903 q139 q904) rfl rfl rfl (by decide +kernel) ⟨Nat.le_of_ble_eq_true rfl, Nat.le_of_ble_eq_true rfl⟩) vl6_0 (by decide) rfl rfl hl.1 rfl (by first | exact Nat.le_of_ble_eq_true rfl | simp [catK, catI, catR, catL]) dX1_read_20 ⟨Nat.le_refl _, Nat.le_refl _⟩) hS (fun r_25 σ_26 H locs rr_25 rkσ_26 h hWσ_26 hS => ?_)
    have h := h rr_25 rkσ_26
    refine w_if_ne (tgt := 28) X rr_25.i dX1_read_23 (by decide) (fun hc => ?_) (fun hc => ?_)
    · have h := h.1 hc
      refine lv_aload_n X.1 X.2.1 dX1_read_28 rfl (lv_at hl 1 rfl) ?_
      refine wg (v := .ref (wad w 3 0)) X hT hWσ_26 1 1 65 vl1_0 rfl rfl (by decide) rfl (by decide) in_X1 q1071 rfl dX1_read_29 ?_
      refine lv_aload_n X.1 X.2.1 dX1_read_32 rfl (lv_at hl 0 rfl) ?_
      refine wg (v := .int (oI (gI σ_26 393 0))) X hT hWσ_26 6 9 393 vl6_0 rfl rfl (by decide) rfl (by decide) in_X8 q460 rfl dX1_read_33 ?_
      refine lv_aload_n X.1 X.2.1 dX1_read_36 rfl (lv_at hl 0 rfl) ?_
      refine wg (v := .int (oI (gI σ_26 394 0))) X hT hWσ_26 6 10 394 vl6_0 rfl rfl (by decide) rfl (by decide) in_X8 q463 rfl dX1_read_37 ?_
      refine lv_aload_n X.1 X.2.1 dX1_read_40 rfl (lv_at hl 0 rfl) ?_
      refine wg (v := .int (oI (gI σ_26 395 0))) X hT hWσ_26 6 11 395 vl6_0 rfl rfl (by decide) rfl (by decide) in_X8 q466 rfl dX1_read_41 ?_
      refine lv_aload_n X.1 X.2.1 dX1_read_44 rfl (lv_at hl 1 rfl) ?_
      refine wg (v := .ref (wad w 3 0)) X hT hWσ_26 1 1 65 vl1_0 rfl rfl (by decide) rfl (by decide) in_X1 q1071 rfl dX1_read_45 ?_
      refine wg (v := .ref (wad w 8 0)) X hT hWσ_26 3 6 198 vl3_0 rfl rfl (by decide) rfl (by decide) in_X5 q532 rfl dX1_read_48 ?_
      refine wr_V (rV (As := [.int (oI (gI σ_26 393 0)), .int (oI (gI σ_26 394 0)), .int (oI (gI σ_26 395 0)), .ref (wad w 8 0)]) (rest := []) X hT hWσ_26 hS (met_Store_read l (w := w) hV 0 (gI σ_26 393 0) (gI σ_26 394 0) (gI σ_26 395 0) 0 _ σ_26 (by omega) (hWσ_26.r.i 393 0 rfl) (hWσ_26.r.i 394 0 rfl) (hWσ_26.r.i 395 0 rfl) (by omega) h) (cwV 4 X.2.2.2.2 (lw_V q1183 q1184 q1185 q136 q1186) rfl rfl rfl (by decide +kernel) ⟨Nat.le_of_ble_eq_true rfl, Nat.le_of_ble_eq_true rfl⟩) vl3_0 (by decide) rfl rfl hl.1 rfl (by first | exact Nat.le_of_ble_eq_true rfl | simp [catK, catI, catR, catL]) dX1_read_51 ⟨Nat.le_refl _, Nat.le_refl _⟩) hS (fun σ_28 H locs rkσ_28 h hWσ_28 hS => ?_)
      have h := h rkσ_28
      refine lv_aload_n X.1 X.2.1 dX1_read_54 rfl (lv_at hl 3 rfl) ?_
      refine lv_iload_n X.1 X.2.1 dX1_read_55 rfl (lv_at hl 2 rfl) ?_
      refine wput (z := x1) X hT hWσ_28 hS 10 0 640 vl10_x2 rfl rfl (by decide) rfl (by decide) in_X3 tyX3 tyX3_ok nmX3 q189 rfl rfl rx1 (fv0 w rfl) rfl rfl dX1_read_56 (fun H locs hN hS => ?_)
      obtain ⟨σ_29, eσ_29⟩ : ∃ x, x = sI σ_28 640 x2 x1 := ⟨_, rfl⟩
      have hWσ_29 : Wo w σ_29 H := eσ_29 ▸ hN
      have h := h σ_29 eσ_29
      clear hN
      refine lv_aload_n X.1 X.2.1 dX1_read_59 rfl (lv_at hl 3 rfl) ?_
      refine lv_aload_n X.1 X.2.1 dX1_read_60 rfl (lv_at hl 1 rfl) ?_
      refine wg (v := .ref (wad w 3 0)) X hT hWσ_29 1 1 65 vl1_0 rfl rfl (by decide) rfl (by decide) in_X1 q1071 rfl dX1_read_61 ?_
      refine wg (v := .ref (wad w 8 0)) X hT hWσ_29 3 6 198 vl3_0 rfl rfl (by decide) rfl (by decide) in_X5 q532 rfl dX1_read_64 ?_
      refine lv_iconst (v := oI 4) X.1 X.2.1 dX1_read_67 rfl ?_
      refine wr_I (rV (As := [.int (oI 4)]) (rest := [.ref (wad w 10 x2)]) X hT hWσ_29 hS (met_Row_get l (w := w) hV 0 4 _ σ_29 (by omega) ((rB_lit 4 (by decide)).i) h) (cwV 1 X.2.2.2.2 (lw_V q1206 q1207 q1208 q132 q1209) rfl rfl rfl (by decide +kernel) ⟨Nat.le_of_ble_eq_true rfl, Nat.le_of_ble_eq_true rfl⟩) vl8_0 (by decide) rfl rfl hl.1 rfl (by first | exact Nat.le_of_ble_eq_true rfl | simp [catK, catI, catR, catL]) dX1_read_68 ⟨Nat.le_refl _, Nat.le_refl _⟩) hS (fun r_30 σ_31 H locs rr_30 rkσ_31 h hWσ_31 hS => ?_)
      have h := h rr_30 rkσ_31
      refine wput (z := r_30) X hT hWσ_31 hS 10 1 641 vl10_x2 rfl rfl (by decide) rfl (by decide) in_X3 tyX3 tyX3_ok nmX3 q190 rfl rfl rr_30 (fv0 w rfl) rfl rfl dX1_read_71 (fun H locs hN hS => ?_)
      obtain ⟨σ_32, eσ_32⟩ : ∃ x, x = sI σ_31 641 x2 r_30 := ⟨_, rfl⟩
      have hWσ_32 : Wo w σ_32 H := eσ_32 ▸ hN
      have h := h σ_32 eσ_32
      clear hN
      refine lv_aload_n X.1 X.2.1 dX1_read_74 rfl (lv_at hl 3 rfl) ?_
      refine lv_aload_n X.1 X.2.1 dX1_read_75 rfl (lv_at hl 1 rfl) ?_
      refine wg (v := .ref (wad w 3 0)) X hT hWσ_32 1 1 65 vl1_0 rfl rfl (by decide) rfl (by decide) in_X1 q1071 rfl dX1_read_76 ?_
      refine wg (v := .ref (wad w 8 0)) X hT hWσ_32 3 6 198 vl3_0 rfl rfl (by decide) rfl (by decide) in_X5 q532 rfl dX1_read_79 ?_
      refine lv_bipush (v := oI 8) X.1 X.2.1 dX1_read_82 (by decide) ?_
      refine wr_I (rV (As := [.int (oI 8)]) (rest := [.ref (wad w 10 x2)]) X hT hWσ_32 hS (met_Row_get l (w := w) hV 0 8 _ σ_32 (by omega) ((rB_lit 8 (by decide)).i) h) (cwV 1 X.2.2.2.2 (lw_V q1206 q1207 q1208 q132 q1209) rfl rfl rfl (by decide +kernel) ⟨Nat.le_of_ble_eq_true rfl, Nat.le_of_ble_eq_true rfl⟩) vl8_0 (by decide) rfl rfl hl.1 rfl (by first | exact Nat.le_of_ble_eq_true rfl | simp [catK, catI, catR, catL]) dX1_read_84 ⟨Nat.le_refl _, Nat.le_refl _⟩) hS (fun r_33 σ_34 H locs rr_33 rkσ_34 h hWσ_34 hS => ?_)
      have h := h rr_33 rkσ_34
      refine wput (z := r_33) X hT hWσ_34 hS 10 2 642 vl10_x2 rfl rfl (by decide) rfl (by decide) in_X3 tyX3 tyX3_ok nmX3 q191 rfl rfl rr_33 (fv0 w rfl) rfl rfl dX1_read_87 (fun H locs hN hS => ?_)
      obtain ⟨σ_35, eσ_35⟩ : ∃ x, x = sI σ_34 642 x2 r_33 := ⟨_, rfl⟩
      have hWσ_35 : Wo w σ_35 H := eσ_35 ▸ hN
      have h := h σ_35 eσ_35
      clear hN
      refine lv_aload_n X.1 X.2.1 dX1_read_90 rfl (lv_at hl 3 rfl) ?_
      refine lv_aload_n X.1 X.2.1 dX1_read_91 rfl (lv_at hl 1 rfl) ?_
      refine wg (v := .ref (wad w 3 0)) X hT hWσ_35 1 1 65 vl1_0 rfl rfl (by decide) rfl (by decide) in_X1 q1071 rfl dX1_read_92 ?_
      refine wg (v := .ref (wad w 8 0)) X hT hWσ_35 3 6 198 vl3_0 rfl rfl (by decide) rfl (by decide) in_X5 q532 rfl dX1_read_95 ?_
      refine lv_bipush (v := oI 12) X.1 X.2.1 dX1_read_98 (by decide) ?_
      refine wr_I (rV (As := [.int (oI 12)]) (rest := [.ref (wad w 10 x2)]) X hT hWσ_35 hS (met_Row_get l (w := w) hV 0 12 _ σ_35 (by omega) ((rB_lit 12 (by decide)).i) h) (cwV 1 X.2.2.2.2 (lw_V q1206 q1207 q1208 q132 q1209) rfl rfl rfl (by decide +kernel) ⟨Nat.le_of_ble_eq_true rfl, Nat.le_of_ble_eq_true rfl⟩) vl8_0 (by decide) rfl rfl hl.1 rfl (by first | exact Nat.le_of_ble_eq_true rfl | simp [catK, catI, catR, catL]) dX1_read_100 ⟨Nat.le_refl _, Nat.le_refl _⟩) hS (fun r_36 σ_37 H locs rr_36 rkσ_37 h hWσ_37 hS => ?_)
      have h := h rr_36 rkσ_37
      refine wput (z := r_36) X hT hWσ_37 hS 10 3 643 vl10_x2 rfl rfl (by decide) rfl (by decide) in_X3 tyX3 tyX3_ok nmX3 q192 rfl rfl rr_36 (fv0 w rfl) rfl rfl dX1_read_103 (fun H locs hN hS => ?_)
      obtain ⟨σ_38, eσ_38⟩ : ∃ x, x = sI σ_37 643 x2 r_36 := ⟨_, rfl⟩
      have hWσ_38 : Wo w σ_38 H := eσ_38 ▸ hN
      have h := h σ_38 eσ_38
      clear hN
      refine lv_aload_n X.1 X.2.1 dX1_read_106 rfl (lv_at hl 3 rfl) ?_
      refine lv_aload_n X.1 X.2.1 dX1_read_107 rfl (lv_at hl 1 rfl) ?_
      refine wg (v := .ref (wad w 3 0)) X hT hWσ_38 1 1 65 vl1_0 rfl rfl (by decide) rfl (by decide) in_X1 q1071 rfl dX1_read_108 ?_
      refine wg (v := .ref (wad w 8 0)) X hT hWσ_38 3 6 198 vl3_0 rfl rfl (by decide) rfl (by decide) in_X5 q532 rfl dX1_read_111 ?_
      refine lv_bipush (v := oI 16) X.1 X.2.1 dX1_read_114 (by decide) ?_
      refine wr_I (rV (As := [.int (oI 16)]) (rest := [.ref (wad w 10 x2)]) X hT hWσ_38 hS (met_Row_get l (w := w) hV 0 16 _ σ_38 (by omega) ((rB_lit 16 (by decide)).i) h) (cwV 1 X.2.2.2.2 (lw_V q1206 q1207 q1208 q132 q1209) rfl rfl rfl (by decide +kernel) ⟨Nat.le_of_ble_eq_true rfl, Nat.le_of_ble_eq_true rfl⟩) vl8_0 (by decide) rfl rfl hl.1 rfl (by first | exact Nat.le_of_ble_eq_true rfl | simp [catK, catI, catR, catL]) dX1_read_116 ⟨Nat.le_refl _, Nat.le_refl _⟩) hS (fun r_39 σ_40 H locs rr_39 rkσ_40 h hWσ_40 hS => ?_)
      have h := h rr_39 rkσ_40
      refine wput (z := r_39) X hT hWσ_40 hS 10 4 644 vl10_x2 rfl rfl (by decide) rfl (by decide) in_X3 tyX3 tyX3_ok nmX3 q193 rfl rfl rr_39 (fv0 w rfl) rfl rfl dX1_read_119 (fun H locs hN hS => ?_)
      obtain ⟨σ_41, eσ_41⟩ : ∃ x, x = sI σ_40 644 x2 r_39 := ⟨_, rfl⟩
      have hWσ_41 : Wo w σ_41 H := eσ_41 ▸ hN
      have h := h σ_41 eσ_41
      clear hN
      refine lv_aload_n X.1 X.2.1 dX1_read_122 rfl (lv_at hl 3 rfl) ?_
      refine lv_aload_n X.1 X.2.1 dX1_read_123 rfl (lv_at hl 1 rfl) ?_
      refine wg (v := .ref (wad w 3 0)) X hT hWσ_41 1 1 65 vl1_0 rfl rfl (by decide) rfl (by decide) in_X1 q1071 rfl dX1_read_124 ?_
      refine wg (v := .ref (wad w 8 0)) X hT hWσ_41 3 6 198 vl3_0 rfl rfl (by decide) rfl (by decide) in_X5 q532 rfl dX1_read_127 ?_
      refine lv_bipush (v := oI 20) X.1 X.2.1 dX1_read_130 (by decide) ?_
      refine wr_I (rV (As := [.int (oI 20)]) (rest := [.ref (wad w 10 x2)]) X hT hWσ_41 hS (met_Row_get l (w := w) hV 0 20 _ σ_41 (by omega) ((rB_lit 20 (by decide)).i) h) (cwV 1 X.2.2.2.2 (lw_V q1206 q1207 q1208 q132 q1209) rfl rfl rfl (by decide +kernel) ⟨Nat.le_of_ble_eq_true rfl, Nat.le_of_ble_eq_true rfl⟩) vl8_0 (by decide) rfl rfl hl.1 rfl (by first | exact Nat.le_of_ble_eq_true rfl | simp [catK, catI, catR, catL]) dX1_read_132 ⟨Nat.le_refl _, Nat.le_refl _⟩) hS (fun r_42 σ_43 H locs rr_42 rkσ_43 h hWσ_43 hS => ?_)
      have h := h rr_42 rkσ_43
      refine wput (z := r_42) X hT hWσ_43 hS 10 5 645 vl10_x2 rfl rfl (by decide) rfl (by decide) in_X3 tyX3 tyX3_ok nmX3 q194 rfl rfl rr_42 (fv0 w rfl) rfl rfl dX1_read_135 (fun H locs hN hS => ?_)
      obtain ⟨σ_44, eσ_44⟩ : ∃ x, x = sI σ_43 645 x2 r_42 := ⟨_, rfl⟩
      have hWσ_44 : Wo w σ_44 H := eσ_44 ▸ hN
      have h := h σ_44 eσ_44
      clear hN
      refine lv_iconst (v := oI 1) X.1 X.2.1 dX1_read_138 rfl ?_
      exact wret_Z X hr hlk hWσ_44 hS rZ_1 h dX1_read_139
    · have h := h.2 hc
      refine lv_iconst (v := oI 0) X.1 X.2.1 dX1_read_26 rfl ?_
      exact wret_Z X hr hlk hWσ_26 hS rZ_0 h dX1_read_27
/-! House.directory(ILNandHouse$Inode;)I -/
set_option maxHeartbeats 4000000 in
set_option maxRecDepth 100000 in
theorem met_House_directory (l : Launch) {w : Wp} (hV : Hvl w) (x1 : Int) (x2 : Int) (Q : Int → St → Prop) (σ : St) (rx1 : rI x1) (hx2 : 0 ≤ x2 ∧ x2 < 4) (h : wp_House_directory (wc w) (wtv w) x1 x2 Q σ) : Met l yX1_directory (ws_ yX1_directory cX1_directory 3 (some .int)) rm_House_directory (PcW w σ [.ref (wad w 1 0), .int (oI x1), .ref (wad w 10 x2)]) (QcI w Q) 0 0 (wA w) := by
  refine Met.ofW (cc := cX1_directory) (maxL := 3) (ret := (some .int)) (by decide) rfl ?_
  intro p e st m args below meth c s₁ B hml hv
  obtain ⟨hargs, hW, hT⟩ := hv
  have X : CallFix p m c cX1_directory 3 st _ lw_all RX1 := ⟨B.exec, B.bytes, hml, findClass_of_methodNamed B.named, fun w h => atoms_spec (ws := ws_ yX1_directory cX1_directory 3 (some .int)) B.pre w (List.mem_cons_of_mem _ h)⟩
  have hr := B.returns
  have hlk := B.notSynchronized
  have hS : va_S (wA w) st.heap st.heap [] := va_S.rf
  have vl1_0 : vl w 1 0 := hV.hv 1 rfl ⟨by omega, by show _ < (1 : Int); omega⟩
  have vl10_x2 : vl w 10 x2 := hV.hv 10 rfl ⟨by omega, by show _ < (4 : Int); omega⟩
  have hl := lv_entry ([.ref (wad w 1 0), .int (oI x1), .ref (wad w 10 x2)]) (n := 3) (Nat.le_of_ble_eq_true rfl)
  have hfr := lg_entry_eq m ([.ref (wad w 1 0), .int (oI x1), .ref (wad w 10 x2)]) 3
  rw [← hargs] at hfr
  rw [hfr]
  generalize (lg_sl ([.ref (wad w 1 0), .int (oI x1), .ref (wad w 10 x2)]) ++ List.replicate (3 - (lg_sl ([.ref (wad w 1 0), .int (oI x1), .ref (wad w 10 x2)])).length) Slot.unset).toArray = ls at hl ⊢
  have hl : lv_has ls 3 [(0, .ref (wad w 1 0)), (1, .int (oI x1)), (2, .ref (wad w 10 x2))] := hl
  unfold wp_House_directory at h
  refine lv_aload_n X.1 X.2.1 dX1_directory_0 rfl (lv_at hl 0 rfl) ?_
  refine lv_iload_n X.1 X.2.1 dX1_directory_1 rfl (lv_at hl 1 rfl) ?_
  refine lv_aload_n X.1 X.2.1 dX1_directory_2 rfl (lv_at hl 2 rfl) ?_
  refine wr_Z (rV (As := [.int (oI x1), .ref (wad w 10 x2)]) (rest := []) X hT hW hS (met_House_read l (w := w) hV x1 x2 _ σ rx1 (by omega) h) (cwV 2 X.2.2.2.2 (lw_V q1177 q1179 qs32 q131 q1180) rfl rfl rfl (by decide +kernel) ⟨Nat.le_of_ble_eq_true rfl, Nat.le_of_ble_eq_true rfl⟩) vl1_0 (by decide) rfl rfl hl.1 rfl (by first | exact Nat.le_of_ble_eq_true rfl | simp [catK, catI, catR, catL]) dX1_directory_3 ⟨Nat.le_refl _, Nat.le_refl _⟩) hS (fun r_3 σ_4 H locs rr_3 rkσ_4 h hWσ_4 hS => ?_)
  have h := h rr_3 rkσ_4
  refine w_if_ne (tgt := 14) X rr_3.i dX1_directory_6 (by decide) (fun hc => ?_) (fun hc => ?_)
  · have h := h.1 hc
    refine lv_aload_n X.1 X.2.1 dX1_directory_14 rfl (lv_at hl 2 rfl) ?_
    refine wg (v := .int (oI (gI σ_4 641 x2))) X hT hWσ_4 10 1 641 vl10_x2 rfl rfl (by decide) rfl (by decide) in_X3 q190 rfl dX1_directory_15 ?_
    refine lv_iconst (v := oI 1) X.1 X.2.1 dX1_directory_18 rfl ?_
    refine w_icmp_eq (tgt := 27) X (hWσ_4.r.i 641 x2 rfl) rZ_1.i dX1_directory_19 (by decide) (fun hc => ?_) (fun hc => ?_)
    · have h := h.1 hc
      refine lv_iconst (v := oI 0) X.1 X.2.1 dX1_directory_27 rfl ?_
      exact wret_I X hr hlk hWσ_4 hS rZ_0.i h dX1_directory_28
    · have h := h.2 hc
      refine lv_bipush (v := oI (-6)) X.1 X.2.1 dX1_directory_22 (by decide) ?_
      refine lv_goto (tgt := 28) X.1 X.2.1 dX1_directory_24 (by decide) ?_
      exact wret_I X hr hlk hWσ_4 hS ((rB_lit (-6) (by decide)).i) h dX1_directory_28
  · have h := h.2 hc
    refine lv_bipush (v := oI (-4)) X.1 X.2.1 dX1_directory_9 (by decide) ?_
    refine lv_goto (tgt := 28) X.1 X.2.1 dX1_directory_11 (by decide) ?_
    exact wret_I X hr hlk hWσ_4 hS ((rB_lit (-4) (by decide)).i) h dX1_directory_28
/-! House.entry(IJ)I -/
set_option maxHeartbeats 4000000 in
set_option maxRecDepth 100000 in
theorem wk_House_entry_b171 {p : Program} {l : Launch} {e : Env} {st : State} {m : MethodId} {args : Array Value} {below : List Frame} {meth : Method} {c : Code} {w : Wp} {x1 : Int} {x2 : Int} {Q : Int → St → Prop} (X : CallFix p m c cX1_entry 10 st args lw_all RX1) (hr : meth.sig.returnType = (some .int)) (hlk : meth.locks = false) (hT : Tb w st) (hV : Hvl w) (rx1 : rI x1) (rx2 : rJ x2) : ∀ (σ : St) (H : Heap) (locs : List Loc) (ls : Array Slot), lv_has ls 10 [(0, .ref (wad w 1 0))] → Wo w σ H → va_S (wA w) st.heap H locs → wp_House_entry_b171 (wc w) (wtv w) x1 x2 Q σ → W p l e (headSpec (ws_ yX1_entry cX1_entry 10 (some .int)) rm_House_entry).room st m args below meth c H locs 0 0 (MQ below (QcI w Q) args st 0 0 (wA w)) (F0 m 171 ls []) := by
  have vl1_0 : vl w 1 0 := hV.hv 1 rfl ⟨by omega, by show _ < (1 : Int); omega⟩
  intro σ H locs ls hl hW hS h
  unfold wp_House_entry_b171 at h
  refine lv_aload_n X.1 X.2.1 dX1_entry_171 rfl (lv_at hl 0 rfl) ?_
  refine lv_aload_n X.1 X.2.1 dX1_entry_172 rfl (lv_at hl 0 rfl) ?_
  refine wg (v := .int (oI (gI σ 92 0))) X hT hW 1 28 92 vl1_0 rfl rfl (by decide) rfl (by decide) in_X1 q1098 rfl dX1_entry_173 ?_
  refine wput (z := gI σ 92 0) X hT hW hS 1 27 91 vl1_0 rfl rfl (by decide) rfl (by decide) in_X1 tyX1 tyX1_ok nmX1 q1097 rfl rfl (hW.r.i 92 0 rfl) (fv0 w rfl) rfl rfl dX1_entry_176 (fun H locs hN hS => ?_)
  obtain ⟨σ_19, eσ_19⟩ : ∃ x, x = sI σ 91 0 (gI σ 92 0) := ⟨_, rfl⟩
  have hWσ_19 : Wo w σ_19 H := eσ_19 ▸ hN
  have h := h σ_19 eσ_19
  clear hN
  refine lv_iconst (v := oI 0) X.1 X.2.1 dX1_entry_179 rfl ?_
  exact wret_I X hr hlk hWσ_19 hS rZ_0.i h dX1_entry_180
set_option maxHeartbeats 4000000 in
set_option maxRecDepth 100000 in
theorem wk_House_entry_b103 {p : Program} {l : Launch} {e : Env} {st : State} {m : MethodId} {args : Array Value} {below : List Frame} {meth : Method} {c : Code} {w : Wp} {x1 : Int} {x2 : Int} {Q : Int → St → Prop} (X : CallFix p m c cX1_entry 10 st args lw_all RX1) (hr : meth.sig.returnType = (some .int)) (hlk : meth.locks = false) (hT : Tb w st) (hV : Hvl w) (rx1 : rI x1) (rx2 : rJ x2) (K38 : Int → Int → Int → St → Prop) (hK38 : ∀ (y5 y7 y9 : Int) (σ : St) (H : Heap) (locs : List Loc) (ls : Array Slot), rJ y5 → rJ y7 → rZ y9 → lv_has ls 10 [(0, .ref (wad w 1 0)), (2, .long (oL x2)), (4, .ref (wad w 6 0)), (5, .long (oL y5)), (7, .long (oL y7)), (9, .int (oI y9))] → Wo w σ H → va_S (wA w) st.heap H locs → K38 y5 y7 y9 σ → W p l e (headSpec (ws_ yX1_entry cX1_entry 10 (some .int)) rm_House_entry).room st m args below meth c H locs 0 0 (MQ below (QcI w Q) args st 0 0 (wA w)) (F0 m 38 ls [])) : ∀ (y5 y7 : Int) (σ : St) (H : Heap) (locs : List Loc) (ls : Array Slot), rJ y5 → rJ y7 → lv_has ls 10 [(0, .ref (wad w 1 0)), (2, .long (oL x2)), (4, .ref (wad w 6 0)), (5, .long (oL y5)), (7, .long (oL y7))] → Wo w σ H → va_S (wA w) st.heap H locs → wp_House_entry_b103 (wc w) (wtv w) x1 x2 Q K38 y5 y7 σ → W p l e (headSpec (ws_ yX1_entry cX1_entry 10 (some .int)) rm_House_entry).room st m args below meth c H locs 0 0 (MQ below (QcI w Q) args st 0 0 (wA w)) (F0 m 103 ls []) := by
  have vl1_0 : vl w 1 0 := hV.hv 1 rfl ⟨by omega, by show _ < (1 : Int); omega⟩
  have vl3_0 : vl w 3 0 := hV.hv 3 rfl ⟨by omega, by show _ < (2 : Int); omega⟩
  have vl6_0 : vl w 6 0 := hV.hv 6 rfl ⟨by omega, by show _ < (2 : Int); omega⟩
  have vl8_0 : vl w 8 0 := hV.hv 8 rfl ⟨by omega, by show _ < (8 : Int); omega⟩
  intro y5 y7 σ H locs ls ry5 ry7 hl hW hS h
  unfold wp_House_entry_b103 at h
  refine lv_aload_n X.1 X.2.1 dX1_entry_103 rfl (lv_at hl 0 rfl) ?_
  refine wg (v := .ref (wad w 3 0)) X hT hW 1 1 65 vl1_0 rfl rfl (by decide) rfl (by decide) in_X1 q1071 rfl dX1_entry_104 ?_
  refine lv_aload X.1 X.2.1 dX1_entry_107 (lv_at hl 2 rfl) ?_
  refine wg (v := .int (oI (gI σ 393 0))) X hT hW 6 9 393 vl6_0 rfl rfl (by decide) rfl (by decide) in_X8 q460 rfl dX1_entry_109 ?_
  refine lv_aload X.1 X.2.1 dX1_entry_112 (lv_at hl 2 rfl) ?_
  refine wg (v := .int (oI (gI σ 394 0))) X hT hW 6 10 394 vl6_0 rfl rfl (by decide) rfl (by decide) in_X8 q463 rfl dX1_entry_114 ?_
  refine lv_aload X.1 X.2.1 dX1_entry_117 (lv_at hl 2 rfl) ?_
  refine wg (v := .int (oI (gI σ 395 0))) X hT hW 6 11 395 vl6_0 rfl rfl (by decide) rfl (by decide) in_X8 q466 rfl dX1_entry_119 ?_
  refine lv_aload_n X.1 X.2.1 dX1_entry_122 rfl (lv_at hl 0 rfl) ?_
  refine wg (v := .ref (wad w 3 0)) X hT hW 1 1 65 vl1_0 rfl rfl (by decide) rfl (by decide) in_X1 q1071 rfl dX1_entry_123 ?_
  refine wg (v := .ref (wad w 8 0)) X hT hW 3 6 198 vl3_0 rfl rfl (by decide) rfl (by decide) in_X5 q532 rfl dX1_entry_126 ?_
  refine wr_V (rV (As := [.int (oI (gI σ 393 0)), .int (oI (gI σ 394 0)), .int (oI (gI σ 395 0)), .ref (wad w 8 0)]) (rest := []) X hT hW hS (met_Store_read l (w := w) hV 0 (gI σ 393 0) (gI σ 394 0) (gI σ 395 0) 0 _ σ (by omega) (hW.r.i 393 0 rfl) (hW.r.i 394 0 rfl) (hW.r.i 395 0 rfl) (by omega) h) (cwV 4 X.2.2.2.2 (lw_V q1183 q1184 q1185 q136 q1186) rfl rfl rfl (by decide +kernel) ⟨Nat.le_of_ble_eq_true rfl, Nat.le_of_ble_eq_true rfl⟩) vl3_0 (by decide) rfl rfl hl.1 rfl (by first | exact Nat.le_of_ble_eq_true rfl | simp [catK, catI, catR, catL]) dX1_entry_129 ⟨Nat.le_refl _, Nat.le_refl _⟩) hS (fun σ_21 H locs rkσ_21 h hWσ_21 hS => ?_)
  have h := h rkσ_21
  refine lv_aload_n X.1 X.2.1 dX1_entry_132 rfl (lv_at hl 0 rfl) ?_
  refine wg (v := .ref (wad w 3 0)) X hT hWσ_21 1 1 65 vl1_0 rfl rfl (by decide) rfl (by decide) in_X1 q1071 rfl dX1_entry_133 ?_
  refine wg (v := .ref (wad w 8 0)) X hT hWσ_21 3 6 198 vl3_0 rfl rfl (by decide) rfl (by decide) in_X5 q532 rfl dX1_entry_136 ?_
  refine lv_bipush (v := oI 8) X.1 X.2.1 dX1_entry_139 (by decide) ?_
  refine wr_J (rV (As := [.int (oI 8)]) (rest := []) X hT hWσ_21 hS (met_Row_getLongAt l (w := w) hV 0 8 _ σ_21 (by omega) ((rB_lit 8 (by decide)).i) h) (cwV 1 X.2.2.2.2 (lw_V q1218 q1219 q1220 q132 q1221) rfl rfl rfl (by decide +kernel) ⟨Nat.le_of_ble_eq_true rfl, Nat.le_of_ble_eq_true rfl⟩) vl8_0 (by decide) rfl rfl hl.1 rfl (by first | exact Nat.le_of_ble_eq_true rfl | simp [catK, catI, catR, catL]) dX1_entry_141 ⟨Nat.le_refl _, Nat.le_refl _⟩) hS (fun r_22 σ_23 H locs rr_22 rkσ_23 h hWσ_23 hS => ?_)
  have h := h rr_22 rkσ_23
  refine lv_lload_n X.1 X.2.1 dX1_entry_144 rfl (lv_at hl 1 rfl) ?_
  refine w_lcmp_ne (tgt := 161) X rr_22 rx2 dX1_entry_145 dX1_entry_146 (by decide) (fun hc => ?_) (fun hc => ?_)
  · have h := h.1 hc
    refine lv_aload X.1 X.2.1 dX1_entry_161 (lv_at hl 2 rfl) ?_
    refine wr_Z (rV (As := []) (rest := []) X hT hWσ_23 hS (met_Index_next l (w := w) hV 0 _ σ_23 (by omega) h) (cwV 0 X.2.2.2.2 (lw_V q1065 q1066 q1067 q139 q1068) rfl rfl rfl (by decide +kernel) ⟨Nat.le_of_ble_eq_true rfl, Nat.le_of_ble_eq_true rfl⟩) vl6_0 (by decide) rfl rfl hl.1 rfl (by first | exact Nat.le_of_ble_eq_true rfl | simp [catK, catI, catR, catL]) dX1_entry_163 ⟨Nat.le_refl _, Nat.le_refl _⟩) hS (fun r_24 σ_25 H locs rr_24 rkσ_25 h hWσ_25 hS => ?_)
    have h := h rr_24 rkσ_25
    refine lv_istore (i := 9) (lv' := [(9, .int (oI r_24)), (0, .ref (wad w 1 0)), (2, .long (oL x2)), (4, .ref (wad w 6 0)), (5, .long (oL y5)), (7, .long (oL y7))]) X.1 X.2.1 dX1_entry_166 hl (by decide) (by first | rfl | simp [catK, catI, catR, catL]) (fun ls hl => ?_)
    refine lv_goto (tgt := 38) X.1 X.2.1 dX1_entry_168 (by decide) ?_
    exact hK38 y5 y7 r_24 σ_25 _ _ _ ry5 ry7 rr_24 (lv_sub hl [1, 2, 3, 4, 5, 0] rfl) hWσ_25 hS h
  · have h := h.2 hc
    refine lv_aload_n X.1 X.2.1 dX1_entry_149 rfl (lv_at hl 0 rfl) ?_
    refine wg (v := .ref (wad w 3 0)) X hT hWσ_23 1 1 65 vl1_0 rfl rfl (by decide) rfl (by decide) in_X1 q1071 rfl dX1_entry_150 ?_
    refine wg (v := .ref (wad w 8 0)) X hT hWσ_23 3 6 198 vl3_0 rfl rfl (by decide) rfl (by decide) in_X5 q532 rfl dX1_entry_153 ?_
    refine lv_iconst (v := oI 4) X.1 X.2.1 dX1_entry_156 rfl ?_
    refine wr_I (rV (As := [.int (oI 4)]) (rest := []) X hT hWσ_23 hS (met_Row_get l (w := w) hV 0 4 _ σ_23 (by omega) ((rB_lit 4 (by decide)).i) h) (cwV 1 X.2.2.2.2 (lw_V q1206 q1207 q1208 q132 q1209) rfl rfl rfl (by decide +kernel) ⟨Nat.le_of_ble_eq_true rfl, Nat.le_of_ble_eq_true rfl⟩) vl8_0 (by decide) rfl rfl hl.1 rfl (by first | exact Nat.le_of_ble_eq_true rfl | simp [catK, catI, catR, catL]) dX1_entry_157 ⟨Nat.le_refl _, Nat.le_refl _⟩) hS (fun r_26 σ_27 H locs rr_26 rkσ_27 h hWσ_27 hS => ?_)
    have h := h rr_26 rkσ_27
    exact wret_I X hr hlk hWσ_27 hS rr_26 h dX1_entry_160
set_option maxHeartbeats 4000000 in
set_option maxRecDepth 100000 in
theorem wk_House_entry_L38B {p : Program} {l : Launch} {e : Env} {st : State} {m : MethodId} {args : Array Value} {below : List Frame} {meth : Method} {c : Code} {w : Wp} {x1 : Int} {x2 : Int} {Q : Int → St → Prop} (X : CallFix p m c cX1_entry 10 st args lw_all RX1) (hr : meth.sig.returnType = (some .int)) (hlk : meth.locks = false) (hT : Tb w st) (hV : Hvl w) (rx1 : rI x1) (rx2 : rJ x2) (K38 : Int → Int → Int → St → Prop) (hK38 : ∀ (y5 y7 y9 : Int) (σ : St) (H : Heap) (locs : List Loc) (ls : Array Slot), rJ y5 → rJ y7 → rZ y9 → lv_has ls 10 [(0, .ref (wad w 1 0)), (2, .long (oL x2)), (4, .ref (wad w 6 0)), (5, .long (oL y5)), (7, .long (oL y7)), (9, .int (oI y9))] → Wo w σ H → va_S (wA w) st.heap H locs → K38 y5 y7 y9 σ → W p l e (headSpec (ws_ yX1_entry cX1_entry 10 (some .int)) rm_House_entry).room st m args below meth c H locs 0 0 (MQ below (QcI w Q) args st 0 0 (wA w)) (F0 m 38 ls [])) : ∀ (y5 y7 y9 : Int) (σ : St) (H : Heap) (locs : List Loc) (ls : Array Slot), rJ y5 → rJ y7 → rZ y9 → lv_has ls 10 [(0, .ref (wad w 1 0)), (2, .long (oL x2)), (4, .ref (wad w 6 0)), (5, .long (oL y5)), (7, .long (oL y7)), (9, .int (oI y9))] → Wo w σ H → va_S (wA w) st.heap H locs → wp_House_entry_L38 (wc w) (wtv w) x1 x2 Q K38 y5 y7 y9 σ → W p l e (headSpec (ws_ yX1_entry cX1_entry 10 (some .int)) rm_House_entry).room st m args below meth c H locs 0 0 (MQ below (QcI w Q) args st 0 0 (wA w)) (F0 m 38 ls []) := by
  have vl1_0 : vl w 1 0 := hV.hv 1 rfl ⟨by omega, by show _ < (1 : Int); omega⟩
  have vl6_0 : vl w 6 0 := hV.hv 6 rfl ⟨by omega, by show _ < (2 : Int); omega⟩
  intro y5 y7 y9 σ H locs ls ry5 ry7 ry9 hl hW hS h
  unfold wp_House_entry_L38 at h
  refine lv_iload X.1 X.2.1 dX1_entry_38 (lv_at hl 5 rfl) ?_
  refine w_if_eq (tgt := 171) X ry9.i dX1_entry_40 (by decide) (fun hc => ?_) (fun hc => ?_)
  · have h := h.1 hc
    exact wk_House_entry_b171 X hr hlk hT hV rx1 rx2 σ _ _ _ (lv_sub hl [0] rfl) hW hS h
  · have h := h.2 hc
    refine lv_aload X.1 X.2.1 dX1_entry_43 (lv_at hl 2 rfl) ?_
    refine wg (v := .long (oL (gI σ 391 0))) X hT hW 6 7 391 vl6_0 rfl rfl (by decide) rfl (by decide) in_X8 q454 rfl dX1_entry_45 ?_
    refine lv_lload X.1 X.2.1 dX1_entry_48 (lv_at hl 3 rfl) ?_
    refine w_lcmp_ne (tgt := 171) X (hW.r.j 391 0 rfl) ry5 dX1_entry_50 dX1_entry_51 (by decide) (fun hc => ?_) (fun hc => ?_)
    · have h := h.1 hc
      exact wk_House_entry_b171 X hr hlk hT hV rx1 rx2 σ _ _ _ (lv_sub hl [0] rfl) hW hS h
    · have h := h.2 hc
      refine lv_aload X.1 X.2.1 dX1_entry_54 (lv_at hl 2 rfl) ?_
      refine wg (v := .long (oL (gI σ 392 0))) X hT hW 6 8 392 vl6_0 rfl rfl (by decide) rfl (by decide) in_X8 q457 rfl dX1_entry_56 ?_
      refine lv_lload X.1 X.2.1 dX1_entry_59 (lv_at hl 4 rfl) ?_
      refine w_ldc2 X (z := 1024) q1217 (by decide) dX1_entry_61 ?_
      refine w_ladd X dX1_entry_64 ?_
      refine w_lcmp_ge (tgt := 171) X (hW.r.j 392 0 rfl) (w64_r _) dX1_entry_65 dX1_entry_66 (by decide) (fun hc => ?_) (fun hc => ?_)
      · have h := h.1 hc
        exact wk_House_entry_b171 X hr hlk hT hV rx1 rx2 σ _ _ _ (lv_sub hl [0] rfl) hW hS h
      · have h := h.2 hc
        refine lv_aload_n X.1 X.2.1 dX1_entry_69 rfl (lv_at hl 0 rfl) ?_
        refine lv_aload X.1 X.2.1 dX1_entry_70 (lv_at hl 2 rfl) ?_
        refine wg (v := .long (oL (gI σ 392 0))) X hT hW 6 8 392 vl6_0 rfl rfl (by decide) rfl (by decide) in_X8 q457 rfl dX1_entry_72 ?_
        refine lv_lload X.1 X.2.1 dX1_entry_75 (lv_at hl 4 rfl) ?_
        refine w_lsub X dX1_entry_77 ?_
        refine w_l2i X dX1_entry_78 ?_
        refine wput (z := w32 (w64 ((gI σ 392 0) - y7))) X hT hW hS 1 27 91 vl1_0 rfl rfl (by decide) rfl (by decide) in_X1 tyX1 tyX1_ok nmX1 q1097 rfl rfl (w32_r _) (fv0 w rfl) rfl rfl dX1_entry_79 (fun H locs hN hS => ?_)
        obtain ⟨σ_28, eσ_28⟩ : ∃ x, x = sI σ 91 0 (w32 (w64 ((gI σ 392 0) - y7))) := ⟨_, rfl⟩
        have hWσ_28 : Wo w σ_28 H := eσ_28 ▸ hN
        have h := h σ_28 eσ_28
        clear hN
        refine lv_aload_n X.1 X.2.1 dX1_entry_82 rfl (lv_at hl 0 rfl) ?_
        refine wg (v := .int (oI (gI σ_28 91 0))) X hT hWσ_28 1 27 91 vl1_0 rfl rfl (by decide) rfl (by decide) in_X1 q1097 rfl dX1_entry_83 ?_
        refine lv_aload_n X.1 X.2.1 dX1_entry_86 rfl (lv_at hl 0 rfl) ?_
        refine wg (v := .int (oI (gI σ_28 92 0))) X hT hWσ_28 1 28 92 vl1_0 rfl rfl (by decide) rfl (by decide) in_X1 q1098 rfl dX1_entry_87 ?_
        refine w_icmp_ne (tgt := 103) X (hWσ_28.r.i 91 0 rfl) (hWσ_28.r.i 92 0 rfl) dX1_entry_90 (by decide) (fun hc => ?_) (fun hc => ?_)
        · have h := h.1 hc
          exact wk_House_entry_b103 X hr hlk hT hV rx1 rx2 K38 hK38 y5 y7 σ_28 _ _ _ ry5 ry7 (lv_sub hl [0, 1, 2, 3, 4] rfl) hWσ_28 hS h
        · have h := h.2 hc
          refine lv_aload_n X.1 X.2.1 dX1_entry_93 rfl (lv_at hl 0 rfl) ?_
          refine lv_dup X.1 X.2.1 dX1_entry_94 rfl ?_
          refine wg (v := .int (oI (gI σ_28 92 0))) X hT hWσ_28 1 28 92 vl1_0 rfl rfl (by decide) rfl (by decide) in_X1 q1098 rfl dX1_entry_95 ?_
          refine lv_iconst (v := oI 1) X.1 X.2.1 dX1_entry_98 rfl ?_
          refine w_iadd X dX1_entry_99 ?_
          refine wput (z := w32 ((gI σ_28 92 0) + 1)) X hT hWσ_28 hS 1 28 92 vl1_0 rfl rfl (by decide) rfl (by decide) in_X1 tyX1 tyX1_ok nmX1 q1098 rfl rfl (w32_r _) (fv0 w rfl) rfl rfl dX1_entry_100 (fun H locs hN hS => ?_)
          obtain ⟨σ_29, eσ_29⟩ : ∃ x, x = sI σ_28 92 0 (w32 ((gI σ_28 92 0) + 1)) := ⟨_, rfl⟩
          have hWσ_29 : Wo w σ_29 H := eσ_29 ▸ hN
          have h := h σ_29 eσ_29
          clear hN
          exact wk_House_entry_b103 X hr hlk hT hV rx1 rx2 K38 hK38 y5 y7 σ_29 _ _ _ ry5 ry7 (lv_sub hl [0, 1, 2, 3, 4] rfl) hWσ_29 hS h
theorem wk_House_entry_L38 {p : Program} {l : Launch} {e : Env} {st : State} {m : MethodId} {args : Array Value} {below : List Frame} {meth : Method} {c : Code} {w : Wp} {x1 : Int} {x2 : Int} {Q : Int → St → Prop} (X : CallFix p m c cX1_entry 10 st args lw_all RX1) (hr : meth.sig.returnType = (some .int)) (hlk : meth.locks = false) (hT : Tb w st) (hV : Hvl w) (rx1 : rI x1) (rx2 : rJ x2) : ∀ (y5 y7 y9 : Int) (σ : St) (H : Heap) (locs : List Loc) (ls : Array Slot), rJ y5 → rJ y7 → rZ y9 → lv_has ls 10 [(0, .ref (wad w 1 0)), (2, .long (oL x2)), (4, .ref (wad w 6 0)), (5, .long (oL y5)), (7, .long (oL y7)), (9, .int (oI y9))] → Wo w σ H → va_S (wA w) st.heap H locs → lQ3 (wp_House_entry_L38 (wc w) (wtv w) x1 x2 Q) y5 y7 y9 σ → W p l e (headSpec (ws_ yX1_entry cX1_entry 10 (some .int)) rm_House_entry).room st m args below meth c H locs 0 0 (MQ below (QcI w Q) args st 0 0 (wA w)) (F0 m 38 ls []) := by
  intro y5 y7 y9 σ H locs ls ry5 ry7 ry9 hl hW hS h
  obtain ⟨fu, h⟩ := h
  induction fu generalizing y5 y7 y9 σ H locs ls with
  | zero => exact h.elim
  | succ fu ih =>
    exact wk_House_entry_L38B X hr hlk hT hV rx1 rx2 (lq3 (wp_House_entry_L38 (wc w) (wtv w) x1 x2 Q) fu) (fun y5 y7 y9 σ H locs ls ry5 ry7 ry9 hl hW hS h => ih y5 y7 y9 σ H locs ls ry5 ry7 ry9 hl hW hS h) y5 y7 y9 σ H locs ls ry5 ry7 ry9 hl hW hS h
set_option maxHeartbeats 4000000 in
set_option maxRecDepth 100000 in
theorem met_House_entry (l : Launch) {w : Wp} (hV : Hvl w) (x1 : Int) (x2 : Int) (Q : Int → St → Prop) (σ : St) (rx1 : rI x1) (rx2 : rJ x2) (h : wp_House_entry (wc w) (wtv w) x1 x2 Q σ) : Met l yX1_entry (ws_ yX1_entry cX1_entry 10 (some .int)) rm_House_entry (PcW w σ [.ref (wad w 1 0), .int (oI x1), .long (oL x2)]) (QcI w Q) 0 0 (wA w) := by
  refine Met.ofW (cc := cX1_entry) (maxL := 10) (ret := (some .int)) (by decide) rfl ?_
  intro p e st m args below meth c s₁ B hml hv
  obtain ⟨hargs, hW, hT⟩ := hv
  have X : CallFix p m c cX1_entry 10 st _ lw_all RX1 := ⟨B.exec, B.bytes, hml, findClass_of_methodNamed B.named, fun w h => atoms_spec (ws := ws_ yX1_entry cX1_entry 10 (some .int)) B.pre w (List.mem_cons_of_mem _ h)⟩
  have hr := B.returns
  have hlk := B.notSynchronized
  have hS : va_S (wA w) st.heap st.heap [] := va_S.rf
  have vl1_0 : vl w 1 0 := hV.hv 1 rfl ⟨by omega, by show _ < (1 : Int); omega⟩
  have vl3_0 : vl w 3 0 := hV.hv 3 rfl ⟨by omega, by show _ < (2 : Int); omega⟩
  have vl6_0 : vl w 6 0 := hV.hv 6 rfl ⟨by omega, by show _ < (2 : Int); omega⟩
  have hl := lv_entry ([.ref (wad w 1 0), .int (oI x1), .long (oL x2)]) (n := 10) (Nat.le_of_ble_eq_true rfl)
  have hfr := lg_entry_eq m ([.ref (wad w 1 0), .int (oI x1), .long (oL x2)]) 10
  rw [← hargs] at hfr
  rw [hfr]
  generalize (lg_sl ([.ref (wad w 1 0), .int (oI x1), .long (oL x2)]) ++ List.replicate (10 - (lg_sl ([.ref (wad w 1 0), .int (oI x1), .long (oL x2)])).length) Slot.unset).toArray = ls at hl ⊢
  have hl : lv_has ls 10 [(0, .ref (wad w 1 0)), (1, .int (oI x1)), (2, .long (oL x2))] := hl
  unfold wp_House_entry at h
  refine lv_aload_n X.1 X.2.1 dX1_entry_0 rfl (lv_at hl 0 rfl) ?_
  refine wg (v := .ref (wad w 3 0)) X hT hW 1 1 65 vl1_0 rfl rfl (by decide) rfl (by decide) in_X1 q1071 rfl dX1_entry_1 ?_
  refine wg (v := .ref (wad w 6 0)) X hT hW 3 2 194 vl3_0 rfl rfl (by decide) rfl (by decide) in_X5 q527 rfl dX1_entry_4 ?_
  refine lv_astore (i := 4) (lv' := [(4, .ref (wad w 6 0)), (0, .ref (wad w 1 0)), (1, .int (oI x1)), (2, .long (oL x2))]) X.1 X.2.1 dX1_entry_7 hl (by decide) (by first | rfl | simp [catK, catI, catR, catL]) (fun ls hl => ?_)
  refine lv_iload_n X.1 X.2.1 dX1_entry_9 rfl (lv_at hl 2 rfl) ?_
  refine lv_iconst (v := oI 2) X.1 X.2.1 dX1_entry_10 rfl ?_
  refine wr_J (rS (As := [.int (oI x1), .int (oI 2)]) (rest := []) X hT hW hS (met_House_keyOf l (w := w) x1 2 _ σ rx1 ((rB_lit 2 (by decide)).i) h) (va_cwS 2 X.2.2.2.2 (lw_S q1181 q894 q131 q895) rfl rfl rfl (by decide +kernel) ⟨Nat.le_of_ble_eq_true rfl, Nat.le_of_ble_eq_true rfl⟩) rfl hl.1 rfl (by first | exact Nat.le_of_ble_eq_true rfl | simp [catK, catI, catR, catL]) dX1_entry_11 ⟨Nat.le_refl _, Nat.le_refl _⟩) hS (fun r_30 σ_31 H locs rr_30 rkσ_31 h hWσ_31 hS => ?_)
  have h := h rr_30 rkσ_31
  refine lv_lstore (i := 5) (lv' := [(5, .long (oL r_30)), (4, .ref (wad w 6 0)), (0, .ref (wad w 1 0)), (1, .int (oI x1)), (2, .long (oL x2))]) X.1 X.2.1 dX1_entry_14 hl (by decide) (by first | rfl | simp [catK, catI, catR, catL]) (fun ls hl => ?_)
  refine lv_lload_n X.1 X.2.1 dX1_entry_16 rfl (lv_at hl 4 rfl) ?_
  refine wr_J (rS (As := [.long (oL x2)]) (rest := []) X hT hWσ_31 hS (met_House_hash l (w := w) x2 _ σ_31 rx2 h) (va_cwS 1 X.2.2.2.2 (lw_S q1214 q1215 q131 q1216) rfl rfl rfl (by decide +kernel) ⟨Nat.le_of_ble_eq_true rfl, Nat.le_of_ble_eq_true rfl⟩) rfl hl.1 rfl (by first | exact Nat.le_of_ble_eq_true rfl | simp [catK, catI, catR, catL]) dX1_entry_17 ⟨Nat.le_refl _, Nat.le_refl _⟩) hS (fun r_32 σ_33 H locs rr_32 rkσ_33 h hWσ_33 hS => ?_)
  have h := h rr_32 rkσ_33
  refine lv_lstore (i := 7) (lv' := [(7, .long (oL r_32)), (5, .long (oL r_30)), (4, .ref (wad w 6 0)), (0, .ref (wad w 1 0)), (1, .int (oI x1)), (2, .long (oL x2))]) X.1 X.2.1 dX1_entry_20 hl (by decide) (by first | rfl | simp [catK, catI, catR, catL]) (fun ls hl => ?_)
  refine lv_aload_n X.1 X.2.1 dX1_entry_22 rfl (lv_at hl 3 rfl) ?_
  refine lv_iconst (v := oI 0) X.1 X.2.1 dX1_entry_23 rfl ?_
  refine wput (z := 0) X hT hWσ_33 hS 1 28 92 vl1_0 rfl rfl (by decide) rfl (by decide) in_X1 tyX1 tyX1_ok nmX1 q1098 rfl rfl rZ_0.i (fv0 w rfl) rfl rfl dX1_entry_24 (fun H locs hN hS => ?_)
  obtain ⟨σ_34, eσ_34⟩ : ∃ x, x = sI σ_33 92 0 0 := ⟨_, rfl⟩
  have hWσ_34 : Wo w σ_34 H := eσ_34 ▸ hN
  have h := h σ_34 eσ_34
  clear hN
  refine lv_aload X.1 X.2.1 dX1_entry_27 (lv_at hl 2 rfl) ?_
  refine lv_lload X.1 X.2.1 dX1_entry_29 (lv_at hl 1 rfl) ?_
  refine lv_lload X.1 X.2.1 dX1_entry_31 (lv_at hl 0 rfl) ?_
  refine wr_Z (rV (As := [.long (oL r_30), .long (oL r_32)]) (rest := []) X hT hWσ_34 hS (met_Index_seek l (w := w) hV 0 r_30 r_32 _ σ_34 (by omega) rr_30 rr_32 h) (cwV 2 X.2.2.2.2 (lw_V q1064 q906 q907 q139 q908) rfl rfl rfl (by decide +kernel) ⟨Nat.le_of_ble_eq_true rfl, Nat.le_of_ble_eq_true rfl⟩) vl6_0 (by decide) rfl rfl hl.1 rfl (by first | exact Nat.le_of_ble_eq_true rfl | simp [catK, catI, catR, catL]) dX1_entry_33 ⟨Nat.le_refl _, Nat.le_refl _⟩) hS (fun r_35 σ_36 H locs rr_35 rkσ_36 h hWσ_36 hS => ?_)
  have h := h rr_35 rkσ_36
  refine lv_istore (i := 9) (lv' := [(9, .int (oI r_35)), (7, .long (oL r_32)), (5, .long (oL r_30)), (4, .ref (wad w 6 0)), (0, .ref (wad w 1 0)), (1, .int (oI x1)), (2, .long (oL x2))]) X.1 X.2.1 dX1_entry_36 hl (by decide) (by first | rfl | simp [catK, catI, catR, catL]) (fun ls hl => ?_)
  exact wk_House_entry_L38 X hr hlk hT hV rx1 rx2 r_30 r_32 r_35 σ_36 _ _ _ rr_30 rr_32 rr_35 (lv_sub hl [4, 6, 3, 2, 1, 0] rfl) hWσ_36 hS h
/-! House.itemOf(I)I -/
set_option maxHeartbeats 4000000 in
set_option maxRecDepth 100000 in
theorem met_House_itemOf (l : Launch) {w : Wp} (x0 : Int) (Q : Int → St → Prop) (σ : St) (rx0 : rI x0) (h : wp_House_itemOf (wc w) (wtv w) x0 Q σ) : Met l yX1_itemOf (ws_ yX1_itemOf cX1_itemOf 1 (some .int)) rm_House_itemOf (PcW w σ [.int (oI x0)]) (QcI w Q) 0 0 (wA w) := by
  refine Met.ofW (cc := cX1_itemOf) (maxL := 1) (ret := (some .int)) (by decide) rfl ?_
  intro p e st m args below meth c s₁ B hml hv
  obtain ⟨hargs, hW, hT⟩ := hv
  have X : CallFix p m c cX1_itemOf 1 st _ lw_all RX1 := ⟨B.exec, B.bytes, hml, findClass_of_methodNamed B.named, fun w h => atoms_spec (ws := ws_ yX1_itemOf cX1_itemOf 1 (some .int)) B.pre w (List.mem_cons_of_mem _ h)⟩
  have hr := B.returns
  have hlk := B.notSynchronized
  have hS : va_S (wA w) st.heap st.heap [] := va_S.rf
  have hl := lv_entry ([.int (oI x0)]) (n := 1) (Nat.le_of_ble_eq_true rfl)
  have hfr := lg_entry_eq m ([.int (oI x0)]) 1
  rw [← hargs] at hfr
  rw [hfr]
  generalize (lg_sl ([.int (oI x0)]) ++ List.replicate (1 - (lg_sl ([.int (oI x0)])).length) Slot.unset).toArray = ls at hl ⊢
  have hl : lv_has ls 1 [(0, .int (oI x0))] := hl
  unfold wp_House_itemOf at h
  refine lv_iload_n X.1 X.2.1 dX1_itemOf_0 rfl (lv_at hl 0 rfl) ?_
  refine w_if_ne (tgt := 8) X rx0 dX1_itemOf_1 (by decide) (fun hc => ?_) (fun hc => ?_)
  · have h := h.1 hc
    refine lv_bipush (v := oI 32) X.1 X.2.1 dX1_itemOf_8 (by decide) ?_
    refine lv_iload_n X.1 X.2.1 dX1_itemOf_10 rfl (lv_at hl 0 rfl) ?_
    refine wr_I (rS (As := [.int (oI x0)]) (rest := [.int (oI 32)]) X hT hW hS (met_House_eights l (w := w) x0 _ σ rx0 h) (va_cwS 1 X.2.2.2.2 (lw_S q1230 q364 q131 q365) rfl rfl rfl (by decide +kernel) ⟨Nat.le_of_ble_eq_true rfl, Nat.le_of_ble_eq_true rfl⟩) rfl hl.1 rfl (by first | exact Nat.le_of_ble_eq_true rfl | simp [catK, catI, catR, catL]) dX1_itemOf_11 ⟨Nat.le_refl _, Nat.le_refl _⟩) hS (fun r_3 σ_4 H locs rr_3 rkσ_4 h hWσ_4 hS => ?_)
    have h := h rr_3 rkσ_4
    refine w_iadd X dX1_itemOf_14 ?_
    refine lv_sipush (v := oI 192) X.1 X.2.1 dX1_itemOf_15 (by decide) ?_
    refine w_iadd X dX1_itemOf_18 ?_
    exact wret_I X hr hlk hWσ_4 hS (w32_r _) h dX1_itemOf_19
  · have h := h.2 hc
    refine lv_iconst (v := oI 0) X.1 X.2.1 dX1_itemOf_4 rfl ?_
    refine lv_goto (tgt := 19) X.1 X.2.1 dX1_itemOf_5 (by decide) ?_
    exact wret_I X hr hlk hW hS rZ_0.i h dX1_itemOf_19
/-! House.begin()V -/
set_option maxHeartbeats 4000000 in
set_option maxRecDepth 100000 in
theorem met_House_begin (l : Launch) {w : Wp} (hV : Hvl w) (Q : St → Prop) (σ : St) (h : wp_House_begin (wc w) (wtv w) Q σ) : Met l yX1_begin (ws_ yX1_begin cX1_begin 1 none) rm_House_begin (PcW w σ [.ref (wad w 1 0)]) (QcV w Q) 0 0 (wA w) := by
  refine Met.ofW (cc := cX1_begin) (maxL := 1) (ret := none) (by decide) rfl ?_
  intro p e st m args below meth c s₁ B hml hv
  obtain ⟨hargs, hW, hT⟩ := hv
  have X : CallFix p m c cX1_begin 1 st _ lw_all RX1 := ⟨B.exec, B.bytes, hml, findClass_of_methodNamed B.named, fun w h => atoms_spec (ws := ws_ yX1_begin cX1_begin 1 none) B.pre w (List.mem_cons_of_mem _ h)⟩
  have hr := B.returns
  have hlk := B.notSynchronized
  have hS : va_S (wA w) st.heap st.heap [] := va_S.rf
  have vl1_0 : vl w 1 0 := hV.hv 1 rfl ⟨by omega, by show _ < (1 : Int); omega⟩
  have vl8_6 : vl w 8 6 := hV.hv 8 rfl ⟨by omega, by show _ < (8 : Int); omega⟩
  have hl := lv_entry ([.ref (wad w 1 0)]) (n := 1) (Nat.le_of_ble_eq_true rfl)
  have hfr := lg_entry_eq m ([.ref (wad w 1 0)]) 1
  rw [← hargs] at hfr
  rw [hfr]
  generalize (lg_sl ([.ref (wad w 1 0)]) ++ List.replicate (1 - (lg_sl ([.ref (wad w 1 0)])).length) Slot.unset).toArray = ls at hl ⊢
  have hl : lv_has ls 1 [(0, .ref (wad w 1 0))] := hl
  unfold wp_House_begin at h
  refine lv_aload_n X.1 X.2.1 dX1_begin_0 rfl (lv_at hl 0 rfl) ?_
  refine wg (v := .ref (wad w 8 6)) X hT hW 1 11 75 vl1_0 rfl rfl (by decide) rfl (by decide) in_X1 q1081 rfl dX1_begin_1 ?_
  refine wr_V (rV (As := []) (rest := []) X hT hW hS (met_Row_clear l (w := w) hV 6 _ σ (by omega) h) (cwV 0 X.2.2.2.2 (lw_V q1235 q737 q738 q132 q739) rfl rfl rfl (by decide +kernel) ⟨Nat.le_of_ble_eq_true rfl, Nat.le_of_ble_eq_true rfl⟩) vl8_6 (by decide) rfl rfl hl.1 rfl (by first | exact Nat.le_of_ble_eq_true rfl | simp [catK, catI, catR, catL]) dX1_begin_4 ⟨Nat.le_refl _, Nat.le_refl _⟩) hS (fun σ_4 H locs rkσ_4 h hWσ_4 hS => ?_)
  have h := h rkσ_4
  exact wret_V X hr hlk hWσ_4 hS h dX1_begin_7
/-! House.addEntry(IJII)V -/
set_option maxHeartbeats 4000000 in
set_option maxRecDepth 100000 in
theorem met_House_addEntry (l : Launch) {w : Wp} (hV : Hvl w) (x1 : Int) (x2 : Int) (x4 : Int) (x5 : Int) (Q : St → Prop) (σ : St) (rx1 : rI x1) (rx2 : rJ x2) (rx4 : rI x4) (rx5 : rI x5) (h : wp_House_addEntry (wc w) (wtv w) x1 x2 x4 x5 Q σ) : Met l yX1_addEntry (ws_ yX1_addEntry cX1_addEntry 6 none) rm_House_addEntry (PcW w σ [.ref (wad w 1 0), .int (oI x1), .long (oL x2), .int (oI x4), .int (oI x5)]) (QcV w Q) 0 0 (wA w) := by
  refine Met.ofW (cc := cX1_addEntry) (maxL := 6) (ret := none) (by decide) rfl ?_
  intro p e st m args below meth c s₁ B hml hv
  obtain ⟨hargs, hW, hT⟩ := hv
  have X : CallFix p m c cX1_addEntry 6 st _ lw_all RX1 := ⟨B.exec, B.bytes, hml, findClass_of_methodNamed B.named, fun w h => atoms_spec (ws := ws_ yX1_addEntry cX1_addEntry 6 none) B.pre w (List.mem_cons_of_mem _ h)⟩
  have hr := B.returns
  have hlk := B.notSynchronized
  have hS : va_S (wA w) st.heap st.heap [] := va_S.rf
  have vl1_0 : vl w 1 0 := hV.hv 1 rfl ⟨by omega, by show _ < (1 : Int); omega⟩
  have vl8_6 : vl w 8 6 := hV.hv 8 rfl ⟨by omega, by show _ < (8 : Int); omega⟩
  have hl := lv_entry ([.ref (wad w 1 0), .int (oI x1), .long (oL x2), .int (oI x4), .int (oI x5)]) (n := 6) (Nat.le_of_ble_eq_true rfl)
  have hfr := lg_entry_eq m ([.ref (wad w 1 0), .int (oI x1), .long (oL x2), .int (oI x4), .int (oI x5)]) 6
  rw [← hargs] at hfr
  rw [hfr]
  generalize (lg_sl ([.ref (wad w 1 0), .int (oI x1), .long (oL x2), .int (oI x4), .int (oI x5)]) ++ List.replicate (6 - (lg_sl ([.ref (wad w 1 0), .int (oI x1), .long (oL x2), .int (oI x4), .int (oI x5)])).length) Slot.unset).toArray = ls at hl ⊢
  have hl : lv_has ls 6 [(0, .ref (wad w 1 0)), (1, .int (oI x1)), (2, .long (oL x2)), (4, .int (oI x4)), (5, .int (oI x5))] := hl
  unfold wp_House_addEntry at h
  refine lv_aload_n X.1 X.2.1 dX1_addEntry_0 rfl (lv_at hl 0 rfl) ?_
  refine wg (v := .ref (wad w 8 6)) X hT hW 1 11 75 vl1_0 rfl rfl (by decide) rfl (by decide) in_X1 q1081 rfl dX1_addEntry_1 ?_
  refine lv_iconst (v := oI 2) X.1 X.2.1 dX1_addEntry_4 rfl ?_
  refine lv_bipush (v := oI 48) X.1 X.2.1 dX1_addEntry_5 (by decide) ?_
  refine wr_R (rV (As := [.int (oI 2), .int (oI 48)]) (rest := []) X hT hW hS (met_Row_begin l (w := w) hV 6 2 48 _ σ (by omega) ((rB_lit 2 (by decide)).i) ((rB_lit 48 (by decide)).i) h) (cwV 2 X.2.2.2.2 (lw_V q1240 q741 q742 q132 q743) rfl rfl rfl (by decide +kernel) ⟨Nat.le_of_ble_eq_true rfl, Nat.le_of_ble_eq_true rfl⟩) vl8_6 (by decide) rfl rfl hl.1 rfl (by first | exact Nat.le_of_ble_eq_true rfl | simp [catK, catI, catR, catL]) dX1_addEntry_7 ⟨Nat.le_refl _, Nat.le_refl _⟩) hS (fun σ_14 H locs rkσ_14 h hWσ_14 hS => ?_)
  have h := h rkσ_14
  refine lv_iconst (v := oI 0) X.1 X.2.1 dX1_addEntry_10 rfl ?_
  refine lv_iload_n X.1 X.2.1 dX1_addEntry_11 rfl (lv_at hl 1 rfl) ?_
  refine wr_R (rV (As := [.int (oI 0), .int (oI x1)]) (rest := []) X hT hWσ_14 hS (met_Row_put l (w := w) hV 6 0 x1 _ σ_14 (by omega) rZ_0.i rx1 h) (cwV 2 X.2.2.2.2 (lw_V q1241 q748 q749 q132 q750) rfl rfl rfl (by decide +kernel) ⟨Nat.le_of_ble_eq_true rfl, Nat.le_of_ble_eq_true rfl⟩) vl8_6 (by decide) rfl rfl hl.1 rfl (by first | exact Nat.le_of_ble_eq_true rfl | simp [catK, catI, catR, catL]) dX1_addEntry_12 ⟨Nat.le_refl _, Nat.le_refl _⟩) hS (fun σ_16 H locs rkσ_16 h hWσ_16 hS => ?_)
  have h := h rkσ_16
  refine lv_iconst (v := oI 4) X.1 X.2.1 dX1_addEntry_15 rfl ?_
  refine lv_iload X.1 X.2.1 dX1_addEntry_16 (lv_at hl 3 rfl) ?_
  refine wr_R (rV (As := [.int (oI 4), .int (oI x4)]) (rest := []) X hT hWσ_16 hS (met_Row_put l (w := w) hV 6 4 x4 _ σ_16 (by omega) ((rB_lit 4 (by decide)).i) rx4 h) (cwV 2 X.2.2.2.2 (lw_V q1241 q748 q749 q132 q750) rfl rfl rfl (by decide +kernel) ⟨Nat.le_of_ble_eq_true rfl, Nat.le_of_ble_eq_true rfl⟩) vl8_6 (by decide) rfl rfl hl.1 rfl (by first | exact Nat.le_of_ble_eq_true rfl | simp [catK, catI, catR, catL]) dX1_addEntry_18 ⟨Nat.le_refl _, Nat.le_refl _⟩) hS (fun σ_18 H locs rkσ_18 h hWσ_18 hS => ?_)
  have h := h rkσ_18
  refine lv_bipush (v := oI 8) X.1 X.2.1 dX1_addEntry_21 (by decide) ?_
  refine lv_lload_n X.1 X.2.1 dX1_addEntry_23 rfl (lv_at hl 2 rfl) ?_
  refine wr_R (rV (As := [.int (oI 8), .long (oL x2)]) (rest := []) X hT hWσ_18 hS (met_Row_putLongAt l (w := w) hV 6 8 x2 _ σ_18 (by omega) ((rB_lit 8 (by decide)).i) rx2 h) (cwV 2 X.2.2.2.2 (lw_V q1242 q980 q981 q132 q982) rfl rfl rfl (by decide +kernel) ⟨Nat.le_of_ble_eq_true rfl, Nat.le_of_ble_eq_true rfl⟩) vl8_6 (by decide) rfl rfl hl.1 rfl (by first | exact Nat.le_of_ble_eq_true rfl | simp [catK, catI, catR, catL]) dX1_addEntry_24 ⟨Nat.le_refl _, Nat.le_refl _⟩) hS (fun σ_20 H locs rkσ_20 h hWσ_20 hS => ?_)
  have h := h rkσ_20
  refine lv_bipush (v := oI 16) X.1 X.2.1 dX1_addEntry_27 (by decide) ?_
  refine lv_iload X.1 X.2.1 dX1_addEntry_29 (lv_at hl 4 rfl) ?_
  refine wr_R (rV (As := [.int (oI 16), .int (oI x5)]) (rest := []) X hT hWσ_20 hS (met_Row_put l (w := w) hV 6 16 x5 _ σ_20 (by omega) ((rB_lit 16 (by decide)).i) rx5 h) (cwV 2 X.2.2.2.2 (lw_V q1241 q748 q749 q132 q750) rfl rfl rfl (by decide +kernel) ⟨Nat.le_of_ble_eq_true rfl, Nat.le_of_ble_eq_true rfl⟩) vl8_6 (by decide) rfl rfl hl.1 rfl (by first | exact Nat.le_of_ble_eq_true rfl | simp [catK, catI, catR, catL]) dX1_addEntry_31 ⟨Nat.le_refl _, Nat.le_refl _⟩) hS (fun σ_22 H locs rkσ_22 h hWσ_22 hS => ?_)
  have h := h rkσ_22
  refine lv_pop X.1 X.2.1 dX1_addEntry_34 rfl ?_
  refine lv_aload_n X.1 X.2.1 dX1_addEntry_35 rfl (lv_at hl 0 rfl) ?_
  refine wg (v := .ref (wad w 8 6)) X hT hWσ_22 1 11 75 vl1_0 rfl rfl (by decide) rfl (by decide) in_X1 q1081 rfl dX1_addEntry_36 ?_
  refine lv_lconst (v := oL 0) X.1 X.2.1 dX1_addEntry_39 (by decide) ?_
  refine lv_iconst (v := oI 0) X.1 X.2.1 dX1_addEntry_40 rfl ?_
  refine wr_V (rV (As := [.long (oL 0), .int (oI 0)]) (rest := []) X hT hWσ_22 hS (met_Row_close l (w := w) hV 6 0 0 _ σ_22 (by omega) (rJ_lit 0 (by decide)) rZ_0 h) (cwV 2 X.2.2.2.2 (lw_V q1243 q756 q757 q132 q758) rfl rfl rfl (by decide +kernel) ⟨Nat.le_of_ble_eq_true rfl, Nat.le_of_ble_eq_true rfl⟩) vl8_6 (by decide) rfl rfl hl.1 rfl (by first | exact Nat.le_of_ble_eq_true rfl | simp [catK, catI, catR, catL]) dX1_addEntry_41 ⟨Nat.le_refl _, Nat.le_refl _⟩) hS (fun σ_24 H locs rkσ_24 h hWσ_24 hS => ?_)
  have h := h rkσ_24
  exact wret_V X hr hlk hWσ_24 hS h dX1_addEntry_44
/-! House.addInode(LNandHouse$Inode;Z)V -/
set_option maxHeartbeats 4000000 in
set_option maxRecDepth 100000 in
theorem met_House_addInode (l : Launch) {w : Wp} (hV : Hvl w) (x1 : Int) (x2 : Int) (Q : St → Prop) (σ : St) (hx1 : 0 ≤ x1 ∧ x1 < 4) (rx2 : rZ x2) (h : wp_House_addInode (wc w) (wtv w) x1 x2 Q σ) : Met l yX1_addInode (ws_ yX1_addInode cX1_addInode 3 none) rm_House_addInode (PcW w σ [.ref (wad w 1 0), .ref (wad w 10 x1), .int (oI x2)]) (QcV w Q) 0 0 (wA w) := by
  refine Met.ofW (cc := cX1_addInode) (maxL := 3) (ret := none) (by decide) rfl ?_
  intro p e st m args below meth c s₁ B hml hv
  obtain ⟨hargs, hW, hT⟩ := hv
  have X : CallFix p m c cX1_addInode 3 st _ lw_all RX1 := ⟨B.exec, B.bytes, hml, findClass_of_methodNamed B.named, fun w h => atoms_spec (ws := ws_ yX1_addInode cX1_addInode 3 none) B.pre w (List.mem_cons_of_mem _ h)⟩
  have hr := B.returns
  have hlk := B.notSynchronized
  have hS : va_S (wA w) st.heap st.heap [] := va_S.rf
  have vl1_0 : vl w 1 0 := hV.hv 1 rfl ⟨by omega, by show _ < (1 : Int); omega⟩
  have vl10_x1 : vl w 10 x1 := hV.hv 10 rfl ⟨by omega, by show _ < (4 : Int); omega⟩
  have vl8_6 : vl w 8 6 := hV.hv 8 rfl ⟨by omega, by show _ < (8 : Int); omega⟩
  have hl := lv_entry ([.ref (wad w 1 0), .ref (wad w 10 x1), .int (oI x2)]) (n := 3) (Nat.le_of_ble_eq_true rfl)
  have hfr := lg_entry_eq m ([.ref (wad w 1 0), .ref (wad w 10 x1), .int (oI x2)]) 3
  rw [← hargs] at hfr
  rw [hfr]
  generalize (lg_sl ([.ref (wad w 1 0), .ref (wad w 10 x1), .int (oI x2)]) ++ List.replicate (3 - (lg_sl ([.ref (wad w 1 0), .ref (wad w 10 x1), .int (oI x2)])).length) Slot.unset).toArray = ls at hl ⊢
  have hl : lv_has ls 3 [(0, .ref (wad w 1 0)), (1, .ref (wad w 10 x1)), (2, .int (oI x2))] := hl
  unfold wp_House_addInode at h
  refine lv_aload_n X.1 X.2.1 dX1_addInode_0 rfl (lv_at hl 0 rfl) ?_
  refine wg (v := .ref (wad w 8 6)) X hT hW 1 11 75 vl1_0 rfl rfl (by decide) rfl (by decide) in_X1 q1081 rfl dX1_addInode_1 ?_
  refine lv_iconst (v := oI 1) X.1 X.2.1 dX1_addInode_4 rfl ?_
  refine lv_bipush (v := oI 48) X.1 X.2.1 dX1_addInode_5 (by decide) ?_
  refine wr_R (rV (As := [.int (oI 1), .int (oI 48)]) (rest := []) X hT hW hS (met_Row_begin l (w := w) hV 6 1 48 _ σ (by omega) rZ_1.i ((rB_lit 48 (by decide)).i) h) (cwV 2 X.2.2.2.2 (lw_V q1240 q741 q742 q132 q743) rfl rfl rfl (by decide +kernel) ⟨Nat.le_of_ble_eq_true rfl, Nat.le_of_ble_eq_true rfl⟩) vl8_6 (by decide) rfl rfl hl.1 rfl (by first | exact Nat.le_of_ble_eq_true rfl | simp [catK, catI, catR, catL]) dX1_addInode_7 ⟨Nat.le_refl _, Nat.le_refl _⟩) hS (fun σ_18 H locs rkσ_18 h hWσ_18 hS => ?_)
  have h := h rkσ_18
  refine lv_iconst (v := oI 0) X.1 X.2.1 dX1_addInode_10 rfl ?_
  refine lv_aload_n X.1 X.2.1 dX1_addInode_11 rfl (lv_at hl 1 rfl) ?_
  refine wg (v := .int (oI (gI σ_18 640 x1))) X hT hWσ_18 10 0 640 vl10_x1 rfl rfl (by decide) rfl (by decide) in_X3 q189 rfl dX1_addInode_12 ?_
  refine wr_R (rV (As := [.int (oI 0), .int (oI (gI σ_18 640 x1))]) (rest := []) X hT hWσ_18 hS (met_Row_put l (w := w) hV 6 0 (gI σ_18 640 x1) _ σ_18 (by omega) rZ_0.i (hWσ_18.r.i 640 x1 rfl) h) (cwV 2 X.2.2.2.2 (lw_V q1241 q748 q749 q132 q750) rfl rfl rfl (by decide +kernel) ⟨Nat.le_of_ble_eq_true rfl, Nat.le_of_ble_eq_true rfl⟩) vl8_6 (by decide) rfl rfl hl.1 rfl (by first | exact Nat.le_of_ble_eq_true rfl | simp [catK, catI, catR, catL]) dX1_addInode_15 ⟨Nat.le_refl _, Nat.le_refl _⟩) hS (fun σ_20 H locs rkσ_20 h hWσ_20 hS => ?_)
  have h := h rkσ_20
  refine lv_iconst (v := oI 4) X.1 X.2.1 dX1_addInode_18 rfl ?_
  refine lv_aload_n X.1 X.2.1 dX1_addInode_19 rfl (lv_at hl 1 rfl) ?_
  refine wg (v := .int (oI (gI σ_20 641 x1))) X hT hWσ_20 10 1 641 vl10_x1 rfl rfl (by decide) rfl (by decide) in_X3 q190 rfl dX1_addInode_20 ?_
  refine wr_R (rV (As := [.int (oI 4), .int (oI (gI σ_20 641 x1))]) (rest := []) X hT hWσ_20 hS (met_Row_put l (w := w) hV 6 4 (gI σ_20 641 x1) _ σ_20 (by omega) ((rB_lit 4 (by decide)).i) (hWσ_20.r.i 641 x1 rfl) h) (cwV 2 X.2.2.2.2 (lw_V q1241 q748 q749 q132 q750) rfl rfl rfl (by decide +kernel) ⟨Nat.le_of_ble_eq_true rfl, Nat.le_of_ble_eq_true rfl⟩) vl8_6 (by decide) rfl rfl hl.1 rfl (by first | exact Nat.le_of_ble_eq_true rfl | simp [catK, catI, catR, catL]) dX1_addInode_23 ⟨Nat.le_refl _, Nat.le_refl _⟩) hS (fun σ_22 H locs rkσ_22 h hWσ_22 hS => ?_)
  have h := h rkσ_22
  refine lv_bipush (v := oI 8) X.1 X.2.1 dX1_addInode_26 (by decide) ?_
  refine lv_aload_n X.1 X.2.1 dX1_addInode_28 rfl (lv_at hl 1 rfl) ?_
  refine wg (v := .int (oI (gI σ_22 642 x1))) X hT hWσ_22 10 2 642 vl10_x1 rfl rfl (by decide) rfl (by decide) in_X3 q191 rfl dX1_addInode_29 ?_
  refine wr_R (rV (As := [.int (oI 8), .int (oI (gI σ_22 642 x1))]) (rest := []) X hT hWσ_22 hS (met_Row_put l (w := w) hV 6 8 (gI σ_22 642 x1) _ σ_22 (by omega) ((rB_lit 8 (by decide)).i) (hWσ_22.r.i 642 x1 rfl) h) (cwV 2 X.2.2.2.2 (lw_V q1241 q748 q749 q132 q750) rfl rfl rfl (by decide +kernel) ⟨Nat.le_of_ble_eq_true rfl, Nat.le_of_ble_eq_true rfl⟩) vl8_6 (by decide) rfl rfl hl.1 rfl (by first | exact Nat.le_of_ble_eq_true rfl | simp [catK, catI, catR, catL]) dX1_addInode_32 ⟨Nat.le_refl _, Nat.le_refl _⟩) hS (fun σ_24 H locs rkσ_24 h hWσ_24 hS => ?_)
  have h := h rkσ_24
  refine lv_bipush (v := oI 12) X.1 X.2.1 dX1_addInode_35 (by decide) ?_
  refine lv_aload_n X.1 X.2.1 dX1_addInode_37 rfl (lv_at hl 1 rfl) ?_
  refine wg (v := .int (oI (gI σ_24 643 x1))) X hT hWσ_24 10 3 643 vl10_x1 rfl rfl (by decide) rfl (by decide) in_X3 q192 rfl dX1_addInode_38 ?_
  refine wr_R (rV (As := [.int (oI 12), .int (oI (gI σ_24 643 x1))]) (rest := []) X hT hWσ_24 hS (met_Row_put l (w := w) hV 6 12 (gI σ_24 643 x1) _ σ_24 (by omega) ((rB_lit 12 (by decide)).i) (hWσ_24.r.i 643 x1 rfl) h) (cwV 2 X.2.2.2.2 (lw_V q1241 q748 q749 q132 q750) rfl rfl rfl (by decide +kernel) ⟨Nat.le_of_ble_eq_true rfl, Nat.le_of_ble_eq_true rfl⟩) vl8_6 (by decide) rfl rfl hl.1 rfl (by first | exact Nat.le_of_ble_eq_true rfl | simp [catK, catI, catR, catL]) dX1_addInode_41 ⟨Nat.le_refl _, Nat.le_refl _⟩) hS (fun σ_26 H locs rkσ_26 h hWσ_26 hS => ?_)
  have h := h rkσ_26
  refine lv_bipush (v := oI 16) X.1 X.2.1 dX1_addInode_44 (by decide) ?_
  refine lv_aload_n X.1 X.2.1 dX1_addInode_46 rfl (lv_at hl 1 rfl) ?_
  refine wg (v := .int (oI (gI σ_26 644 x1))) X hT hWσ_26 10 4 644 vl10_x1 rfl rfl (by decide) rfl (by decide) in_X3 q193 rfl dX1_addInode_47 ?_
  refine wr_R (rV (As := [.int (oI 16), .int (oI (gI σ_26 644 x1))]) (rest := []) X hT hWσ_26 hS (met_Row_put l (w := w) hV 6 16 (gI σ_26 644 x1) _ σ_26 (by omega) ((rB_lit 16 (by decide)).i) (hWσ_26.r.i 644 x1 rfl) h) (cwV 2 X.2.2.2.2 (lw_V q1241 q748 q749 q132 q750) rfl rfl rfl (by decide +kernel) ⟨Nat.le_of_ble_eq_true rfl, Nat.le_of_ble_eq_true rfl⟩) vl8_6 (by decide) rfl rfl hl.1 rfl (by first | exact Nat.le_of_ble_eq_true rfl | simp [catK, catI, catR, catL]) dX1_addInode_50 ⟨Nat.le_refl _, Nat.le_refl _⟩) hS (fun σ_28 H locs rkσ_28 h hWσ_28 hS => ?_)
  have h := h rkσ_28
  refine lv_bipush (v := oI 20) X.1 X.2.1 dX1_addInode_53 (by decide) ?_
  refine lv_aload_n X.1 X.2.1 dX1_addInode_55 rfl (lv_at hl 1 rfl) ?_
  refine wg (v := .int (oI (gI σ_28 645 x1))) X hT hWσ_28 10 5 645 vl10_x1 rfl rfl (by decide) rfl (by decide) in_X3 q194 rfl dX1_addInode_56 ?_
  refine wr_R (rV (As := [.int (oI 20), .int (oI (gI σ_28 645 x1))]) (rest := []) X hT hWσ_28 hS (met_Row_put l (w := w) hV 6 20 (gI σ_28 645 x1) _ σ_28 (by omega) ((rB_lit 20 (by decide)).i) (hWσ_28.r.i 645 x1 rfl) h) (cwV 2 X.2.2.2.2 (lw_V q1241 q748 q749 q132 q750) rfl rfl rfl (by decide +kernel) ⟨Nat.le_of_ble_eq_true rfl, Nat.le_of_ble_eq_true rfl⟩) vl8_6 (by decide) rfl rfl hl.1 rfl (by first | exact Nat.le_of_ble_eq_true rfl | simp [catK, catI, catR, catL]) dX1_addInode_59 ⟨Nat.le_refl _, Nat.le_refl _⟩) hS (fun σ_30 H locs rkσ_30 h hWσ_30 hS => ?_)
  have h := h rkσ_30
  refine lv_pop X.1 X.2.1 dX1_addInode_62 rfl ?_
  refine lv_aload_n X.1 X.2.1 dX1_addInode_63 rfl (lv_at hl 0 rfl) ?_
  refine wg (v := .ref (wad w 8 6)) X hT hWσ_30 1 11 75 vl1_0 rfl rfl (by decide) rfl (by decide) in_X1 q1081 rfl dX1_addInode_64 ?_
  refine lv_lconst (v := oL 0) X.1 X.2.1 dX1_addInode_67 (by decide) ?_
  refine lv_iload_n X.1 X.2.1 dX1_addInode_68 rfl (lv_at hl 2 rfl) ?_
  refine wr_V (rV (As := [.long (oL 0), .int (oI x2)]) (rest := []) X hT hWσ_30 hS (met_Row_close l (w := w) hV 6 0 x2 _ σ_30 (by omega) (rJ_lit 0 (by decide)) rx2 h) (cwV 2 X.2.2.2.2 (lw_V q1243 q756 q757 q132 q758) rfl rfl rfl (by decide +kernel) ⟨Nat.le_of_ble_eq_true rfl, Nat.le_of_ble_eq_true rfl⟩) vl8_6 (by decide) rfl rfl hl.1 rfl (by first | exact Nat.le_of_ble_eq_true rfl | simp [catK, catI, catR, catL]) dX1_addInode_69 ⟨Nat.le_refl _, Nat.le_refl _⟩) hS (fun σ_32 H locs rkσ_32 h hWσ_32 hS => ?_)
  have h := h rkσ_32
  exact wret_V X hr hlk hWσ_32 hS h dX1_addInode_72
/-! House.addPiece(III)V -/
set_option maxHeartbeats 4000000 in
set_option maxRecDepth 100000 in
theorem met_House_addPiece (l : Launch) {w : Wp} (hV : Hvl w) (x1 : Int) (x2 : Int) (x3 : Int) (Q : St → Prop) (σ : St) (rx1 : rI x1) (rx2 : rI x2) (rx3 : rI x3) (h : wp_House_addPiece (wc w) (wtv w) x1 x2 x3 Q σ) : Met l yX1_addPiece (ws_ yX1_addPiece cX1_addPiece 4 none) rm_House_addPiece (PcW w σ [.ref (wad w 1 0), .int (oI x1), .int (oI x2), .int (oI x3)]) (QcV w Q) 0 0 (wA w) := by
  refine Met.ofW (cc := cX1_addPiece) (maxL := 4) (ret := none) (by decide) rfl ?_
  intro p e st m args below meth c s₁ B hml hv
  obtain ⟨hargs, hW, hT⟩ := hv
  have X : CallFix p m c cX1_addPiece 4 st _ lw_all RX1 := ⟨B.exec, B.bytes, hml, findClass_of_methodNamed B.named, fun w h => atoms_spec (ws := ws_ yX1_addPiece cX1_addPiece 4 none) B.pre w (List.mem_cons_of_mem _ h)⟩
  have hr := B.returns
  have hlk := B.notSynchronized
  have hS : va_S (wA w) st.heap st.heap [] := va_S.rf
  have vl1_0 : vl w 1 0 := hV.hv 1 rfl ⟨by omega, by show _ < (1 : Int); omega⟩
  have vl512_6 : vl w 512 6 := hV.hv 512 rfl ⟨by omega, by show _ < (8 : Int); omega⟩
  have vl77_0 : vl w 77 0 := hV.hv 77 rfl ⟨by omega, by show _ < (1 : Int); omega⟩
  have vl8_6 : vl w 8 6 := hV.hv 8 rfl ⟨by omega, by show _ < (8 : Int); omega⟩
  have hl := lv_entry ([.ref (wad w 1 0), .int (oI x1), .int (oI x2), .int (oI x3)]) (n := 4) (Nat.le_of_ble_eq_true rfl)
  have hfr := lg_entry_eq m ([.ref (wad w 1 0), .int (oI x1), .int (oI x2), .int (oI x3)]) 4
  rw [← hargs] at hfr
  rw [hfr]
  generalize (lg_sl ([.ref (wad w 1 0), .int (oI x1), .int (oI x2), .int (oI x3)]) ++ List.replicate (4 - (lg_sl ([.ref (wad w 1 0), .int (oI x1), .int (oI x2), .int (oI x3)])).length) Slot.unset).toArray = ls at hl ⊢
  have hl : lv_has ls 4 [(0, .ref (wad w 1 0)), (1, .int (oI x1)), (2, .int (oI x2)), (3, .int (oI x3))] := hl
  unfold wp_House_addPiece at h
  refine lv_aload_n X.1 X.2.1 dX1_addPiece_0 rfl (lv_at hl 0 rfl) ?_
  refine wg (v := .ref (wad w 8 6)) X hT hW 1 11 75 vl1_0 rfl rfl (by decide) rfl (by decide) in_X1 q1081 rfl dX1_addPiece_1 ?_
  refine lv_iconst (v := oI 3) X.1 X.2.1 dX1_addPiece_4 rfl ?_
  refine lv_bipush (v := oI 32) X.1 X.2.1 dX1_addPiece_5 (by decide) ?_
  refine lv_iload_n X.1 X.2.1 dX1_addPiece_7 rfl (lv_at hl 3 rfl) ?_
  refine wr_I (rS (As := [.int (oI x3)]) (rest := [.int (oI 32), .int (oI 3), .ref (wad w 8 6)]) X hT hW hS (met_House_eights l (w := w) x3 _ σ rx3 h) (va_cwS 1 X.2.2.2.2 (lw_S q1230 q364 q131 q365) rfl rfl rfl (by decide +kernel) ⟨Nat.le_of_ble_eq_true rfl, Nat.le_of_ble_eq_true rfl⟩) rfl hl.1 rfl (by first | exact Nat.le_of_ble_eq_true rfl | simp [catK, catI, catR, catL]) dX1_addPiece_8 ⟨Nat.le_refl _, Nat.le_refl _⟩) hS (fun r_12 σ_13 H locs rr_12 rkσ_13 h hWσ_13 hS => ?_)
  have h := h rr_12 rkσ_13
  refine w_iadd X dX1_addPiece_11 ?_
  refine wr_R (rV (As := [.int (oI 3), .int (oI (w32 (32 + r_12)))]) (rest := []) X hT hWσ_13 hS (met_Row_begin l (w := w) hV 6 3 (w32 (32 + r_12)) _ σ_13 (by omega) ((rB_lit 3 (by decide)).i) (w32_r _) h) (cwV 2 X.2.2.2.2 (lw_V q1240 q741 q742 q132 q743) rfl rfl rfl (by decide +kernel) ⟨Nat.le_of_ble_eq_true rfl, Nat.le_of_ble_eq_true rfl⟩) vl8_6 (by decide) rfl rfl hl.1 rfl (by first | exact Nat.le_of_ble_eq_true rfl | simp [catK, catI, catR, catL]) dX1_addPiece_12 ⟨Nat.le_refl _, Nat.le_refl _⟩) hS (fun σ_15 H locs rkσ_15 h hWσ_15 hS => ?_)
  have h := h rkσ_15
  refine lv_iconst (v := oI 0) X.1 X.2.1 dX1_addPiece_15 rfl ?_
  refine lv_iload_n X.1 X.2.1 dX1_addPiece_16 rfl (lv_at hl 1 rfl) ?_
  refine wr_R (rV (As := [.int (oI 0), .int (oI x1)]) (rest := []) X hT hWσ_15 hS (met_Row_put l (w := w) hV 6 0 x1 _ σ_15 (by omega) rZ_0.i rx1 h) (cwV 2 X.2.2.2.2 (lw_V q1241 q748 q749 q132 q750) rfl rfl rfl (by decide +kernel) ⟨Nat.le_of_ble_eq_true rfl, Nat.le_of_ble_eq_true rfl⟩) vl8_6 (by decide) rfl rfl hl.1 rfl (by first | exact Nat.le_of_ble_eq_true rfl | simp [catK, catI, catR, catL]) dX1_addPiece_17 ⟨Nat.le_refl _, Nat.le_refl _⟩) hS (fun σ_17 H locs rkσ_17 h hWσ_17 hS => ?_)
  have h := h rkσ_17
  refine lv_iconst (v := oI 4) X.1 X.2.1 dX1_addPiece_20 rfl ?_
  refine lv_iload_n X.1 X.2.1 dX1_addPiece_21 rfl (lv_at hl 2 rfl) ?_
  refine lv_iload_n X.1 X.2.1 dX1_addPiece_22 rfl (lv_at hl 3 rfl) ?_
  refine lv_bipush (v := oI 16) X.1 X.2.1 dX1_addPiece_23 (by decide) ?_
  refine w_ishl X dX1_addPiece_25 ?_
  refine w_ior X dX1_addPiece_26 ?_
  refine wr_R (rV (As := [.int (oI 4), .int (oI (ior x2 (ishl x3 16)))]) (rest := []) X hT hWσ_17 hS (met_Row_put l (w := w) hV 6 4 (ior x2 (ishl x3 16)) _ σ_17 (by omega) ((rB_lit 4 (by decide)).i) (ior_r _ _) h) (cwV 2 X.2.2.2.2 (lw_V q1241 q748 q749 q132 q750) rfl rfl rfl (by decide +kernel) ⟨Nat.le_of_ble_eq_true rfl, Nat.le_of_ble_eq_true rfl⟩) vl8_6 (by decide) rfl rfl hl.1 rfl (by first | exact Nat.le_of_ble_eq_true rfl | simp [catK, catI, catR, catL]) dX1_addPiece_27 ⟨Nat.le_refl _, Nat.le_refl _⟩) hS (fun σ_19 H locs rkσ_19 h hWσ_19 hS => ?_)
  have h := h rkσ_19
  refine lv_pop X.1 X.2.1 dX1_addPiece_30 rfl ?_
  refine lv_aload_n X.1 X.2.1 dX1_addPiece_31 rfl (lv_at hl 0 rfl) ?_
  refine wg (v := .ref (wad w 77 0)) X hT hWσ_19 1 13 77 vl1_0 rfl rfl (by decide) rfl (by decide) in_X1 q1083 rfl dX1_addPiece_32 ?_
  refine lv_iconst (v := oI 0) X.1 X.2.1 dX1_addPiece_35 rfl ?_
  refine lv_aload_n X.1 X.2.1 dX1_addPiece_36 rfl (lv_at hl 0 rfl) ?_
  refine wg (v := .ref (wad w 8 6)) X hT hWσ_19 1 11 75 vl1_0 rfl rfl (by decide) rfl (by decide) in_X1 q1081 rfl dX1_addPiece_37 ?_
  refine wg (v := .ref (wad w 512 6)) X hT hWσ_19 8 0 512 vl8_6 rfl rfl (by decide) rfl (by decide) in_X2 q167 rfl dX1_addPiece_40 ?_
  refine lv_aload_n X.1 X.2.1 dX1_addPiece_43 rfl (lv_at hl 0 rfl) ?_
  refine wg (v := .ref (wad w 8 6)) X hT hWσ_19 1 11 75 vl1_0 rfl rfl (by decide) rfl (by decide) in_X1 q1081 rfl dX1_addPiece_44 ?_
  refine wg (v := .int (oI (gI σ_19 513 6))) X hT hWσ_19 8 1 513 vl8_6 rfl rfl (by decide) rfl (by decide) in_X2 q170 rfl dX1_addPiece_47 ?_
  refine lv_bipush (v := oI 32) X.1 X.2.1 dX1_addPiece_50 (by decide) ?_
  refine w_iadd X dX1_addPiece_52 ?_
  refine lv_iload_n X.1 X.2.1 dX1_addPiece_53 rfl (lv_at hl 3 rfl) ?_
  obtain ⟨bi, h⟩ := h
  refine w_copy (nf := 64) (ng := (rowL 6)) (sp := 0) (dp := w32 ((gI σ_19 513 6) + 32)) (n := x3) X hT hWσ_19 hS hl.1 77 512 vl77_0 vl512_6 (by decide) (by decide) rfl rfl rfl rfl bi q1248 q699 q698 q142 (Nat.le_of_ble_eq_true rfl) (Nat.le_of_ble_eq_true rfl) dX1_addPiece_54 (fun H locs hN hS => ?_)
  obtain ⟨σ_20, eσ_20⟩ : ∃ x, x = sAr σ_19 512 6 (cpy (gA σ_19 77 0) (gA σ_19 512 6) 0 (w32 ((gI σ_19 513 6) + 32)) x3) := ⟨_, rfl⟩
  have hWσ_20 : Wo w σ_20 H := eσ_20 ▸ hN
  have h := h σ_20 eσ_20
  clear hN
  refine lv_aload_n X.1 X.2.1 dX1_addPiece_57 rfl (lv_at hl 0 rfl) ?_
  refine wg (v := .ref (wad w 8 6)) X hT hWσ_20 1 11 75 vl1_0 rfl rfl (by decide) rfl (by decide) in_X1 q1081 rfl dX1_addPiece_58 ?_
  refine lv_lconst (v := oL 0) X.1 X.2.1 dX1_addPiece_61 (by decide) ?_
  refine lv_iconst (v := oI 0) X.1 X.2.1 dX1_addPiece_62 rfl ?_
  refine wr_V (rV (As := [.long (oL 0), .int (oI 0)]) (rest := []) X hT hWσ_20 hS (met_Row_close l (w := w) hV 6 0 0 _ σ_20 (by omega) (rJ_lit 0 (by decide)) rZ_0 h) (cwV 2 X.2.2.2.2 (lw_V q1243 q756 q757 q132 q758) rfl rfl rfl (by decide +kernel) ⟨Nat.le_of_ble_eq_true rfl, Nat.le_of_ble_eq_true rfl⟩) vl8_6 (by decide) rfl rfl hl.1 rfl (by first | exact Nat.le_of_ble_eq_true rfl | simp [catK, catI, catR, catL]) dX1_addPiece_63 ⟨Nat.le_refl _, Nat.le_refl _⟩) hS (fun σ_22 H locs rkσ_22 h hWσ_22 hS => ?_)
  have h := h rkσ_22
  exact wret_V X hr hlk hWσ_22 hS h dX1_addPiece_66
/-! House.hand()V -/
set_option maxHeartbeats 4000000 in
set_option maxRecDepth 100000 in
theorem wk_House_hand_L13B {p : Program} {l : Launch} {e : Env} {st : State} {m : MethodId} {args : Array Value} {below : List Frame} {meth : Method} {c : Code} {w : Wp} {Q : St → Prop} (X : CallFix p m c cX1_hand 3 st args lw_all RX1) (hr : meth.sig.returnType = none) (hlk : meth.locks = false) (hT : Tb w st) (hV : Hvl w) (K13 : Int → St → Prop) (hK13 : ∀ (y1 : Int) (σ : St) (H : Heap) (locs : List Loc) (ls : Array Slot), rI y1 → lv_has ls 3 [(0, .ref (wad w 1 0)), (1, .int (oI y1))] → Wo w σ H → va_S (wA w) st.heap H locs → K13 y1 σ → W p l e (headSpec (ws_ yX1_hand cX1_hand 3 none) rm_House_hand).room st m args below meth c H locs 0 0 (MQ below (QcV w Q) args st 0 0 (wA w)) (F0 m 13 ls [])) : ∀ (y1 : Int) (σ : St) (H : Heap) (locs : List Loc) (ls : Array Slot), rI y1 → lv_has ls 3 [(0, .ref (wad w 1 0)), (1, .int (oI y1))] → Wo w σ H → va_S (wA w) st.heap H locs → wp_House_hand_L13 (wc w) (wtv w) Q K13 y1 σ → W p l e (headSpec (ws_ yX1_hand cX1_hand 3 none) rm_House_hand).room st m args below meth c H locs 0 0 (MQ below (QcV w Q) args st 0 0 (wA w)) (F0 m 13 ls []) := by
  have vl1_0 : vl w 1 0 := hV.hv 1 rfl ⟨by omega, by show _ < (1 : Int); omega⟩
  have vl3_0 : vl w 3 0 := hV.hv 3 rfl ⟨by omega, by show _ < (2 : Int); omega⟩
  have vl8_6 : vl w 8 6 := hV.hv 8 rfl ⟨by omega, by show _ < (8 : Int); omega⟩
  intro y1 σ H locs ls ry1 hl hW hS h
  unfold wp_House_hand_L13 at h
  refine lv_iload_n X.1 X.2.1 dX1_hand_13 rfl (lv_at hl 1 rfl) ?_
  refine lv_aload_n X.1 X.2.1 dX1_hand_14 rfl (lv_at hl 0 rfl) ?_
  refine wg (v := .ref (wad w 8 6)) X hT hW 1 11 75 vl1_0 rfl rfl (by decide) rfl (by decide) in_X1 q1081 rfl dX1_hand_15 ?_
  refine wg (v := .int (oI (gI σ 514 6))) X hT hW 8 2 514 vl8_6 rfl rfl (by decide) rfl (by decide) in_X2 q173 rfl dX1_hand_18 ?_
  refine w_icmp_ge (tgt := 74) X ry1 (hW.r.i 514 6 rfl) dX1_hand_21 (by decide) (fun hc => ?_) (fun hc => ?_)
  · have h := h.1 hc
    exact wret_V X hr hlk hW hS h dX1_hand_74
  · have h := h.2 hc
    refine lv_aload_n X.1 X.2.1 dX1_hand_24 rfl (lv_at hl 0 rfl) ?_
    refine wg (v := .ref (wad w 8 6)) X hT hW 1 11 75 vl1_0 rfl rfl (by decide) rfl (by decide) in_X1 q1081 rfl dX1_hand_25 ?_
    refine lv_iload_n X.1 X.2.1 dX1_hand_28 rfl (lv_at hl 1 rfl) ?_
    refine wput (z := y1) X hT hW hS 8 1 513 vl8_6 rfl rfl (by decide) rfl (by decide) in_X2 tyX2 tyX2_ok nmX2 q170 rfl rfl ry1 (fv0 w rfl) rfl rfl dX1_hand_29 (fun H locs hN hS => ?_)
    obtain ⟨σ_17, eσ_17⟩ : ∃ x, x = sI σ 513 6 y1 := ⟨_, rfl⟩
    have hWσ_17 : Wo w σ_17 H := eσ_17 ▸ hN
    have h := h σ_17 eσ_17
    clear hN
    refine lv_aload_n X.1 X.2.1 dX1_hand_32 rfl (lv_at hl 0 rfl) ?_
    refine wg (v := .ref (wad w 8 6)) X hT hWσ_17 1 11 75 vl1_0 rfl rfl (by decide) rfl (by decide) in_X1 q1081 rfl dX1_hand_33 ?_
    refine wr_I (rV (As := []) (rest := []) X hT hWσ_17 hS (met_Row_length l (w := w) hV 6 _ σ_17 (by omega) h) (cwV 0 X.2.2.2.2 (lw_V q1345 q764 q765 q132 q766) rfl rfl rfl (by decide +kernel) ⟨Nat.le_of_ble_eq_true rfl, Nat.le_of_ble_eq_true rfl⟩) vl8_6 (by decide) rfl rfl hl.1 rfl (by first | exact Nat.le_of_ble_eq_true rfl | simp [catK, catI, catR, catL]) dX1_hand_36 ⟨Nat.le_refl _, Nat.le_refl _⟩) hS (fun r_18 σ_19 H locs rr_18 rkσ_19 h hWσ_19 hS => ?_)
    have h := h rr_18 rkσ_19
    refine lv_istore_n (i := 2) (lv' := [(2, .int (oI r_18)), (0, .ref (wad w 1 0)), (1, .int (oI y1))]) X.1 X.2.1 dX1_hand_39 rfl hl (by decide) (by first | rfl | simp [catK, catI, catR, catL]) (fun ls hl => ?_)
    refine lv_aload_n X.1 X.2.1 dX1_hand_40 rfl (lv_at hl 1 rfl) ?_
    refine wg (v := .ref (wad w 3 0)) X hT hWσ_19 1 1 65 vl1_0 rfl rfl (by decide) rfl (by decide) in_X1 q1071 rfl dX1_hand_41 ?_
    refine lv_aload_n X.1 X.2.1 dX1_hand_44 rfl (lv_at hl 1 rfl) ?_
    refine wg (v := .ref (wad w 8 6)) X hT hWσ_19 1 11 75 vl1_0 rfl rfl (by decide) rfl (by decide) in_X1 q1081 rfl dX1_hand_45 ?_
    refine lv_aload_n X.1 X.2.1 dX1_hand_48 rfl (lv_at hl 1 rfl) ?_
    refine wg (v := .ref (wad w 3 0)) X hT hWσ_19 1 1 65 vl1_0 rfl rfl (by decide) rfl (by decide) in_X1 q1071 rfl dX1_hand_49 ?_
    refine wg (v := .int (oI (gI σ_19 206 0))) X hT hWσ_19 3 14 206 vl3_0 rfl rfl (by decide) rfl (by decide) in_X5 q543 rfl dX1_hand_52 ?_
    refine lv_aload_n X.1 X.2.1 dX1_hand_55 rfl (lv_at hl 1 rfl) ?_
    refine wg (v := .ref (wad w 3 0)) X hT hWσ_19 1 1 65 vl1_0 rfl rfl (by decide) rfl (by decide) in_X1 q1071 rfl dX1_hand_56 ?_
    refine wg (v := .int (oI (gI σ_19 207 0))) X hT hWσ_19 3 15 207 vl3_0 rfl rfl (by decide) rfl (by decide) in_X5 q545 rfl dX1_hand_59 ?_
    refine lv_iload_n X.1 X.2.1 dX1_hand_62 rfl (lv_at hl 2 rfl) ?_
    refine w_iadd X dX1_hand_63 ?_
    refine wr_V (rV (As := [.ref (wad w 8 6), .int (oI (gI σ_19 206 0)), .int (oI (w32 ((gI σ_19 207 0) + y1)))]) (rest := []) X hT hWσ_19 hS (met_Store_apply l (w := w) hV 0 6 (gI σ_19 206 0) (w32 ((gI σ_19 207 0) + y1)) _ σ_19 (by omega) (by omega) (hWσ_19.r.i 206 0 rfl) (w32_r _) h) (cwV 3 X.2.2.2.2 (lw_V q1346 q1347 q1348 q136 q1349) rfl rfl rfl (by decide +kernel) ⟨Nat.le_of_ble_eq_true rfl, Nat.le_of_ble_eq_true rfl⟩) vl3_0 (by decide) rfl rfl hl.1 rfl (by first | exact Nat.le_of_ble_eq_true rfl | simp [catK, catI, catR, catL]) dX1_hand_64 ⟨Nat.le_refl _, Nat.le_refl _⟩) hS (fun σ_21 H locs rkσ_21 h hWσ_21 hS => ?_)
    have h := h rkσ_21
    refine lv_iload_n X.1 X.2.1 dX1_hand_67 rfl (lv_at hl 2 rfl) ?_
    refine lv_iload_n X.1 X.2.1 dX1_hand_68 rfl (lv_at hl 0 rfl) ?_
    refine w_iadd X dX1_hand_69 ?_
    refine w_top (fun y1_22 ey1_22 => ?_)
    have h := h y1_22 ey1_22
    have ry1_22 : rI y1_22 := by rw [ey1_22]; exact (w32_r _)
    refine lv_istore_n (i := 1) (lv' := [(1, .int (oI y1_22)), (2, .int (oI r_18)), (0, .ref (wad w 1 0))]) X.1 X.2.1 dX1_hand_70 rfl hl (by decide) (by first | rfl | simp [catK, catI, catR, catL]) (fun ls hl => ?_)
    refine lv_goto (tgt := 13) X.1 X.2.1 dX1_hand_71 (by decide) ?_
    exact hK13 y1_22 σ_21 _ _ _ ry1_22 (lv_sub hl [2, 0] rfl) hWσ_21 hS h
theorem wk_House_hand_L13 {p : Program} {l : Launch} {e : Env} {st : State} {m : MethodId} {args : Array Value} {below : List Frame} {meth : Method} {c : Code} {w : Wp} {Q : St → Prop} (X : CallFix p m c cX1_hand 3 st args lw_all RX1) (hr : meth.sig.returnType = none) (hlk : meth.locks = false) (hT : Tb w st) (hV : Hvl w) : ∀ (y1 : Int) (σ : St) (H : Heap) (locs : List Loc) (ls : Array Slot), rI y1 → lv_has ls 3 [(0, .ref (wad w 1 0)), (1, .int (oI y1))] → Wo w σ H → va_S (wA w) st.heap H locs → lQ1 (wp_House_hand_L13 (wc w) (wtv w) Q) y1 σ → W p l e (headSpec (ws_ yX1_hand cX1_hand 3 none) rm_House_hand).room st m args below meth c H locs 0 0 (MQ below (QcV w Q) args st 0 0 (wA w)) (F0 m 13 ls []) := by
  intro y1 σ H locs ls ry1 hl hW hS h
  obtain ⟨fu, h⟩ := h
  induction fu generalizing y1 σ H locs ls with
  | zero => exact h.elim
  | succ fu ih =>
    exact wk_House_hand_L13B X hr hlk hT hV (lq1 (wp_House_hand_L13 (wc w) (wtv w) Q) fu) (fun y1 σ H locs ls ry1 hl hW hS h => ih y1 σ H locs ls ry1 hl hW hS h) y1 σ H locs ls ry1 hl hW hS h
set_option maxHeartbeats 4000000 in
set_option maxRecDepth 100000 in
theorem met_House_hand (l : Launch) {w : Wp} (hV : Hvl w) (Q : St → Prop) (σ : St) (h : wp_House_hand (wc w) (wtv w) Q σ) : Met l yX1_hand (ws_ yX1_hand cX1_hand 3 none) rm_House_hand (PcW w σ [.ref (wad w 1 0)]) (QcV w Q) 0 0 (wA w) := by
  refine Met.ofW (cc := cX1_hand) (maxL := 3) (ret := none) (by decide) rfl ?_
  intro p e st m args below meth c s₁ B hml hv
  obtain ⟨hargs, hW, hT⟩ := hv
  have X : CallFix p m c cX1_hand 3 st _ lw_all RX1 := ⟨B.exec, B.bytes, hml, findClass_of_methodNamed B.named, fun w h => atoms_spec (ws := ws_ yX1_hand cX1_hand 3 none) B.pre w (List.mem_cons_of_mem _ h)⟩
  have hr := B.returns
  have hlk := B.notSynchronized
  have hS : va_S (wA w) st.heap st.heap [] := va_S.rf
  have vl1_0 : vl w 1 0 := hV.hv 1 rfl ⟨by omega, by show _ < (1 : Int); omega⟩
  have vl3_0 : vl w 3 0 := hV.hv 3 rfl ⟨by omega, by show _ < (2 : Int); omega⟩
  have vl8_6 : vl w 8 6 := hV.hv 8 rfl ⟨by omega, by show _ < (8 : Int); omega⟩
  have hl := lv_entry ([.ref (wad w 1 0)]) (n := 3) (Nat.le_of_ble_eq_true rfl)
  have hfr := lg_entry_eq m ([.ref (wad w 1 0)]) 3
  rw [← hargs] at hfr
  rw [hfr]
  generalize (lg_sl ([.ref (wad w 1 0)]) ++ List.replicate (3 - (lg_sl ([.ref (wad w 1 0)])).length) Slot.unset).toArray = ls at hl ⊢
  have hl : lv_has ls 3 [(0, .ref (wad w 1 0))] := hl
  unfold wp_House_hand at h
  refine lv_aload_n X.1 X.2.1 dX1_hand_0 rfl (lv_at hl 0 rfl) ?_
  refine wg (v := .ref (wad w 3 0)) X hT hW 1 1 65 vl1_0 rfl rfl (by decide) rfl (by decide) in_X1 q1071 rfl dX1_hand_1 ?_
  refine lv_aload_n X.1 X.2.1 dX1_hand_4 rfl (lv_at hl 0 rfl) ?_
  refine wg (v := .ref (wad w 8 6)) X hT hW 1 11 75 vl1_0 rfl rfl (by decide) rfl (by decide) in_X1 q1081 rfl dX1_hand_5 ?_
  refine wr_V (rV (As := [.ref (wad w 8 6)]) (rest := []) X hT hW hS (met_Store_hand l (w := w) hV 0 6 _ σ (by omega) (by omega) h) (cwV 1 X.2.2.2.2 (lw_V q1257 q1258 q1259 q136 q1260) rfl rfl rfl (by decide +kernel) ⟨Nat.le_of_ble_eq_true rfl, Nat.le_of_ble_eq_true rfl⟩) vl3_0 (by decide) rfl rfl hl.1 rfl (by first | exact Nat.le_of_ble_eq_true rfl | simp [catK, catI, catR, catL]) dX1_hand_8 ⟨Nat.le_refl _, Nat.le_refl _⟩) hS (fun σ_24 H locs rkσ_24 h hWσ_24 hS => ?_)
  have h := h rkσ_24
  refine lv_iconst (v := oI 0) X.1 X.2.1 dX1_hand_11 rfl ?_
  refine lv_istore_n (i := 1) (lv' := [(1, .int (oI 0)), (0, .ref (wad w 1 0))]) X.1 X.2.1 dX1_hand_12 rfl hl (by decide) (by first | rfl | simp [catK, catI, catR, catL]) (fun ls hl => ?_)
  exact wk_House_hand_L13 X hr hlk hT hV 0 σ_24 _ _ _ rZ_0.i (lv_sub hl [1, 0] rfl) hWσ_24 hS h
/-! House.make(IJI)I -/
set_option maxHeartbeats 4000000 in
set_option maxRecDepth 100000 in
theorem wk_House_make_b274 {p : Program} {l : Launch} {e : Env} {st : State} {m : MethodId} {args : Array Value} {below : List Frame} {meth : Method} {c : Code} {w : Wp} {x1 : Int} {x2 : Int} {x4 : Int} {Q : Int → St → Prop} (X : CallFix p m c cX1_make 8 st args lw_all RX1) (hr : meth.sig.returnType = (some .int)) (hlk : meth.locks = false) (hT : Tb w st) (hV : Hvl w) (rx1 : rI x1) (rx2 : rJ x2) (rx4 : rI x4) : ∀ (y7 : Int) (σ : St) (H : Heap) (locs : List Loc) (ls : Array Slot), rI y7 → lv_has ls 8 [(0, .ref (wad w 1 0)), (7, .int (oI y7))] → Wo w σ H → va_S (wA w) st.heap H locs → wp_House_make_b274 (wc w) (wtv w) x1 x2 x4 Q y7 σ → W p l e (headSpec (ws_ yX1_make cX1_make 8 (some .int)) rm_House_make).room st m args below meth c H locs 0 0 (MQ below (QcI w Q) args st 0 0 (wA w)) (F0 m 274 ls []) := by
  have vl1_0 : vl w 1 0 := hV.hv 1 rfl ⟨by omega, by show _ < (1 : Int); omega⟩
  have vl10_0 : vl w 10 0 := hV.hv 10 rfl ⟨by omega, by show _ < (4 : Int); omega⟩
  have vl10_1 : vl w 10 1 := hV.hv 10 rfl ⟨by omega, by show _ < (4 : Int); omega⟩
  intro y7 σ H locs ls ry7 hl hW hS h
  unfold wp_House_make_b274 at h
  refine lv_aload_n X.1 X.2.1 dX1_make_274 rfl (lv_at hl 0 rfl) ?_
  refine lv_aload_n X.1 X.2.1 dX1_make_275 rfl (lv_at hl 0 rfl) ?_
  refine wg (v := .ref (wad w 10 0)) X hT hW 1 14 78 vl1_0 rfl rfl (by decide) rfl (by decide) in_X1 q1084 rfl dX1_make_276 ?_
  refine lv_iconst (v := oI 1) X.1 X.2.1 dX1_make_279 rfl ?_
  refine wr_V (rV (As := [.ref (wad w 10 0), .int (oI 1)]) (rest := []) X hT hW hS (met_House_addInode l (w := w) hV 0 1 _ σ (by omega) rZ_1 h) (cwV 2 X.2.2.2.2 (lw_V q1244 q1246 qs37 q131 q1247) rfl rfl rfl (by decide +kernel) ⟨Nat.le_of_ble_eq_true rfl, Nat.le_of_ble_eq_true rfl⟩) vl1_0 (by decide) rfl rfl hl.1 rfl (by first | exact Nat.le_of_ble_eq_true rfl | simp [catK, catI, catR, catL]) dX1_make_280 ⟨Nat.le_refl _, Nat.le_refl _⟩) hS (fun σ_72 H locs rkσ_72 h hWσ_72 hS => ?_)
  have h := h rkσ_72
  refine lv_aload_n X.1 X.2.1 dX1_make_283 rfl (lv_at hl 0 rfl) ?_
  refine wr_V (rV (As := []) (rest := []) X hT hWσ_72 hS (met_House_hand l (w := w) hV _ σ_72 h) (cwV 0 X.2.2.2.2 (lw_V q1253 q1255 qs39 q131 q1256) rfl rfl rfl (by decide +kernel) ⟨Nat.le_of_ble_eq_true rfl, Nat.le_of_ble_eq_true rfl⟩) vl1_0 (by decide) rfl rfl hl.1 rfl (by first | exact Nat.le_of_ble_eq_true rfl | simp [catK, catI, catR, catL]) dX1_make_284 ⟨Nat.le_refl _, Nat.le_refl _⟩) hS (fun σ_74 H locs rkσ_74 h hWσ_74 hS => ?_)
  have h := h rkσ_74
  refine lv_aload_n X.1 X.2.1 dX1_make_287 rfl (lv_at hl 0 rfl) ?_
  refine lv_dup X.1 X.2.1 dX1_make_288 rfl ?_
  refine wg (v := .int (oI (gI σ_74 71 0))) X hT hWσ_74 1 7 71 vl1_0 rfl rfl (by decide) rfl (by decide) in_X1 q1077 rfl dX1_make_289 ?_
  refine lv_iload X.1 X.2.1 dX1_make_292 (lv_at hl 1 rfl) ?_
  refine w_iadd X dX1_make_294 ?_
  refine wput (z := w32 ((gI σ_74 71 0) + y7)) X hT hWσ_74 hS 1 7 71 vl1_0 rfl rfl (by decide) rfl (by decide) in_X1 tyX1 tyX1_ok nmX1 q1077 rfl rfl (w32_r _) (fv0 w rfl) rfl rfl dX1_make_295 (fun H locs hN hS => ?_)
  obtain ⟨σ_75, eσ_75⟩ : ∃ x, x = sI σ_74 71 0 (w32 ((gI σ_74 71 0) + y7)) := ⟨_, rfl⟩
  have hWσ_75 : Wo w σ_75 H := eσ_75 ▸ hN
  have h := h σ_75 eσ_75
  clear hN
  refine lv_aload_n X.1 X.2.1 dX1_make_298 rfl (lv_at hl 0 rfl) ?_
  refine lv_dup X.1 X.2.1 dX1_make_299 rfl ?_
  refine wg (v := .int (oI (gI σ_75 72 0))) X hT hWσ_75 1 8 72 vl1_0 rfl rfl (by decide) rfl (by decide) in_X1 q1078 rfl dX1_make_300 ?_
  refine lv_iconst (v := oI 1) X.1 X.2.1 dX1_make_303 rfl ?_
  refine w_iadd X dX1_make_304 ?_
  refine wput (z := w32 ((gI σ_75 72 0) + 1)) X hT hWσ_75 hS 1 8 72 vl1_0 rfl rfl (by decide) rfl (by decide) in_X1 tyX1 tyX1_ok nmX1 q1078 rfl rfl (w32_r _) (fv0 w rfl) rfl rfl dX1_make_305 (fun H locs hN hS => ?_)
  obtain ⟨σ_76, eσ_76⟩ : ∃ x, x = sI σ_75 72 0 (w32 ((gI σ_75 72 0) + 1)) := ⟨_, rfl⟩
  have hWσ_76 : Wo w σ_76 H := eσ_76 ▸ hN
  have h := h σ_76 eσ_76
  clear hN
  refine lv_aload_n X.1 X.2.1 dX1_make_308 rfl (lv_at hl 0 rfl) ?_
  refine wg (v := .ref (wad w 10 1)) X hT hWσ_76 1 15 79 vl1_0 rfl rfl (by decide) rfl (by decide) in_X1 q1085 rfl dX1_make_309 ?_
  refine wg (v := .int (oI (gI σ_76 640 1))) X hT hWσ_76 10 0 640 vl10_1 rfl rfl (by decide) rfl (by decide) in_X3 q189 rfl dX1_make_312 ?_
  exact wret_I X hr hlk hWσ_76 hS (hWσ_76.r.i 640 1 rfl) h dX1_make_315
set_option maxHeartbeats 4000000 in
set_option maxRecDepth 100000 in
theorem wk_House_make_b169 {p : Program} {l : Launch} {e : Env} {st : State} {m : MethodId} {args : Array Value} {below : List Frame} {meth : Method} {c : Code} {w : Wp} {x1 : Int} {x2 : Int} {x4 : Int} {Q : Int → St → Prop} (X : CallFix p m c cX1_make 8 st args lw_all RX1) (hr : meth.sig.returnType = (some .int)) (hlk : meth.locks = false) (hT : Tb w st) (hV : Hvl w) (rx1 : rI x1) (rx2 : rJ x2) (rx4 : rI x4) : ∀ (y5 y7 t0 : Int) (σ : St) (H : Heap) (locs : List Loc) (ls : Array Slot), rZ y5 → rI y7 → rI t0 → lv_has ls 8 [(0, .ref (wad w 1 0)), (1, .int (oI x1)), (2, .long (oL x2)), (5, .int (oI y5)), (7, .int (oI y7))] → Wo w σ H → va_S (wA w) st.heap H locs → wp_House_make_b169 (wc w) (wtv w) x1 x2 x4 Q y5 y7 t0 σ → W p l e (headSpec (ws_ yX1_make cX1_make 8 (some .int)) rm_House_make).room st m args below meth c H locs 0 0 (MQ below (QcI w Q) args st 0 0 (wA w)) (F0 m 169 ls [.int (oI t0), .ref (wad w 10 1)]) := by
  have vl1_0 : vl w 1 0 := hV.hv 1 rfl ⟨by omega, by show _ < (1 : Int); omega⟩
  have vl10_0 : vl w 10 0 := hV.hv 10 rfl ⟨by omega, by show _ < (4 : Int); omega⟩
  have vl10_1 : vl w 10 1 := hV.hv 10 rfl ⟨by omega, by show _ < (4 : Int); omega⟩
  have vl77_0 : vl w 77 0 := hV.hv 77 rfl ⟨by omega, by show _ < (1 : Int); omega⟩
  have vl87_0 : vl w 87 0 := hV.hv 87 rfl ⟨by omega, by show _ < (1 : Int); omega⟩
  intro y5 y7 t0 σ H locs ls ry5 ry7 rt0 hl hW hS h
  unfold wp_House_make_b169 at h
  refine wput (z := t0) X hT hW hS 10 3 643 vl10_1 rfl rfl (by decide) rfl (by decide) in_X3 tyX3 tyX3_ok nmX3 q192 rfl rfl rt0 (fv0 w rfl) rfl rfl dX1_make_169 (fun H locs hN hS => ?_)
  obtain ⟨σ_77, eσ_77⟩ : ∃ x, x = sI σ 643 1 t0 := ⟨_, rfl⟩
  have hWσ_77 : Wo w σ_77 H := eσ_77 ▸ hN
  have h := h σ_77 eσ_77
  clear hN
  refine lv_aload_n X.1 X.2.1 dX1_make_172 rfl (lv_at hl 0 rfl) ?_
  refine wg (v := .ref (wad w 10 1)) X hT hWσ_77 1 15 79 vl1_0 rfl rfl (by decide) rfl (by decide) in_X1 q1085 rfl dX1_make_173 ?_
  refine lv_iconst (v := oI 0) X.1 X.2.1 dX1_make_176 rfl ?_
  refine wput (z := 0) X hT hWσ_77 hS 10 4 644 vl10_1 rfl rfl (by decide) rfl (by decide) in_X3 tyX3 tyX3_ok nmX3 q193 rfl rfl rZ_0.i (fv0 w rfl) rfl rfl dX1_make_177 (fun H locs hN hS => ?_)
  obtain ⟨σ_78, eσ_78⟩ : ∃ x, x = sI σ_77 644 1 0 := ⟨_, rfl⟩
  have hWσ_78 : Wo w σ_78 H := eσ_78 ▸ hN
  have h := h σ_78 eσ_78
  clear hN
  refine lv_aload_n X.1 X.2.1 dX1_make_180 rfl (lv_at hl 0 rfl) ?_
  refine wg (v := .ref (wad w 10 1)) X hT hWσ_78 1 15 79 vl1_0 rfl rfl (by decide) rfl (by decide) in_X1 q1085 rfl dX1_make_181 ?_
  refine lv_iconst (v := oI 0) X.1 X.2.1 dX1_make_184 rfl ?_
  refine wput (z := 0) X hT hWσ_78 hS 10 5 645 vl10_1 rfl rfl (by decide) rfl (by decide) in_X3 tyX3 tyX3_ok nmX3 q194 rfl rfl rZ_0.i (fv0 w rfl) rfl rfl dX1_make_185 (fun H locs hN hS => ?_)
  obtain ⟨σ_79, eσ_79⟩ : ∃ x, x = sI σ_78 645 1 0 := ⟨_, rfl⟩
  have hWσ_79 : Wo w σ_79 H := eσ_79 ▸ hN
  have h := h σ_79 eσ_79
  clear hN
  refine lv_aload_n X.1 X.2.1 dX1_make_188 rfl (lv_at hl 0 rfl) ?_
  refine wg (v := .ref (wad w 10 0)) X hT hWσ_79 1 14 78 vl1_0 rfl rfl (by decide) rfl (by decide) in_X1 q1084 rfl dX1_make_189 ?_
  refine lv_dup X.1 X.2.1 dX1_make_192 rfl ?_
  refine wg (v := .int (oI (gI σ_79 644 0))) X hT hWσ_79 10 4 644 vl10_0 rfl rfl (by decide) rfl (by decide) in_X3 q193 rfl dX1_make_193 ?_
  refine lv_iconst (v := oI 1) X.1 X.2.1 dX1_make_196 rfl ?_
  refine w_iadd X dX1_make_197 ?_
  refine wput (z := w32 ((gI σ_79 644 0) + 1)) X hT hWσ_79 hS 10 4 644 vl10_0 rfl rfl (by decide) rfl (by decide) in_X3 tyX3 tyX3_ok nmX3 q193 rfl rfl (w32_r _) (fv0 w rfl) rfl rfl dX1_make_198 (fun H locs hN hS => ?_)
  obtain ⟨σ_80, eσ_80⟩ : ∃ x, x = sI σ_79 644 0 (w32 ((gI σ_79 644 0) + 1)) := ⟨_, rfl⟩
  have hWσ_80 : Wo w σ_80 H := eσ_80 ▸ hN
  have h := h σ_80 eσ_80
  clear hN
  refine lv_aload_n X.1 X.2.1 dX1_make_201 rfl (lv_at hl 0 rfl) ?_
  refine wr_V (rV (As := []) (rest := []) X hT hWσ_80 hS (met_House_begin l (w := w) hV _ σ_80 h) (cwV 0 X.2.2.2.2 (lw_V q1231 q1233 qs35 q131 q1234) rfl rfl rfl (by decide +kernel) ⟨Nat.le_of_ble_eq_true rfl, Nat.le_of_ble_eq_true rfl⟩) vl1_0 (by decide) rfl rfl hl.1 rfl (by first | exact Nat.le_of_ble_eq_true rfl | simp [catK, catI, catR, catL]) dX1_make_202 ⟨Nat.le_refl _, Nat.le_refl _⟩) hS (fun σ_82 H locs rkσ_82 h hWσ_82 hS => ?_)
  have h := h rkσ_82
  refine lv_aload_n X.1 X.2.1 dX1_make_205 rfl (lv_at hl 0 rfl) ?_
  refine lv_iload_n X.1 X.2.1 dX1_make_206 rfl (lv_at hl 1 rfl) ?_
  refine lv_lload_n X.1 X.2.1 dX1_make_207 rfl (lv_at hl 2 rfl) ?_
  refine lv_aload_n X.1 X.2.1 dX1_make_208 rfl (lv_at hl 0 rfl) ?_
  refine wg (v := .ref (wad w 10 1)) X hT hWσ_82 1 15 79 vl1_0 rfl rfl (by decide) rfl (by decide) in_X1 q1085 rfl dX1_make_209 ?_
  refine wg (v := .int (oI (gI σ_82 640 1))) X hT hWσ_82 10 0 640 vl10_1 rfl rfl (by decide) rfl (by decide) in_X3 q189 rfl dX1_make_212 ?_
  refine lv_aload_n X.1 X.2.1 dX1_make_215 rfl (lv_at hl 0 rfl) ?_
  refine wg (v := .int (oI (gI σ_82 91 0))) X hT hWσ_82 1 27 91 vl1_0 rfl rfl (by decide) rfl (by decide) in_X1 q1097 rfl dX1_make_216 ?_
  refine wr_V (rV (As := [.int (oI x1), .long (oL x2), .int (oI (gI σ_82 640 1)), .int (oI (gI σ_82 91 0))]) (rest := []) X hT hWσ_82 hS (met_House_addEntry l (w := w) hV x1 x2 (gI σ_82 640 1) (gI σ_82 91 0) _ σ_82 rx1 rx2 (hWσ_82.r.i 640 1 rfl) (hWσ_82.r.i 91 0 rfl) h) (cwV 4 X.2.2.2.2 (lw_V q1236 q1238 qs36 q131 q1239) rfl rfl rfl (by decide +kernel) ⟨Nat.le_of_ble_eq_true rfl, Nat.le_of_ble_eq_true rfl⟩) vl1_0 (by decide) rfl rfl hl.1 rfl (by first | exact Nat.le_of_ble_eq_true rfl | simp [catK, catI, catR, catL]) dX1_make_219 ⟨Nat.le_refl _, Nat.le_refl _⟩) hS (fun σ_84 H locs rkσ_84 h hWσ_84 hS => ?_)
  have h := h rkσ_84
  refine lv_aload_n X.1 X.2.1 dX1_make_222 rfl (lv_at hl 0 rfl) ?_
  refine lv_aload_n X.1 X.2.1 dX1_make_223 rfl (lv_at hl 0 rfl) ?_
  refine wg (v := .ref (wad w 10 1)) X hT hWσ_84 1 15 79 vl1_0 rfl rfl (by decide) rfl (by decide) in_X1 q1085 rfl dX1_make_224 ?_
  refine lv_iconst (v := oI 0) X.1 X.2.1 dX1_make_227 rfl ?_
  refine wr_V (rV (As := [.ref (wad w 10 1), .int (oI 0)]) (rest := []) X hT hWσ_84 hS (met_House_addInode l (w := w) hV 1 0 _ σ_84 (by omega) rZ_0 h) (cwV 2 X.2.2.2.2 (lw_V q1244 q1246 qs37 q131 q1247) rfl rfl rfl (by decide +kernel) ⟨Nat.le_of_ble_eq_true rfl, Nat.le_of_ble_eq_true rfl⟩) vl1_0 (by decide) rfl rfl hl.1 rfl (by first | exact Nat.le_of_ble_eq_true rfl | simp [catK, catI, catR, catL]) dX1_make_228 ⟨Nat.le_refl _, Nat.le_refl _⟩) hS (fun σ_86 H locs rkσ_86 h hWσ_86 hS => ?_)
  have h := h rkσ_86
  refine lv_iload X.1 X.2.1 dX1_make_231 (lv_at hl 3 rfl) ?_
  refine w_if_eq (tgt := 274) X ry5.i dX1_make_233 (by decide) (fun hc => ?_) (fun hc => ?_)
  · have h := h.1 hc
    exact wk_House_make_b274 X hr hlk hT hV rx1 rx2 rx4 y7 σ_86 _ _ _ ry7 (lv_sub hl [0, 4] rfl) hWσ_86 hS h
  · have h := h.2 hc
    refine lv_aload_n X.1 X.2.1 dX1_make_236 rfl (lv_at hl 0 rfl) ?_
    refine wg (v := .ref (wad w 87 0)) X hT hWσ_86 1 23 87 vl1_0 rfl rfl (by decide) rfl (by decide) in_X1 q1093 rfl dX1_make_237 ?_
    refine lv_iconst (v := oI 0) X.1 X.2.1 dX1_make_240 rfl ?_
    refine lv_aload_n X.1 X.2.1 dX1_make_241 rfl (lv_at hl 0 rfl) ?_
    refine wg (v := .ref (wad w 77 0)) X hT hWσ_86 1 13 77 vl1_0 rfl rfl (by decide) rfl (by decide) in_X1 q1083 rfl dX1_make_242 ?_
    refine lv_iconst (v := oI 0) X.1 X.2.1 dX1_make_245 rfl ?_
    refine lv_aload_n X.1 X.2.1 dX1_make_246 rfl (lv_at hl 0 rfl) ?_
    refine wg (v := .int (oI (gI σ_86 88 0))) X hT hWσ_86 1 24 88 vl1_0 rfl rfl (by decide) rfl (by decide) in_X1 q1094 rfl dX1_make_247 ?_
    obtain ⟨bi, h⟩ := h
    refine w_copy (nf := 200) (ng := 64) (sp := 0) (dp := 0) (n := gI σ_86 88 0) X hT hWσ_86 hS hl.1 87 77 vl87_0 vl77_0 (by decide) (by decide) rfl rfl rfl rfl bi q1248 q699 q698 q142 (Nat.le_of_ble_eq_true rfl) (Nat.le_of_ble_eq_true rfl) dX1_make_250 (fun H locs hN hS => ?_)
    obtain ⟨σ_87, eσ_87⟩ : ∃ x, x = sAr σ_86 77 0 (cpy (gA σ_86 87 0) (gA σ_86 77 0) 0 0 (gI σ_86 88 0)) := ⟨_, rfl⟩
    have hWσ_87 : Wo w σ_87 H := eσ_87 ▸ hN
    have h := h σ_87 eσ_87
    clear hN
    refine lv_aload_n X.1 X.2.1 dX1_make_253 rfl (lv_at hl 0 rfl) ?_
    refine lv_aload_n X.1 X.2.1 dX1_make_254 rfl (lv_at hl 0 rfl) ?_
    refine wg (v := .ref (wad w 10 1)) X hT hWσ_87 1 15 79 vl1_0 rfl rfl (by decide) rfl (by decide) in_X1 q1085 rfl dX1_make_255 ?_
    refine wg (v := .int (oI (gI σ_87 640 1))) X hT hWσ_87 10 0 640 vl10_1 rfl rfl (by decide) rfl (by decide) in_X3 q189 rfl dX1_make_258 ?_
    refine lv_iconst (v := oI 0) X.1 X.2.1 dX1_make_261 rfl ?_
    refine lv_aload_n X.1 X.2.1 dX1_make_262 rfl (lv_at hl 0 rfl) ?_
    refine wg (v := .int (oI (gI σ_87 88 0))) X hT hWσ_87 1 24 88 vl1_0 rfl rfl (by decide) rfl (by decide) in_X1 q1094 rfl dX1_make_263 ?_
    refine wr_V (rV (As := [.int (oI (gI σ_87 640 1)), .int (oI 0), .int (oI (gI σ_87 88 0))]) (rest := []) X hT hWσ_87 hS (met_House_addPiece l (w := w) hV (gI σ_87 640 1) 0 (gI σ_87 88 0) _ σ_87 (hWσ_87.r.i 640 1 rfl) rZ_0.i (hWσ_87.r.i 88 0 rfl) h) (cwV 3 X.2.2.2.2 (lw_V q1249 q1251 qs38 q131 q1252) rfl rfl rfl (by decide +kernel) ⟨Nat.le_of_ble_eq_true rfl, Nat.le_of_ble_eq_true rfl⟩) vl1_0 (by decide) rfl rfl hl.1 rfl (by first | exact Nat.le_of_ble_eq_true rfl | simp [catK, catI, catR, catL]) dX1_make_266 ⟨Nat.le_refl _, Nat.le_refl _⟩) hS (fun σ_89 H locs rkσ_89 h hWσ_89 hS => ?_)
    have h := h rkσ_89
    refine lv_aload_n X.1 X.2.1 dX1_make_269 rfl (lv_at hl 0 rfl) ?_
    refine lv_iconst (v := oI 0) X.1 X.2.1 dX1_make_270 rfl ?_
    refine wput (z := 0) X hT hWσ_89 hS 1 24 88 vl1_0 rfl rfl (by decide) rfl (by decide) in_X1 tyX1 tyX1_ok nmX1 q1094 rfl rfl rZ_0.i (fv0 w rfl) rfl rfl dX1_make_271 (fun H locs hN hS => ?_)
    obtain ⟨σ_90, eσ_90⟩ : ∃ x, x = sI σ_89 88 0 0 := ⟨_, rfl⟩
    have hWσ_90 : Wo w σ_90 H := eσ_90 ▸ hN
    have h := h σ_90 eσ_90
    clear hN
    exact wk_House_make_b274 X hr hlk hT hV rx1 rx2 rx4 y7 σ_90 _ _ _ ry7 (lv_sub hl [0, 4] rfl) hWσ_90 hS h
set_option maxHeartbeats 4000000 in
set_option maxRecDepth 100000 in
theorem wk_House_make_b101 {p : Program} {l : Launch} {e : Env} {st : State} {m : MethodId} {args : Array Value} {below : List Frame} {meth : Method} {c : Code} {w : Wp} {x1 : Int} {x2 : Int} {x4 : Int} {Q : Int → St → Prop} (X : CallFix p m c cX1_make 8 st args lw_all RX1) (hr : meth.sig.returnType = (some .int)) (hlk : meth.locks = false) (hT : Tb w st) (hV : Hvl w) (rx1 : rI x1) (rx2 : rJ x2) (rx4 : rI x4) : ∀ (y5 t0 t1 : Int) (σ : St) (H : Heap) (locs : List Loc) (ls : Array Slot), rZ y5 → rI t0 → rI t1 → lv_has ls 8 [(0, .ref (wad w 1 0)), (1, .int (oI x1)), (2, .long (oL x2)), (4, .int (oI x4)), (5, .int (oI y5))] → Wo w σ H → va_S (wA w) st.heap H locs → wp_House_make_b101 (wc w) (wtv w) x1 x2 x4 Q y5 t0 t1 σ → W p l e (headSpec (ws_ yX1_make cX1_make 8 (some .int)) rm_House_make).room st m args below meth c H locs 0 0 (MQ below (QcI w Q) args st 0 0 (wA w)) (F0 m 101 ls [.int (oI t0), .int (oI t1)]) := by
  have vl1_0 : vl w 1 0 := hV.hv 1 rfl ⟨by omega, by show _ < (1 : Int); omega⟩
  have vl10_1 : vl w 10 1 := hV.hv 10 rfl ⟨by omega, by show _ < (4 : Int); omega⟩
  have vl3_0 : vl w 3 0 := hV.hv 3 rfl ⟨by omega, by show _ < (2 : Int); omega⟩
  intro y5 t0 t1 σ H locs ls ry5 rt0 rt1 hl hW hS h
  unfold wp_House_make_b101 at h
  refine w_iadd X dX1_make_101 ?_
  refine w_top (fun y7_91 ey7_91 => ?_)
  have h := h y7_91 ey7_91
  have ry7_91 : rI y7_91 := by rw [ey7_91]; exact (w32_r _)
  refine lv_istore (i := 7) (lv' := [(7, .int (oI y7_91)), (0, .ref (wad w 1 0)), (1, .int (oI x1)), (2, .long (oL x2)), (4, .int (oI x4)), (5, .int (oI y5))]) X.1 X.2.1 dX1_make_102 hl (by decide) (by first | rfl | simp [catK, catI, catR, catL]) (fun ls hl => ?_)
  refine lv_aload_n X.1 X.2.1 dX1_make_104 rfl (lv_at hl 1 rfl) ?_
  refine wg (v := .int (oI (gI σ 71 0))) X hT hW 1 7 71 vl1_0 rfl rfl (by decide) rfl (by decide) in_X1 q1077 rfl dX1_make_105 ?_
  refine lv_iload X.1 X.2.1 dX1_make_108 (lv_at hl 0 rfl) ?_
  refine w_iadd X dX1_make_110 ?_
  refine lv_aload_n X.1 X.2.1 dX1_make_111 rfl (lv_at hl 1 rfl) ?_
  refine wg (v := .int (oI (cap (wc w)))) X hT hW 1 4 68 vl1_0 rfl rfl (by decide) rfl (by decide) in_X1 q1074 rfl dX1_make_112 ?_
  refine w_icmp_le (tgt := 121) X (w32_r _) (cin_r hT.c 68) dX1_make_115 (by decide) (fun hc => ?_) (fun hc => ?_)
  · have h := h.1 hc
    refine lv_aload_n X.1 X.2.1 dX1_make_121 rfl (lv_at hl 1 rfl) ?_
    refine wg (v := .ref (wad w 10 1)) X hT hW 1 15 79 vl1_0 rfl rfl (by decide) rfl (by decide) in_X1 q1085 rfl dX1_make_122 ?_
    refine lv_aload_n X.1 X.2.1 dX1_make_125 rfl (lv_at hl 1 rfl) ?_
    refine wg (v := .ref (wad w 3 0)) X hT hW 1 1 65 vl1_0 rfl rfl (by decide) rfl (by decide) in_X1 q1071 rfl dX1_make_126 ?_
    refine wg (v := .int (oI (gI σ 203 0))) X hT hW 3 11 203 vl3_0 rfl rfl (by decide) rfl (by decide) in_X5 q538 rfl dX1_make_129 ?_
    refine wput (z := gI σ 203 0) X hT hW hS 10 0 640 vl10_1 rfl rfl (by decide) rfl (by decide) in_X3 tyX3 tyX3_ok nmX3 q189 rfl rfl (hW.r.i 203 0 rfl) (fv0 w rfl) rfl rfl dX1_make_132 (fun H locs hN hS => ?_)
    obtain ⟨σ_92, eσ_92⟩ : ∃ x, x = sI σ 640 1 (gI σ 203 0) := ⟨_, rfl⟩
    have hWσ_92 : Wo w σ_92 H := eσ_92 ▸ hN
    have h := h σ_92 eσ_92
    clear hN
    refine lv_aload_n X.1 X.2.1 dX1_make_135 rfl (lv_at hl 1 rfl) ?_
    refine wg (v := .ref (wad w 10 1)) X hT hWσ_92 1 15 79 vl1_0 rfl rfl (by decide) rfl (by decide) in_X1 q1085 rfl dX1_make_136 ?_
    refine lv_iload X.1 X.2.1 dX1_make_139 (lv_at hl 4 rfl) ?_
    refine wput (z := x4) X hT hWσ_92 hS 10 1 641 vl10_1 rfl rfl (by decide) rfl (by decide) in_X3 tyX3 tyX3_ok nmX3 q190 rfl rfl rx4 (fv0 w rfl) rfl rfl dX1_make_141 (fun H locs hN hS => ?_)
    obtain ⟨σ_93, eσ_93⟩ : ∃ x, x = sI σ_92 641 1 x4 := ⟨_, rfl⟩
    have hWσ_93 : Wo w σ_93 H := eσ_93 ▸ hN
    have h := h σ_93 eσ_93
    clear hN
    refine lv_aload_n X.1 X.2.1 dX1_make_144 rfl (lv_at hl 1 rfl) ?_
    refine wg (v := .ref (wad w 10 1)) X hT hWσ_93 1 15 79 vl1_0 rfl rfl (by decide) rfl (by decide) in_X1 q1085 rfl dX1_make_145 ?_
    refine lv_iconst (v := oI 1) X.1 X.2.1 dX1_make_148 rfl ?_
    refine wput (z := 1) X hT hWσ_93 hS 10 2 642 vl10_1 rfl rfl (by decide) rfl (by decide) in_X3 tyX3 tyX3_ok nmX3 q191 rfl rfl rZ_1.i (fv0 w rfl) rfl rfl dX1_make_149 (fun H locs hN hS => ?_)
    obtain ⟨σ_94, eσ_94⟩ : ∃ x, x = sI σ_93 642 1 1 := ⟨_, rfl⟩
    have hWσ_94 : Wo w σ_94 H := eσ_94 ▸ hN
    have h := h σ_94 eσ_94
    clear hN
    refine lv_aload_n X.1 X.2.1 dX1_make_152 rfl (lv_at hl 1 rfl) ?_
    refine wg (v := .ref (wad w 10 1)) X hT hWσ_94 1 15 79 vl1_0 rfl rfl (by decide) rfl (by decide) in_X1 q1085 rfl dX1_make_153 ?_
    refine lv_iload X.1 X.2.1 dX1_make_156 (lv_at hl 5 rfl) ?_
    refine w_if_eq (tgt := 168) X ry5.i dX1_make_158 (by decide) (fun hc => ?_) (fun hc => ?_)
    · have h := h.1 hc
      refine lv_iconst (v := oI 0) X.1 X.2.1 dX1_make_168 rfl ?_
      exact wk_House_make_b169 X hr hlk hT hV rx1 rx2 rx4 y5 y7_91 0 σ_94 _ _ _ ry5 ry7_91 rZ_0.i (lv_sub hl [1, 2, 3, 5, 0] rfl) hWσ_94 hS h
    · have h := h.2 hc
      refine lv_aload_n X.1 X.2.1 dX1_make_161 rfl (lv_at hl 1 rfl) ?_
      refine wg (v := .int (oI (gI σ_94 88 0))) X hT hWσ_94 1 24 88 vl1_0 rfl rfl (by decide) rfl (by decide) in_X1 q1094 rfl dX1_make_162 ?_
      refine lv_goto (tgt := 169) X.1 X.2.1 dX1_make_165 (by decide) ?_
      exact wk_House_make_b169 X hr hlk hT hV rx1 rx2 rx4 y5 y7_91 (gI σ_94 88 0) σ_94 _ _ _ ry5 ry7_91 (hWσ_94.r.i 88 0 rfl) (lv_sub hl [1, 2, 3, 5, 0] rfl) hWσ_94 hS h
  · have h := h.2 hc
    refine lv_bipush (v := oI (-10)) X.1 X.2.1 dX1_make_118 (by decide) ?_
    exact wret_I X hr hlk hW hS ((rB_lit (-10) (by decide)).i) h dX1_make_120
set_option maxHeartbeats 4000000 in
set_option maxRecDepth 100000 in
theorem wk_House_make_b51 {p : Program} {l : Launch} {e : Env} {st : State} {m : MethodId} {args : Array Value} {below : List Frame} {meth : Method} {c : Code} {w : Wp} {x1 : Int} {x2 : Int} {x4 : Int} {Q : Int → St → Prop} (X : CallFix p m c cX1_make 8 st args lw_all RX1) (hr : meth.sig.returnType = (some .int)) (hlk : meth.locks = false) (hT : Tb w st) (hV : Hvl w) (rx1 : rI x1) (rx2 : rJ x2) (rx4 : rI x4) : ∀ (y5 : Int) (σ : St) (H : Heap) (locs : List Loc) (ls : Array Slot), rZ y5 → lv_has ls 8 [(0, .ref (wad w 1 0)), (1, .int (oI x1)), (2, .long (oL x2)), (4, .int (oI x4)), (5, .int (oI y5))] → Wo w σ H → va_S (wA w) st.heap H locs → wp_House_make_b51 (wc w) (wtv w) x1 x2 x4 Q y5 σ → W p l e (headSpec (ws_ yX1_make cX1_make 8 (some .int)) rm_House_make).room st m args below meth c H locs 0 0 (MQ below (QcI w Q) args st 0 0 (wA w)) (F0 m 51 ls []) := by
  have vl1_0 : vl w 1 0 := hV.hv 1 rfl ⟨by omega, by show _ < (1 : Int); omega⟩
  have vl10_0 : vl w 10 0 := hV.hv 10 rfl ⟨by omega, by show _ < (4 : Int); omega⟩
  intro y5 σ H locs ls ry5 hl hW hS h
  unfold wp_House_make_b51 at h
  refine lv_aload_n X.1 X.2.1 dX1_make_51 rfl (lv_at hl 0 rfl) ?_
  refine lv_iload_n X.1 X.2.1 dX1_make_52 rfl (lv_at hl 1 rfl) ?_
  refine lv_aload_n X.1 X.2.1 dX1_make_53 rfl (lv_at hl 0 rfl) ?_
  refine wg (v := .ref (wad w 10 0)) X hT hW 1 14 78 vl1_0 rfl rfl (by decide) rfl (by decide) in_X1 q1084 rfl dX1_make_54 ?_
  refine wr_I (rV (As := [.int (oI x1), .ref (wad w 10 0)]) (rest := []) X hT hW hS (met_House_directory l (w := w) hV x1 0 _ σ rx1 (by omega) h) (cwV 2 X.2.2.2.2 (lw_V q1173 q1175 qs31 q131 q1176) rfl rfl rfl (by decide +kernel) ⟨Nat.le_of_ble_eq_true rfl, Nat.le_of_ble_eq_true rfl⟩) vl1_0 (by decide) rfl rfl hl.1 rfl (by first | exact Nat.le_of_ble_eq_true rfl | simp [catK, catI, catR, catL]) dX1_make_57 ⟨Nat.le_refl _, Nat.le_refl _⟩) hS (fun r_95 σ_96 H locs rr_95 rkσ_96 h hWσ_96 hS => ?_)
  have h := h rr_95 rkσ_96
  refine lv_istore (i := 6) (lv' := [(6, .int (oI r_95)), (0, .ref (wad w 1 0)), (1, .int (oI x1)), (2, .long (oL x2)), (4, .int (oI x4)), (5, .int (oI y5))]) X.1 X.2.1 dX1_make_60 hl (by decide) (by first | rfl | simp [catK, catI, catR, catL]) (fun ls hl => ?_)
  refine lv_iload X.1 X.2.1 dX1_make_62 (lv_at hl 0 rfl) ?_
  refine w_if_ge (tgt := 70) X rr_95 dX1_make_64 (by decide) (fun hc => ?_) (fun hc => ?_)
  · have h := h.1 hc
    refine lv_aload_n X.1 X.2.1 dX1_make_70 rfl (lv_at hl 1 rfl) ?_
    refine lv_iload_n X.1 X.2.1 dX1_make_71 rfl (lv_at hl 2 rfl) ?_
    refine lv_lload_n X.1 X.2.1 dX1_make_72 rfl (lv_at hl 3 rfl) ?_
    refine wr_I (rV (As := [.int (oI x1), .long (oL x2)]) (rest := []) X hT hWσ_96 hS (met_House_entry l (w := w) hV x1 x2 _ σ_96 rx1 rx2 h) (cwV 2 X.2.2.2.2 (lw_V q1210 q1212 qs34 q131 q1213) rfl rfl rfl (by decide +kernel) ⟨Nat.le_of_ble_eq_true rfl, Nat.le_of_ble_eq_true rfl⟩) vl1_0 (by decide) rfl rfl hl.1 rfl (by first | exact Nat.le_of_ble_eq_true rfl | simp [catK, catI, catR, catL]) dX1_make_73 ⟨Nat.le_refl _, Nat.le_refl _⟩) hS (fun r_97 σ_98 H locs rr_97 rkσ_98 h hWσ_98 hS => ?_)
    have h := h rr_97 rkσ_98
    refine w_if_le (tgt := 82) X rr_97 dX1_make_76 (by decide) (fun hc => ?_) (fun hc => ?_)
    · have h := h.1 hc
      refine lv_sipush (v := oI 480) X.1 X.2.1 dX1_make_82 (by decide) ?_
      refine lv_iload X.1 X.2.1 dX1_make_85 (lv_at hl 5 rfl) ?_
      refine w_if_eq (tgt := 100) X ry5.i dX1_make_87 (by decide) (fun hc => ?_) (fun hc => ?_)
      · have h := h.1 hc
        refine lv_iconst (v := oI 0) X.1 X.2.1 dX1_make_100 rfl ?_
        exact wk_House_make_b101 X hr hlk hT hV rx1 rx2 rx4 y5 0 480 σ_98 _ _ _ ry5 rZ_0.i (rI_lit 480 (by decide)) (lv_sub hl [1, 2, 3, 4, 5] rfl) hWσ_98 hS h
      · have h := h.2 hc
        refine lv_aload_n X.1 X.2.1 dX1_make_90 rfl (lv_at hl 1 rfl) ?_
        refine wg (v := .int (oI (gI σ_98 88 0))) X hT hWσ_98 1 24 88 vl1_0 rfl rfl (by decide) rfl (by decide) in_X1 q1094 rfl dX1_make_91 ?_
        refine wr_I (rS (As := [.int (oI (gI σ_98 88 0))]) (rest := [.int (oI 480)]) X hT hWσ_98 hS (met_House_itemOf l (w := w) (gI σ_98 88 0) _ σ_98 (hWσ_98.r.i 88 0 rfl) h) (va_cwS 1 X.2.2.2.2 (lw_S q1227 q1228 q131 q1229) rfl rfl rfl (by decide +kernel) ⟨Nat.le_of_ble_eq_true rfl, Nat.le_of_ble_eq_true rfl⟩) rfl hl.1 rfl (by first | exact Nat.le_of_ble_eq_true rfl | simp [catK, catI, catR, catL]) dX1_make_94 ⟨Nat.le_refl _, Nat.le_refl _⟩) hS (fun r_99 σ_100 H locs rr_99 rkσ_100 h hWσ_100 hS => ?_)
        have h := h rr_99 rkσ_100
        refine lv_goto (tgt := 101) X.1 X.2.1 dX1_make_97 (by decide) ?_
        exact wk_House_make_b101 X hr hlk hT hV rx1 rx2 rx4 y5 r_99 480 σ_100 _ _ _ ry5 rr_99 (rI_lit 480 (by decide)) (lv_sub hl [1, 2, 3, 4, 5] rfl) hWσ_100 hS h
    · have h := h.2 hc
      refine lv_bipush (v := oI (-5)) X.1 X.2.1 dX1_make_79 (by decide) ?_
      exact wret_I X hr hlk hWσ_98 hS ((rB_lit (-5) (by decide)).i) h dX1_make_81
  · have h := h.2 hc
    refine lv_iload X.1 X.2.1 dX1_make_67 (lv_at hl 0 rfl) ?_
    exact wret_I X hr hlk hWσ_96 hS rr_95 h dX1_make_69
set_option maxHeartbeats 4000000 in
set_option maxRecDepth 100000 in
theorem met_House_make (l : Launch) {w : Wp} (hV : Hvl w) (x1 : Int) (x2 : Int) (x4 : Int) (Q : Int → St → Prop) (σ : St) (rx1 : rI x1) (rx2 : rJ x2) (rx4 : rI x4) (h : wp_House_make (wc w) (wtv w) x1 x2 x4 Q σ) : Met l yX1_make (ws_ yX1_make cX1_make 8 (some .int)) rm_House_make (PcW w σ [.ref (wad w 1 0), .int (oI x1), .long (oL x2), .int (oI x4)]) (QcI w Q) 0 0 (wA w) := by
  refine Met.ofW (cc := cX1_make) (maxL := 8) (ret := (some .int)) (by decide) rfl ?_
  intro p e st m args below meth c s₁ B hml hv
  obtain ⟨hargs, hW, hT⟩ := hv
  have X : CallFix p m c cX1_make 8 st _ lw_all RX1 := ⟨B.exec, B.bytes, hml, findClass_of_methodNamed B.named, fun w h => atoms_spec (ws := ws_ yX1_make cX1_make 8 (some .int)) B.pre w (List.mem_cons_of_mem _ h)⟩
  have hr := B.returns
  have hlk := B.notSynchronized
  have hS : va_S (wA w) st.heap st.heap [] := va_S.rf
  have vl1_0 : vl w 1 0 := hV.hv 1 rfl ⟨by omega, by show _ < (1 : Int); omega⟩
  have hl := lv_entry ([.ref (wad w 1 0), .int (oI x1), .long (oL x2), .int (oI x4)]) (n := 8) (Nat.le_of_ble_eq_true rfl)
  have hfr := lg_entry_eq m ([.ref (wad w 1 0), .int (oI x1), .long (oL x2), .int (oI x4)]) 8
  rw [← hargs] at hfr
  rw [hfr]
  generalize (lg_sl ([.ref (wad w 1 0), .int (oI x1), .long (oL x2), .int (oI x4)]) ++ List.replicate (8 - (lg_sl ([.ref (wad w 1 0), .int (oI x1), .long (oL x2), .int (oI x4)])).length) Slot.unset).toArray = ls at hl ⊢
  have hl : lv_has ls 8 [(0, .ref (wad w 1 0)), (1, .int (oI x1)), (2, .long (oL x2)), (4, .int (oI x4))] := hl
  unfold wp_House_make at h
  refine lv_aload_n X.1 X.2.1 dX1_make_0 rfl (lv_at hl 0 rfl) ?_
  refine wg (v := .int (oI (gI σ 69 0))) X hT hW 1 5 69 vl1_0 rfl rfl (by decide) rfl (by decide) in_X1 q1075 rfl dX1_make_1 ?_
  refine w_if_ne (tgt := 10) X ((hW.r.z 69 0 rfl).i) dX1_make_4 (by decide) (fun hc => ?_) (fun hc => ?_)
  · have h := h.1 hc
    refine lv_iload X.1 X.2.1 dX1_make_10 (lv_at hl 3 rfl) ?_
    refine lv_iconst (v := oI 3) X.1 X.2.1 dX1_make_12 rfl ?_
    refine w_cut (pc2 := 21) (st2 := [.int (oI (if x4 = 3 then (1 : Int) else (0 : Int)))]) (fun hj => ?_) ?_
    · refine w_icmp_ne (tgt := 20) X rx4 ((rB_lit 3 (by decide)).i) dX1_make_13 (by decide) (fun hc => ?_) (fun hc => ?_)
      · refine lv_iconst (v := oI 0) X.1 X.2.1 dX1_make_20 rfl ?_
        rw [if_neg hc] at hj; exact hj
      · refine lv_iconst (v := oI 1) X.1 X.2.1 dX1_make_16 rfl ?_
        refine lv_goto (tgt := 21) X.1 X.2.1 dX1_make_17 (by decide) ?_
        rw [if_pos hc] at hj; exact hj
    refine w_top (fun y5_101 ey5_101 => ?_)
    have h := h y5_101 ey5_101
    have ry5_101 : rZ y5_101 := by rw [ey5_101]; exact (ite_rZ rZ_1 rZ_0)
    refine lv_istore (i := 5) (lv' := [(5, .int (oI y5_101)), (0, .ref (wad w 1 0)), (1, .int (oI x1)), (2, .long (oL x2)), (4, .int (oI x4))]) X.1 X.2.1 dX1_make_21 hl (by decide) (by first | rfl | simp [catK, catI, catR, catL]) (fun ls hl => ?_)
    refine lv_lload_n X.1 X.2.1 dX1_make_23 rfl (lv_at hl 3 rfl) ?_
    refine wr_Z (rS (As := [.long (oL x2)]) (rest := []) X hT hW hS (met_House_isName l (w := w) x2 _ σ rx2 h) (va_cwS 1 X.2.2.2.2 (lw_S q1169 q1170 q131 q1171) rfl rfl rfl (by decide +kernel) ⟨Nat.le_of_ble_eq_true rfl, Nat.le_of_ble_eq_true rfl⟩) rfl hl.1 rfl (by first | exact Nat.le_of_ble_eq_true rfl | simp [catK, catI, catR, catL]) dX1_make_24 ⟨Nat.le_refl _, Nat.le_refl _⟩) hS (fun r_102 σ_103 H locs rr_102 rkσ_103 h hWσ_103 hS => ?_)
    have h := h rr_102 rkσ_103
    refine w_if_eq (tgt := 48) X rr_102.i dX1_make_27 (by decide) (fun hc => ?_) (fun hc => ?_)
    · have h := h.1 hc
      refine lv_bipush (v := oI (-3)) X.1 X.2.1 dX1_make_48 (by decide) ?_
      exact wret_I X hr hlk hWσ_103 hS ((rB_lit (-3) (by decide)).i) h dX1_make_50
    · have h := h.2 hc
      refine lv_iload X.1 X.2.1 dX1_make_30 (lv_at hl 0 rfl) ?_
      refine w_if_eq (tgt := 51) X ry5_101.i dX1_make_32 (by decide) (fun hc => ?_) (fun hc => ?_)
      · have h := h.1 hc
        exact wk_House_make_b51 X hr hlk hT hV rx1 rx2 rx4 y5_101 σ_103 _ _ _ ry5_101 (lv_sub hl [1, 2, 3, 4, 0] rfl) hWσ_103 hS h
      · have h := h.2 hc
        refine lv_aload_n X.1 X.2.1 dX1_make_35 rfl (lv_at hl 1 rfl) ?_
        refine wg (v := .int (oI (gI σ_103 88 0))) X hT hWσ_103 1 24 88 vl1_0 rfl rfl (by decide) rfl (by decide) in_X1 q1094 rfl dX1_make_36 ?_
        refine lv_iconst (v := oI 1) X.1 X.2.1 dX1_make_39 rfl ?_
        refine lv_bipush (v := oI 64) X.1 X.2.1 dX1_make_40 (by decide) ?_
        refine wr_Z (rS (As := [.int (oI (gI σ_103 88 0)), .int (oI 1), .int (oI 64)]) (rest := []) X hT hWσ_103 hS (met_House_isIn l (w := w) (gI σ_103 88 0) 1 64 _ σ_103 (hWσ_103.r.i 88 0 rfl) rZ_1.i ((rB_lit 64 (by decide)).i) h) (va_cwS 3 X.2.2.2.2 (lw_S q208 q209 q131 q210) rfl rfl rfl (by decide +kernel) ⟨Nat.le_of_ble_eq_true rfl, Nat.le_of_ble_eq_true rfl⟩) rfl hl.1 rfl (by first | exact Nat.le_of_ble_eq_true rfl | simp [catK, catI, catR, catL]) dX1_make_42 ⟨Nat.le_refl _, Nat.le_refl _⟩) hS (fun r_104 σ_105 H locs rr_104 rkσ_105 h hWσ_105 hS => ?_)
        have h := h rr_104 rkσ_105
        refine w_if_ne (tgt := 51) X rr_104.i dX1_make_45 (by decide) (fun hc => ?_) (fun hc => ?_)
        · have h := h.1 hc
          exact wk_House_make_b51 X hr hlk hT hV rx1 rx2 rx4 y5_101 σ_105 _ _ _ ry5_101 (lv_sub hl [1, 2, 3, 4, 0] rfl) hWσ_105 hS h
        · have h := h.2 hc
          refine lv_bipush (v := oI (-3)) X.1 X.2.1 dX1_make_48 (by decide) ?_
          exact wret_I X hr hlk hWσ_105 hS ((rB_lit (-3) (by decide)).i) h dX1_make_50
  · have h := h.2 hc
    refine lv_bipush (v := oI (-2)) X.1 X.2.1 dX1_make_7 (by decide) ?_
    exact wret_I X hr hlk hW hS ((rB_lit (-2) (by decide)).i) h dX1_make_9
/-! House.create(IJ)I -/
set_option maxHeartbeats 4000000 in
set_option maxRecDepth 100000 in
theorem met_House_create (l : Launch) {w : Wp} (hV : Hvl w) (x1 : Int) (x2 : Int) (Q : Int → St → Prop) (σ : St) (rx1 : rI x1) (rx2 : rJ x2) (h : wp_House_create (wc w) (wtv w) x1 x2 Q σ) : Met l yX1_create (ws_ yX1_create cX1_create 4 (some .int)) rm_House_create (PcW w σ [.ref (wad w 1 0), .int (oI x1), .long (oL x2)]) (QcI w Q) 0 0 (wA w) := by
  refine Met.ofW (cc := cX1_create) (maxL := 4) (ret := (some .int)) (by decide) rfl ?_
  intro p e st m args below meth c s₁ B hml hv
  obtain ⟨hargs, hW, hT⟩ := hv
  have X : CallFix p m c cX1_create 4 st _ lw_all RX1 := ⟨B.exec, B.bytes, hml, findClass_of_methodNamed B.named, fun w h => atoms_spec (ws := ws_ yX1_create cX1_create 4 (some .int)) B.pre w (List.mem_cons_of_mem _ h)⟩
  have hr := B.returns
  have hlk := B.notSynchronized
  have hS : va_S (wA w) st.heap st.heap [] := va_S.rf
  have vl1_0 : vl w 1 0 := hV.hv 1 rfl ⟨by omega, by show _ < (1 : Int); omega⟩
  have hl := lv_entry ([.ref (wad w 1 0), .int (oI x1), .long (oL x2)]) (n := 4) (Nat.le_of_ble_eq_true rfl)
  have hfr := lg_entry_eq m ([.ref (wad w 1 0), .int (oI x1), .long (oL x2)]) 4
  rw [← hargs] at hfr
  rw [hfr]
  generalize (lg_sl ([.ref (wad w 1 0), .int (oI x1), .long (oL x2)]) ++ List.replicate (4 - (lg_sl ([.ref (wad w 1 0), .int (oI x1), .long (oL x2)])).length) Slot.unset).toArray = ls at hl ⊢
  have hl : lv_has ls 4 [(0, .ref (wad w 1 0)), (1, .int (oI x1)), (2, .long (oL x2))] := hl
  unfold wp_House_create at h
  refine lv_aload_n X.1 X.2.1 dX1_create_0 rfl (lv_at hl 0 rfl) ?_
  refine lv_iload_n X.1 X.2.1 dX1_create_1 rfl (lv_at hl 1 rfl) ?_
  refine lv_lload_n X.1 X.2.1 dX1_create_2 rfl (lv_at hl 2 rfl) ?_
  refine lv_iconst (v := oI 2) X.1 X.2.1 dX1_create_3 rfl ?_
  refine wr_I (rV (As := [.int (oI x1), .long (oL x2), .int (oI 2)]) (rest := []) X hT hW hS (met_House_make l (w := w) hV x1 x2 2 _ σ rx1 rx2 ((rB_lit 2 (by decide)).i) h) (cwV 3 X.2.2.2.2 (lw_V q1165 q1167 qs30 q131 q1168) rfl rfl rfl (by decide +kernel) ⟨Nat.le_of_ble_eq_true rfl, Nat.le_of_ble_eq_true rfl⟩) vl1_0 (by decide) rfl rfl hl.1 rfl (by first | exact Nat.le_of_ble_eq_true rfl | simp [catK, catI, catR, catL]) dX1_create_4 ⟨Nat.le_refl _, Nat.le_refl _⟩) hS (fun r_3 σ_4 H locs rr_3 rkσ_4 h hWσ_4 hS => ?_)
  have h := h rr_3 rkσ_4
  exact wret_I X hr hlk hWσ_4 hS rr_3 h dX1_create_7
/-! House.mkdir(IJ)I -/
set_option maxHeartbeats 4000000 in
set_option maxRecDepth 100000 in
theorem met_House_mkdir (l : Launch) {w : Wp} (hV : Hvl w) (x1 : Int) (x2 : Int) (Q : Int → St → Prop) (σ : St) (rx1 : rI x1) (rx2 : rJ x2) (h : wp_House_mkdir (wc w) (wtv w) x1 x2 Q σ) : Met l yX1_mkdir (ws_ yX1_mkdir cX1_mkdir 4 (some .int)) rm_House_mkdir (PcW w σ [.ref (wad w 1 0), .int (oI x1), .long (oL x2)]) (QcI w Q) 0 0 (wA w) := by
  refine Met.ofW (cc := cX1_mkdir) (maxL := 4) (ret := (some .int)) (by decide) rfl ?_
  intro p e st m args below meth c s₁ B hml hv
  obtain ⟨hargs, hW, hT⟩ := hv
  have X : CallFix p m c cX1_mkdir 4 st _ lw_all RX1 := ⟨B.exec, B.bytes, hml, findClass_of_methodNamed B.named, fun w h => atoms_spec (ws := ws_ yX1_mkdir cX1_mkdir 4 (some .int)) B.pre w (List.mem_cons_of_mem _ h)⟩
  have hr := B.returns
  have hlk := B.notSynchronized
  have hS : va_S (wA w) st.heap st.heap [] := va_S.rf
  have vl1_0 : vl w 1 0 := hV.hv 1 rfl ⟨by omega, by show _ < (1 : Int); omega⟩
  have hl := lv_entry ([.ref (wad w 1 0), .int (oI x1), .long (oL x2)]) (n := 4) (Nat.le_of_ble_eq_true rfl)
  have hfr := lg_entry_eq m ([.ref (wad w 1 0), .int (oI x1), .long (oL x2)]) 4
  rw [← hargs] at hfr
  rw [hfr]
  generalize (lg_sl ([.ref (wad w 1 0), .int (oI x1), .long (oL x2)]) ++ List.replicate (4 - (lg_sl ([.ref (wad w 1 0), .int (oI x1), .long (oL x2)])).length) Slot.unset).toArray = ls at hl ⊢
  have hl : lv_has ls 4 [(0, .ref (wad w 1 0)), (1, .int (oI x1)), (2, .long (oL x2))] := hl
  unfold wp_House_mkdir at h
  refine lv_aload_n X.1 X.2.1 dX1_mkdir_0 rfl (lv_at hl 0 rfl) ?_
  refine lv_iload_n X.1 X.2.1 dX1_mkdir_1 rfl (lv_at hl 1 rfl) ?_
  refine lv_lload_n X.1 X.2.1 dX1_mkdir_2 rfl (lv_at hl 2 rfl) ?_
  refine lv_iconst (v := oI 1) X.1 X.2.1 dX1_mkdir_3 rfl ?_
  refine wr_I (rV (As := [.int (oI x1), .long (oL x2), .int (oI 1)]) (rest := []) X hT hW hS (met_House_make l (w := w) hV x1 x2 1 _ σ rx1 rx2 rZ_1.i h) (cwV 3 X.2.2.2.2 (lw_V q1165 q1167 qs30 q131 q1168) rfl rfl rfl (by decide +kernel) ⟨Nat.le_of_ble_eq_true rfl, Nat.le_of_ble_eq_true rfl⟩) vl1_0 (by decide) rfl rfl hl.1 rfl (by first | exact Nat.le_of_ble_eq_true rfl | simp [catK, catI, catR, catL]) dX1_mkdir_4 ⟨Nat.le_refl _, Nat.le_refl _⟩) hS (fun r_3 σ_4 H locs rr_3 rkσ_4 h hWσ_4 hS => ?_)
  have h := h rr_3 rkσ_4
  exact wret_I X hr hlk hWσ_4 hS rr_3 h dX1_mkdir_7
/-! House.sign(IJ)I -/
set_option maxHeartbeats 4000000 in
set_option maxRecDepth 100000 in
theorem met_House_sign (l : Launch) {w : Wp} (hV : Hvl w) (x1 : Int) (x2 : Int) (Q : Int → St → Prop) (σ : St) (rx1 : rI x1) (rx2 : rJ x2) (h : wp_House_sign (wc w) (wtv w) x1 x2 Q σ) : Met l yX1_sign (ws_ yX1_sign cX1_sign 4 (some .int)) rm_House_sign (PcW w σ [.ref (wad w 1 0), .int (oI x1), .long (oL x2)]) (QcI w Q) 0 0 (wA w) := by
  refine Met.ofW (cc := cX1_sign) (maxL := 4) (ret := (some .int)) (by decide) rfl ?_
  intro p e st m args below meth c s₁ B hml hv
  obtain ⟨hargs, hW, hT⟩ := hv
  have X : CallFix p m c cX1_sign 4 st _ lw_all RX1 := ⟨B.exec, B.bytes, hml, findClass_of_methodNamed B.named, fun w h => atoms_spec (ws := ws_ yX1_sign cX1_sign 4 (some .int)) B.pre w (List.mem_cons_of_mem _ h)⟩
  have hr := B.returns
  have hlk := B.notSynchronized
  have hS : va_S (wA w) st.heap st.heap [] := va_S.rf
  have vl1_0 : vl w 1 0 := hV.hv 1 rfl ⟨by omega, by show _ < (1 : Int); omega⟩
  have hl := lv_entry ([.ref (wad w 1 0), .int (oI x1), .long (oL x2)]) (n := 4) (Nat.le_of_ble_eq_true rfl)
  have hfr := lg_entry_eq m ([.ref (wad w 1 0), .int (oI x1), .long (oL x2)]) 4
  rw [← hargs] at hfr
  rw [hfr]
  generalize (lg_sl ([.ref (wad w 1 0), .int (oI x1), .long (oL x2)]) ++ List.replicate (4 - (lg_sl ([.ref (wad w 1 0), .int (oI x1), .long (oL x2)])).length) Slot.unset).toArray = ls at hl ⊢
  have hl : lv_has ls 4 [(0, .ref (wad w 1 0)), (1, .int (oI x1)), (2, .long (oL x2))] := hl
  unfold wp_House_sign at h
  refine lv_aload_n X.1 X.2.1 dX1_sign_0 rfl (lv_at hl 0 rfl) ?_
  refine lv_iload_n X.1 X.2.1 dX1_sign_1 rfl (lv_at hl 1 rfl) ?_
  refine lv_lload_n X.1 X.2.1 dX1_sign_2 rfl (lv_at hl 2 rfl) ?_
  refine lv_iconst (v := oI 3) X.1 X.2.1 dX1_sign_3 rfl ?_
  refine wr_I (rV (As := [.int (oI x1), .long (oL x2), .int (oI 3)]) (rest := []) X hT hW hS (met_House_make l (w := w) hV x1 x2 3 _ σ rx1 rx2 ((rB_lit 3 (by decide)).i) h) (cwV 3 X.2.2.2.2 (lw_V q1165 q1167 qs30 q131 q1168) rfl rfl rfl (by decide +kernel) ⟨Nat.le_of_ble_eq_true rfl, Nat.le_of_ble_eq_true rfl⟩) vl1_0 (by decide) rfl rfl hl.1 rfl (by first | exact Nat.le_of_ble_eq_true rfl | simp [catK, catI, catR, catL]) dX1_sign_4 ⟨Nat.le_refl _, Nat.le_refl _⟩) hS (fun r_3 σ_4 H locs rr_3 rkσ_4 h hWσ_4 hS => ?_)
  have h := h rr_3 rkσ_4
  exact wret_I X hr hlk hWσ_4 hS rr_3 h dX1_sign_7
/-! House.link(IIJ)I -/
set_option maxHeartbeats 4000000 in
set_option maxRecDepth 100000 in
theorem wk_House_link_b56 {p : Program} {l : Launch} {e : Env} {st : State} {m : MethodId} {args : Array Value} {below : List Frame} {meth : Method} {c : Code} {w : Wp} {x1 : Int} {x2 : Int} {x3 : Int} {Q : Int → St → Prop} (X : CallFix p m c cX1_link 6 st args lw_all RX1) (hr : meth.sig.returnType = (some .int)) (hlk : meth.locks = false) (hT : Tb w st) (hV : Hvl w) (rx1 : rI x1) (rx2 : rI x2) (rx3 : rJ x3) : ∀ (σ : St) (H : Heap) (locs : List Loc) (ls : Array Slot), lv_has ls 6 [(0, .ref (wad w 1 0)), (1, .int (oI x1)), (2, .int (oI x2)), (3, .long (oL x3))] → Wo w σ H → va_S (wA w) st.heap H locs → wp_House_link_b56 (wc w) (wtv w) x1 x2 x3 Q σ → W p l e (headSpec (ws_ yX1_link cX1_link 6 (some .int)) rm_House_link).room st m args below meth c H locs 0 0 (MQ below (QcI w Q) args st 0 0 (wA w)) (F0 m 56 ls []) := by
  have vl1_0 : vl w 1 0 := hV.hv 1 rfl ⟨by omega, by show _ < (1 : Int); omega⟩
  have vl10_0 : vl w 10 0 := hV.hv 10 rfl ⟨by omega, by show _ < (4 : Int); omega⟩
  have vl10_1 : vl w 10 1 := hV.hv 10 rfl ⟨by omega, by show _ < (4 : Int); omega⟩
  intro σ H locs ls hl hW hS h
  unfold wp_House_link_b56 at h
  refine lv_aload_n X.1 X.2.1 dX1_link_56 rfl (lv_at hl 0 rfl) ?_
  refine wg (v := .ref (wad w 10 1)) X hT hW 1 15 79 vl1_0 rfl rfl (by decide) rfl (by decide) in_X1 q1085 rfl dX1_link_57 ?_
  refine wg (v := .int (oI (gI σ 641 1))) X hT hW 10 1 641 vl10_1 rfl rfl (by decide) rfl (by decide) in_X3 q190 rfl dX1_link_60 ?_
  refine lv_iconst (v := oI 2) X.1 X.2.1 dX1_link_63 rfl ?_
  refine w_icmp_eq (tgt := 86) X (hW.r.i 641 1 rfl) ((rB_lit 2 (by decide)).i) dX1_link_64 (by decide) (fun hc => ?_) (fun hc => ?_)
  · have h := h.1 hc
    refine lv_aload_n X.1 X.2.1 dX1_link_86 rfl (lv_at hl 0 rfl) ?_
    refine lv_iload_n X.1 X.2.1 dX1_link_87 rfl (lv_at hl 2 rfl) ?_
    refine lv_aload_n X.1 X.2.1 dX1_link_88 rfl (lv_at hl 0 rfl) ?_
    refine wg (v := .ref (wad w 10 0)) X hT hW 1 14 78 vl1_0 rfl rfl (by decide) rfl (by decide) in_X1 q1084 rfl dX1_link_89 ?_
    refine wr_I (rV (As := [.int (oI x2), .ref (wad w 10 0)]) (rest := []) X hT hW hS (met_House_directory l (w := w) hV x2 0 _ σ rx2 (by omega) h) (cwV 2 X.2.2.2.2 (lw_V q1173 q1175 qs31 q131 q1176) rfl rfl rfl (by decide +kernel) ⟨Nat.le_of_ble_eq_true rfl, Nat.le_of_ble_eq_true rfl⟩) vl1_0 (by decide) rfl rfl hl.1 rfl (by first | exact Nat.le_of_ble_eq_true rfl | simp [catK, catI, catR, catL]) dX1_link_92 ⟨Nat.le_refl _, Nat.le_refl _⟩) hS (fun r_22 σ_23 H locs rr_22 rkσ_23 h hWσ_23 hS => ?_)
    have h := h rr_22 rkσ_23
    refine lv_istore (i := 5) (lv' := [(5, .int (oI r_22)), (0, .ref (wad w 1 0)), (1, .int (oI x1)), (2, .int (oI x2)), (3, .long (oL x3))]) X.1 X.2.1 dX1_link_95 hl (by decide) (by first | rfl | simp [catK, catI, catR, catL]) (fun ls hl => ?_)
    refine lv_iload X.1 X.2.1 dX1_link_97 (lv_at hl 0 rfl) ?_
    refine w_if_ge (tgt := 105) X rr_22 dX1_link_99 (by decide) (fun hc => ?_) (fun hc => ?_)
    · have h := h.1 hc
      refine lv_aload_n X.1 X.2.1 dX1_link_105 rfl (lv_at hl 1 rfl) ?_
      refine lv_iload_n X.1 X.2.1 dX1_link_106 rfl (lv_at hl 3 rfl) ?_
      refine lv_lload_n X.1 X.2.1 dX1_link_107 rfl (lv_at hl 4 rfl) ?_
      refine wr_I (rV (As := [.int (oI x2), .long (oL x3)]) (rest := []) X hT hWσ_23 hS (met_House_entry l (w := w) hV x2 x3 _ σ_23 rx2 rx3 h) (cwV 2 X.2.2.2.2 (lw_V q1210 q1212 qs34 q131 q1213) rfl rfl rfl (by decide +kernel) ⟨Nat.le_of_ble_eq_true rfl, Nat.le_of_ble_eq_true rfl⟩) vl1_0 (by decide) rfl rfl hl.1 rfl (by first | exact Nat.le_of_ble_eq_true rfl | simp [catK, catI, catR, catL]) dX1_link_108 ⟨Nat.le_refl _, Nat.le_refl _⟩) hS (fun r_24 σ_25 H locs rr_24 rkσ_25 h hWσ_25 hS => ?_)
      have h := h rr_24 rkσ_25
      refine w_if_le (tgt := 117) X rr_24 dX1_link_111 (by decide) (fun hc => ?_) (fun hc => ?_)
      · have h := h.1 hc
        refine lv_aload_n X.1 X.2.1 dX1_link_117 rfl (lv_at hl 1 rfl) ?_
        refine wg (v := .int (oI (gI σ_25 71 0))) X hT hWσ_25 1 7 71 vl1_0 rfl rfl (by decide) rfl (by decide) in_X1 q1077 rfl dX1_link_118 ?_
        refine lv_bipush (v := oI 48) X.1 X.2.1 dX1_link_121 (by decide) ?_
        refine w_iadd X dX1_link_123 ?_
        refine lv_sipush (v := oI 192) X.1 X.2.1 dX1_link_124 (by decide) ?_
        refine w_iadd X dX1_link_127 ?_
        refine lv_aload_n X.1 X.2.1 dX1_link_128 rfl (lv_at hl 1 rfl) ?_
        refine wg (v := .int (oI (cap (wc w)))) X hT hWσ_25 1 4 68 vl1_0 rfl rfl (by decide) rfl (by decide) in_X1 q1074 rfl dX1_link_129 ?_
        refine w_icmp_le (tgt := 138) X (w32_r _) (cin_r hT.c 68) dX1_link_132 (by decide) (fun hc => ?_) (fun hc => ?_)
        · have h := h.1 hc
          refine lv_aload_n X.1 X.2.1 dX1_link_138 rfl (lv_at hl 1 rfl) ?_
          refine wg (v := .ref (wad w 10 1)) X hT hWσ_25 1 15 79 vl1_0 rfl rfl (by decide) rfl (by decide) in_X1 q1085 rfl dX1_link_139 ?_
          refine lv_dup X.1 X.2.1 dX1_link_142 rfl ?_
          refine wg (v := .int (oI (gI σ_25 642 1))) X hT hWσ_25 10 2 642 vl10_1 rfl rfl (by decide) rfl (by decide) in_X3 q191 rfl dX1_link_143 ?_
          refine lv_iconst (v := oI 1) X.1 X.2.1 dX1_link_146 rfl ?_
          refine w_iadd X dX1_link_147 ?_
          refine wput (z := w32 ((gI σ_25 642 1) + 1)) X hT hWσ_25 hS 10 2 642 vl10_1 rfl rfl (by decide) rfl (by decide) in_X3 tyX3 tyX3_ok nmX3 q191 rfl rfl (w32_r _) (fv0 w rfl) rfl rfl dX1_link_148 (fun H locs hN hS => ?_)
          obtain ⟨σ_26, eσ_26⟩ : ∃ x, x = sI σ_25 642 1 (w32 ((gI σ_25 642 1) + 1)) := ⟨_, rfl⟩
          have hWσ_26 : Wo w σ_26 H := eσ_26 ▸ hN
          have h := h σ_26 eσ_26
          clear hN
          refine lv_aload_n X.1 X.2.1 dX1_link_151 rfl (lv_at hl 1 rfl) ?_
          refine wg (v := .ref (wad w 10 0)) X hT hWσ_26 1 14 78 vl1_0 rfl rfl (by decide) rfl (by decide) in_X1 q1084 rfl dX1_link_152 ?_
          refine lv_dup X.1 X.2.1 dX1_link_155 rfl ?_
          refine wg (v := .int (oI (gI σ_26 644 0))) X hT hWσ_26 10 4 644 vl10_0 rfl rfl (by decide) rfl (by decide) in_X3 q193 rfl dX1_link_156 ?_
          refine lv_iconst (v := oI 1) X.1 X.2.1 dX1_link_159 rfl ?_
          refine w_iadd X dX1_link_160 ?_
          refine wput (z := w32 ((gI σ_26 644 0) + 1)) X hT hWσ_26 hS 10 4 644 vl10_0 rfl rfl (by decide) rfl (by decide) in_X3 tyX3 tyX3_ok nmX3 q193 rfl rfl (w32_r _) (fv0 w rfl) rfl rfl dX1_link_161 (fun H locs hN hS => ?_)
          obtain ⟨σ_27, eσ_27⟩ : ∃ x, x = sI σ_26 644 0 (w32 ((gI σ_26 644 0) + 1)) := ⟨_, rfl⟩
          have hWσ_27 : Wo w σ_27 H := eσ_27 ▸ hN
          have h := h σ_27 eσ_27
          clear hN
          refine lv_aload_n X.1 X.2.1 dX1_link_164 rfl (lv_at hl 1 rfl) ?_
          refine wr_V (rV (As := []) (rest := []) X hT hWσ_27 hS (met_House_begin l (w := w) hV _ σ_27 h) (cwV 0 X.2.2.2.2 (lw_V q1231 q1233 qs35 q131 q1234) rfl rfl rfl (by decide +kernel) ⟨Nat.le_of_ble_eq_true rfl, Nat.le_of_ble_eq_true rfl⟩) vl1_0 (by decide) rfl rfl hl.1 rfl (by first | exact Nat.le_of_ble_eq_true rfl | simp [catK, catI, catR, catL]) dX1_link_165 ⟨Nat.le_refl _, Nat.le_refl _⟩) hS (fun σ_29 H locs rkσ_29 h hWσ_29 hS => ?_)
          have h := h rkσ_29
          refine lv_aload_n X.1 X.2.1 dX1_link_168 rfl (lv_at hl 1 rfl) ?_
          refine lv_iload_n X.1 X.2.1 dX1_link_169 rfl (lv_at hl 3 rfl) ?_
          refine lv_lload_n X.1 X.2.1 dX1_link_170 rfl (lv_at hl 4 rfl) ?_
          refine lv_iload_n X.1 X.2.1 dX1_link_171 rfl (lv_at hl 2 rfl) ?_
          refine lv_aload_n X.1 X.2.1 dX1_link_172 rfl (lv_at hl 1 rfl) ?_
          refine wg (v := .int (oI (gI σ_29 91 0))) X hT hWσ_29 1 27 91 vl1_0 rfl rfl (by decide) rfl (by decide) in_X1 q1097 rfl dX1_link_173 ?_
          refine wr_V (rV (As := [.int (oI x2), .long (oL x3), .int (oI x1), .int (oI (gI σ_29 91 0))]) (rest := []) X hT hWσ_29 hS (met_House_addEntry l (w := w) hV x2 x3 x1 (gI σ_29 91 0) _ σ_29 rx2 rx3 rx1 (hWσ_29.r.i 91 0 rfl) h) (cwV 4 X.2.2.2.2 (lw_V q1236 q1238 qs36 q131 q1239) rfl rfl rfl (by decide +kernel) ⟨Nat.le_of_ble_eq_true rfl, Nat.le_of_ble_eq_true rfl⟩) vl1_0 (by decide) rfl rfl hl.1 rfl (by first | exact Nat.le_of_ble_eq_true rfl | simp [catK, catI, catR, catL]) dX1_link_176 ⟨Nat.le_refl _, Nat.le_refl _⟩) hS (fun σ_31 H locs rkσ_31 h hWσ_31 hS => ?_)
          have h := h rkσ_31
          refine lv_aload_n X.1 X.2.1 dX1_link_179 rfl (lv_at hl 1 rfl) ?_
          refine lv_aload_n X.1 X.2.1 dX1_link_180 rfl (lv_at hl 1 rfl) ?_
          refine wg (v := .ref (wad w 10 1)) X hT hWσ_31 1 15 79 vl1_0 rfl rfl (by decide) rfl (by decide) in_X1 q1085 rfl dX1_link_181 ?_
          refine lv_iconst (v := oI 0) X.1 X.2.1 dX1_link_184 rfl ?_
          refine wr_V (rV (As := [.ref (wad w 10 1), .int (oI 0)]) (rest := []) X hT hWσ_31 hS (met_House_addInode l (w := w) hV 1 0 _ σ_31 (by omega) rZ_0 h) (cwV 2 X.2.2.2.2 (lw_V q1244 q1246 qs37 q131 q1247) rfl rfl rfl (by decide +kernel) ⟨Nat.le_of_ble_eq_true rfl, Nat.le_of_ble_eq_true rfl⟩) vl1_0 (by decide) rfl rfl hl.1 rfl (by first | exact Nat.le_of_ble_eq_true rfl | simp [catK, catI, catR, catL]) dX1_link_185 ⟨Nat.le_refl _, Nat.le_refl _⟩) hS (fun σ_33 H locs rkσ_33 h hWσ_33 hS => ?_)
          have h := h rkσ_33
          refine lv_aload_n X.1 X.2.1 dX1_link_188 rfl (lv_at hl 1 rfl) ?_
          refine lv_aload_n X.1 X.2.1 dX1_link_189 rfl (lv_at hl 1 rfl) ?_
          refine wg (v := .ref (wad w 10 0)) X hT hWσ_33 1 14 78 vl1_0 rfl rfl (by decide) rfl (by decide) in_X1 q1084 rfl dX1_link_190 ?_
          refine lv_iconst (v := oI 1) X.1 X.2.1 dX1_link_193 rfl ?_
          refine wr_V (rV (As := [.ref (wad w 10 0), .int (oI 1)]) (rest := []) X hT hWσ_33 hS (met_House_addInode l (w := w) hV 0 1 _ σ_33 (by omega) rZ_1 h) (cwV 2 X.2.2.2.2 (lw_V q1244 q1246 qs37 q131 q1247) rfl rfl rfl (by decide +kernel) ⟨Nat.le_of_ble_eq_true rfl, Nat.le_of_ble_eq_true rfl⟩) vl1_0 (by decide) rfl rfl hl.1 rfl (by first | exact Nat.le_of_ble_eq_true rfl | simp [catK, catI, catR, catL]) dX1_link_194 ⟨Nat.le_refl _, Nat.le_refl _⟩) hS (fun σ_35 H locs rkσ_35 h hWσ_35 hS => ?_)
          have h := h rkσ_35
          refine lv_aload_n X.1 X.2.1 dX1_link_197 rfl (lv_at hl 1 rfl) ?_
          refine wr_V (rV (As := []) (rest := []) X hT hWσ_35 hS (met_House_hand l (w := w) hV _ σ_35 h) (cwV 0 X.2.2.2.2 (lw_V q1253 q1255 qs39 q131 q1256) rfl rfl rfl (by decide +kernel) ⟨Nat.le_of_ble_eq_true rfl, Nat.le_of_ble_eq_true rfl⟩) vl1_0 (by decide) rfl rfl hl.1 rfl (by first | exact Nat.le_of_ble_eq_true rfl | simp [catK, catI, catR, catL]) dX1_link_198 ⟨Nat.le_refl _, Nat.le_refl _⟩) hS (fun σ_37 H locs rkσ_37 h hWσ_37 hS => ?_)
          have h := h rkσ_37
          refine lv_aload_n X.1 X.2.1 dX1_link_201 rfl (lv_at hl 1 rfl) ?_
          refine lv_dup X.1 X.2.1 dX1_link_202 rfl ?_
          refine wg (v := .int (oI (gI σ_37 71 0))) X hT hWσ_37 1 7 71 vl1_0 rfl rfl (by decide) rfl (by decide) in_X1 q1077 rfl dX1_link_203 ?_
          refine lv_sipush (v := oI 240) X.1 X.2.1 dX1_link_206 (by decide) ?_
          refine w_iadd X dX1_link_209 ?_
          refine wput (z := w32 ((gI σ_37 71 0) + 240)) X hT hWσ_37 hS 1 7 71 vl1_0 rfl rfl (by decide) rfl (by decide) in_X1 tyX1 tyX1_ok nmX1 q1077 rfl rfl (w32_r _) (fv0 w rfl) rfl rfl dX1_link_210 (fun H locs hN hS => ?_)
          obtain ⟨σ_38, eσ_38⟩ : ∃ x, x = sI σ_37 71 0 (w32 ((gI σ_37 71 0) + 240)) := ⟨_, rfl⟩
          have hWσ_38 : Wo w σ_38 H := eσ_38 ▸ hN
          have h := h σ_38 eσ_38
          clear hN
          refine lv_aload_n X.1 X.2.1 dX1_link_213 rfl (lv_at hl 1 rfl) ?_
          refine wg (v := .ref (wad w 10 1)) X hT hWσ_38 1 15 79 vl1_0 rfl rfl (by decide) rfl (by decide) in_X1 q1085 rfl dX1_link_214 ?_
          refine wg (v := .int (oI (gI σ_38 642 1))) X hT hWσ_38 10 2 642 vl10_1 rfl rfl (by decide) rfl (by decide) in_X3 q191 rfl dX1_link_217 ?_
          exact wret_I X hr hlk hWσ_38 hS (hWσ_38.r.i 642 1 rfl) h dX1_link_220
        · have h := h.2 hc
          refine lv_bipush (v := oI (-10)) X.1 X.2.1 dX1_link_135 (by decide) ?_
          exact wret_I X hr hlk hWσ_25 hS ((rB_lit (-10) (by decide)).i) h dX1_link_137
      · have h := h.2 hc
        refine lv_bipush (v := oI (-5)) X.1 X.2.1 dX1_link_114 (by decide) ?_
        exact wret_I X hr hlk hWσ_25 hS ((rB_lit (-5) (by decide)).i) h dX1_link_116
    · have h := h.2 hc
      refine lv_iload X.1 X.2.1 dX1_link_102 (lv_at hl 0 rfl) ?_
      exact wret_I X hr hlk hWσ_23 hS rr_22 h dX1_link_104
  · have h := h.2 hc
    refine lv_aload_n X.1 X.2.1 dX1_link_67 rfl (lv_at hl 0 rfl) ?_
    refine wg (v := .ref (wad w 10 1)) X hT hW 1 15 79 vl1_0 rfl rfl (by decide) rfl (by decide) in_X1 q1085 rfl dX1_link_68 ?_
    refine wg (v := .int (oI (gI σ 641 1))) X hT hW 10 1 641 vl10_1 rfl rfl (by decide) rfl (by decide) in_X3 q190 rfl dX1_link_71 ?_
    refine lv_iconst (v := oI 1) X.1 X.2.1 dX1_link_74 rfl ?_
    refine w_cut (pc2 := 85) (st2 := [.int (oI (if (gI σ 641 1) = 1 then (-7 : Int) else (-11 : Int)))]) (fun hj => ?_) ?_
    · refine w_icmp_ne (tgt := 83) X (hW.r.i 641 1 rfl) rZ_1.i dX1_link_75 (by decide) (fun hc => ?_) (fun hc => ?_)
      · refine lv_bipush (v := oI (-11)) X.1 X.2.1 dX1_link_83 (by decide) ?_
        rw [if_neg hc] at hj; exact hj
      · refine lv_bipush (v := oI (-7)) X.1 X.2.1 dX1_link_78 (by decide) ?_
        refine lv_goto (tgt := 85) X.1 X.2.1 dX1_link_80 (by decide) ?_
        rw [if_pos hc] at hj; exact hj
    exact wret_I X hr hlk hW hS (ite_rI ((rB_lit (-7) (by decide)).i) ((rB_lit (-11) (by decide)).i)) h dX1_link_85
set_option maxHeartbeats 4000000 in
set_option maxRecDepth 100000 in
theorem met_House_link (l : Launch) {w : Wp} (hV : Hvl w) (x1 : Int) (x2 : Int) (x3 : Int) (Q : Int → St → Prop) (σ : St) (rx1 : rI x1) (rx2 : rI x2) (rx3 : rJ x3) (h : wp_House_link (wc w) (wtv w) x1 x2 x3 Q σ) : Met l yX1_link (ws_ yX1_link cX1_link 6 (some .int)) rm_House_link (PcW w σ [.ref (wad w 1 0), .int (oI x1), .int (oI x2), .long (oL x3)]) (QcI w Q) 0 0 (wA w) := by
  refine Met.ofW (cc := cX1_link) (maxL := 6) (ret := (some .int)) (by decide) rfl ?_
  intro p e st m args below meth c s₁ B hml hv
  obtain ⟨hargs, hW, hT⟩ := hv
  have X : CallFix p m c cX1_link 6 st _ lw_all RX1 := ⟨B.exec, B.bytes, hml, findClass_of_methodNamed B.named, fun w h => atoms_spec (ws := ws_ yX1_link cX1_link 6 (some .int)) B.pre w (List.mem_cons_of_mem _ h)⟩
  have hr := B.returns
  have hlk := B.notSynchronized
  have hS : va_S (wA w) st.heap st.heap [] := va_S.rf
  have vl1_0 : vl w 1 0 := hV.hv 1 rfl ⟨by omega, by show _ < (1 : Int); omega⟩
  have vl10_1 : vl w 10 1 := hV.hv 10 rfl ⟨by omega, by show _ < (4 : Int); omega⟩
  have hl := lv_entry ([.ref (wad w 1 0), .int (oI x1), .int (oI x2), .long (oL x3)]) (n := 6) (Nat.le_of_ble_eq_true rfl)
  have hfr := lg_entry_eq m ([.ref (wad w 1 0), .int (oI x1), .int (oI x2), .long (oL x3)]) 6
  rw [← hargs] at hfr
  rw [hfr]
  generalize (lg_sl ([.ref (wad w 1 0), .int (oI x1), .int (oI x2), .long (oL x3)]) ++ List.replicate (6 - (lg_sl ([.ref (wad w 1 0), .int (oI x1), .int (oI x2), .long (oL x3)])).length) Slot.unset).toArray = ls at hl ⊢
  have hl : lv_has ls 6 [(0, .ref (wad w 1 0)), (1, .int (oI x1)), (2, .int (oI x2)), (3, .long (oL x3))] := hl
  unfold wp_House_link at h
  refine lv_aload_n X.1 X.2.1 dX1_link_0 rfl (lv_at hl 0 rfl) ?_
  refine wg (v := .int (oI (gI σ 69 0))) X hT hW 1 5 69 vl1_0 rfl rfl (by decide) rfl (by decide) in_X1 q1075 rfl dX1_link_1 ?_
  refine w_if_ne (tgt := 10) X ((hW.r.z 69 0 rfl).i) dX1_link_4 (by decide) (fun hc => ?_) (fun hc => ?_)
  · have h := h.1 hc
    refine lv_lload_n X.1 X.2.1 dX1_link_10 rfl (lv_at hl 3 rfl) ?_
    refine wr_Z (rS (As := [.long (oL x3)]) (rest := []) X hT hW hS (met_House_isName l (w := w) x3 _ σ rx3 h) (va_cwS 1 X.2.2.2.2 (lw_S q1169 q1170 q131 q1171) rfl rfl rfl (by decide +kernel) ⟨Nat.le_of_ble_eq_true rfl, Nat.le_of_ble_eq_true rfl⟩) rfl hl.1 rfl (by first | exact Nat.le_of_ble_eq_true rfl | simp [catK, catI, catR, catL]) dX1_link_11 ⟨Nat.le_refl _, Nat.le_refl _⟩) hS (fun r_39 σ_40 H locs rr_39 rkσ_40 h hWσ_40 hS => ?_)
    have h := h rr_39 rkσ_40
    refine w_if_ne (tgt := 20) X rr_39.i dX1_link_14 (by decide) (fun hc => ?_) (fun hc => ?_)
    · have h := h.1 hc
      refine lv_aload_n X.1 X.2.1 dX1_link_20 rfl (lv_at hl 0 rfl) ?_
      refine lv_iload_n X.1 X.2.1 dX1_link_21 rfl (lv_at hl 1 rfl) ?_
      refine lv_aload_n X.1 X.2.1 dX1_link_22 rfl (lv_at hl 0 rfl) ?_
      refine wg (v := .ref (wad w 10 1)) X hT hWσ_40 1 15 79 vl1_0 rfl rfl (by decide) rfl (by decide) in_X1 q1085 rfl dX1_link_23 ?_
      refine wr_Z (rV (As := [.int (oI x1), .ref (wad w 10 1)]) (rest := []) X hT hWσ_40 hS (met_House_read l (w := w) hV x1 1 _ σ_40 rx1 (by omega) h) (cwV 2 X.2.2.2.2 (lw_V q1177 q1179 qs32 q131 q1180) rfl rfl rfl (by decide +kernel) ⟨Nat.le_of_ble_eq_true rfl, Nat.le_of_ble_eq_true rfl⟩) vl1_0 (by decide) rfl rfl hl.1 rfl (by first | exact Nat.le_of_ble_eq_true rfl | simp [catK, catI, catR, catL]) dX1_link_26 ⟨Nat.le_refl _, Nat.le_refl _⟩) hS (fun r_41 σ_42 H locs rr_41 rkσ_42 h hWσ_42 hS => ?_)
      have h := h rr_41 rkσ_42
      refine w_if_eq (tgt := 53) X rr_41.i dX1_link_29 (by decide) (fun hc => ?_) (fun hc => ?_)
      · have h := h.1 hc
        refine lv_bipush (v := oI (-4)) X.1 X.2.1 dX1_link_53 (by decide) ?_
        exact wret_I X hr hlk hWσ_42 hS ((rB_lit (-4) (by decide)).i) h dX1_link_55
      · have h := h.2 hc
        refine lv_aload_n X.1 X.2.1 dX1_link_32 rfl (lv_at hl 0 rfl) ?_
        refine wg (v := .ref (wad w 10 1)) X hT hWσ_42 1 15 79 vl1_0 rfl rfl (by decide) rfl (by decide) in_X1 q1085 rfl dX1_link_33 ?_
        refine wg (v := .int (oI (gI σ_42 641 1))) X hT hWσ_42 10 1 641 vl10_1 rfl rfl (by decide) rfl (by decide) in_X3 q190 rfl dX1_link_36 ?_
        refine lv_iconst (v := oI 2) X.1 X.2.1 dX1_link_39 rfl ?_
        refine w_icmp_ne (tgt := 56) X (hWσ_42.r.i 641 1 rfl) ((rB_lit 2 (by decide)).i) dX1_link_40 (by decide) (fun hc => ?_) (fun hc => ?_)
        · have h := h.1 hc
          exact wk_House_link_b56 X hr hlk hT hV rx1 rx2 rx3 σ_42 _ _ _ (lv_sub hl [0, 1, 2, 3] rfl) hWσ_42 hS h
        · have h := h.2 hc
          refine lv_aload_n X.1 X.2.1 dX1_link_43 rfl (lv_at hl 0 rfl) ?_
          refine wg (v := .ref (wad w 10 1)) X hT hWσ_42 1 15 79 vl1_0 rfl rfl (by decide) rfl (by decide) in_X1 q1085 rfl dX1_link_44 ?_
          refine wg (v := .int (oI (gI σ_42 642 1))) X hT hWσ_42 10 2 642 vl10_1 rfl rfl (by decide) rfl (by decide) in_X3 q191 rfl dX1_link_47 ?_
          refine w_if_ne (tgt := 56) X (hWσ_42.r.i 642 1 rfl) dX1_link_50 (by decide) (fun hc => ?_) (fun hc => ?_)
          · have h := h.1 hc
            exact wk_House_link_b56 X hr hlk hT hV rx1 rx2 rx3 σ_42 _ _ _ (lv_sub hl [0, 1, 2, 3] rfl) hWσ_42 hS h
          · have h := h.2 hc
            refine lv_bipush (v := oI (-4)) X.1 X.2.1 dX1_link_53 (by decide) ?_
            exact wret_I X hr hlk hWσ_42 hS ((rB_lit (-4) (by decide)).i) h dX1_link_55
    · have h := h.2 hc
      refine lv_bipush (v := oI (-3)) X.1 X.2.1 dX1_link_17 (by decide) ?_
      exact wret_I X hr hlk hWσ_40 hS ((rB_lit (-3) (by decide)).i) h dX1_link_19
  · have h := h.2 hc
    refine lv_bipush (v := oI (-2)) X.1 X.2.1 dX1_link_7 (by decide) ?_
    exact wret_I X hr hlk hW hS ((rB_lit (-2) (by decide)).i) h dX1_link_9
/-! House.named(IJ)I -/
set_option maxHeartbeats 4000000 in
set_option maxRecDepth 100000 in
theorem met_House_named (l : Launch) {w : Wp} (hV : Hvl w) (x1 : Int) (x2 : Int) (Q : Int → St → Prop) (σ : St) (rx1 : rI x1) (rx2 : rJ x2) (h : wp_House_named (wc w) (wtv w) x1 x2 Q σ) : Met l yX1_named (ws_ yX1_named cX1_named 5 (some .int)) rm_House_named (PcW w σ [.ref (wad w 1 0), .int (oI x1), .long (oL x2)]) (QcI w Q) 0 0 (wA w) := by
  refine Met.ofW (cc := cX1_named) (maxL := 5) (ret := (some .int)) (by decide) rfl ?_
  intro p e st m args below meth c s₁ B hml hv
  obtain ⟨hargs, hW, hT⟩ := hv
  have X : CallFix p m c cX1_named 5 st _ lw_all RX1 := ⟨B.exec, B.bytes, hml, findClass_of_methodNamed B.named, fun w h => atoms_spec (ws := ws_ yX1_named cX1_named 5 (some .int)) B.pre w (List.mem_cons_of_mem _ h)⟩
  have hr := B.returns
  have hlk := B.notSynchronized
  have hS : va_S (wA w) st.heap st.heap [] := va_S.rf
  have vl1_0 : vl w 1 0 := hV.hv 1 rfl ⟨by omega, by show _ < (1 : Int); omega⟩
  have vl10_0 : vl w 10 0 := hV.hv 10 rfl ⟨by omega, by show _ < (4 : Int); omega⟩
  have vl10_1 : vl w 10 1 := hV.hv 10 rfl ⟨by omega, by show _ < (4 : Int); omega⟩
  have hl := lv_entry ([.ref (wad w 1 0), .int (oI x1), .long (oL x2)]) (n := 5) (Nat.le_of_ble_eq_true rfl)
  have hfr := lg_entry_eq m ([.ref (wad w 1 0), .int (oI x1), .long (oL x2)]) 5
  rw [← hargs] at hfr
  rw [hfr]
  generalize (lg_sl ([.ref (wad w 1 0), .int (oI x1), .long (oL x2)]) ++ List.replicate (5 - (lg_sl ([.ref (wad w 1 0), .int (oI x1), .long (oL x2)])).length) Slot.unset).toArray = ls at hl ⊢
  have hl : lv_has ls 5 [(0, .ref (wad w 1 0)), (1, .int (oI x1)), (2, .long (oL x2))] := hl
  unfold wp_House_named at h
  refine lv_lload_n X.1 X.2.1 dX1_named_0 rfl (lv_at hl 2 rfl) ?_
  refine wr_Z (rS (As := [.long (oL x2)]) (rest := []) X hT hW hS (met_House_isName l (w := w) x2 _ σ rx2 h) (va_cwS 1 X.2.2.2.2 (lw_S q1169 q1170 q131 q1171) rfl rfl rfl (by decide +kernel) ⟨Nat.le_of_ble_eq_true rfl, Nat.le_of_ble_eq_true rfl⟩) rfl hl.1 rfl (by first | exact Nat.le_of_ble_eq_true rfl | simp [catK, catI, catR, catL]) dX1_named_1 ⟨Nat.le_refl _, Nat.le_refl _⟩) hS (fun r_9 σ_10 H locs rr_9 rkσ_10 h hWσ_10 hS => ?_)
  have h := h rr_9 rkσ_10
  refine w_if_ne (tgt := 10) X rr_9.i dX1_named_4 (by decide) (fun hc => ?_) (fun hc => ?_)
  · have h := h.1 hc
    refine lv_aload_n X.1 X.2.1 dX1_named_10 rfl (lv_at hl 0 rfl) ?_
    refine lv_iload_n X.1 X.2.1 dX1_named_11 rfl (lv_at hl 1 rfl) ?_
    refine lv_aload_n X.1 X.2.1 dX1_named_12 rfl (lv_at hl 0 rfl) ?_
    refine wg (v := .ref (wad w 10 0)) X hT hWσ_10 1 14 78 vl1_0 rfl rfl (by decide) rfl (by decide) in_X1 q1084 rfl dX1_named_13 ?_
    refine wr_I (rV (As := [.int (oI x1), .ref (wad w 10 0)]) (rest := []) X hT hWσ_10 hS (met_House_directory l (w := w) hV x1 0 _ σ_10 rx1 (by omega) h) (cwV 2 X.2.2.2.2 (lw_V q1173 q1175 qs31 q131 q1176) rfl rfl rfl (by decide +kernel) ⟨Nat.le_of_ble_eq_true rfl, Nat.le_of_ble_eq_true rfl⟩) vl1_0 (by decide) rfl rfl hl.1 rfl (by first | exact Nat.le_of_ble_eq_true rfl | simp [catK, catI, catR, catL]) dX1_named_16 ⟨Nat.le_refl _, Nat.le_refl _⟩) hS (fun r_11 σ_12 H locs rr_11 rkσ_12 h hWσ_12 hS => ?_)
    have h := h rr_11 rkσ_12
    refine lv_istore (i := 4) (lv' := [(4, .int (oI r_11)), (0, .ref (wad w 1 0)), (1, .int (oI x1)), (2, .long (oL x2))]) X.1 X.2.1 dX1_named_19 hl (by decide) (by first | rfl | simp [catK, catI, catR, catL]) (fun ls hl => ?_)
    refine lv_iload X.1 X.2.1 dX1_named_21 (lv_at hl 0 rfl) ?_
    refine w_if_ge (tgt := 29) X rr_11 dX1_named_23 (by decide) (fun hc => ?_) (fun hc => ?_)
    · have h := h.1 hc
      refine lv_aload_n X.1 X.2.1 dX1_named_29 rfl (lv_at hl 1 rfl) ?_
      refine lv_aload_n X.1 X.2.1 dX1_named_30 rfl (lv_at hl 1 rfl) ?_
      refine lv_iload_n X.1 X.2.1 dX1_named_31 rfl (lv_at hl 2 rfl) ?_
      refine lv_lload_n X.1 X.2.1 dX1_named_32 rfl (lv_at hl 3 rfl) ?_
      refine wr_I (rV (As := [.int (oI x1), .long (oL x2)]) (rest := [.ref (wad w 1 0)]) X hT hWσ_12 hS (met_House_entry l (w := w) hV x1 x2 _ σ_12 rx1 rx2 h) (cwV 2 X.2.2.2.2 (lw_V q1210 q1212 qs34 q131 q1213) rfl rfl rfl (by decide +kernel) ⟨Nat.le_of_ble_eq_true rfl, Nat.le_of_ble_eq_true rfl⟩) vl1_0 (by decide) rfl rfl hl.1 rfl (by first | exact Nat.le_of_ble_eq_true rfl | simp [catK, catI, catR, catL]) dX1_named_33 ⟨Nat.le_refl _, Nat.le_refl _⟩) hS (fun r_13 σ_14 H locs rr_13 rkσ_14 h hWσ_14 hS => ?_)
      have h := h rr_13 rkσ_14
      refine lv_aload_n X.1 X.2.1 dX1_named_36 rfl (lv_at hl 1 rfl) ?_
      refine wg (v := .ref (wad w 10 1)) X hT hWσ_14 1 15 79 vl1_0 rfl rfl (by decide) rfl (by decide) in_X1 q1085 rfl dX1_named_37 ?_
      refine wr_Z (rV (As := [.int (oI r_13), .ref (wad w 10 1)]) (rest := []) X hT hWσ_14 hS (met_House_read l (w := w) hV r_13 1 _ σ_14 rr_13 (by omega) h) (cwV 2 X.2.2.2.2 (lw_V q1177 q1179 qs32 q131 q1180) rfl rfl rfl (by decide +kernel) ⟨Nat.le_of_ble_eq_true rfl, Nat.le_of_ble_eq_true rfl⟩) vl1_0 (by decide) rfl rfl hl.1 rfl (by first | exact Nat.le_of_ble_eq_true rfl | simp [catK, catI, catR, catL]) dX1_named_40 ⟨Nat.le_refl _, Nat.le_refl _⟩) hS (fun r_15 σ_16 H locs rr_15 rkσ_16 h hWσ_16 hS => ?_)
      have h := h rr_15 rkσ_16
      refine w_cut (pc2 := 52) (st2 := [.int (oI (if r_15 = 0 then (-4 : Int) else (0 : Int)))]) (fun hj => ?_) ?_
      · refine w_if_eq (tgt := 50) X rr_15.i dX1_named_43 (by decide) (fun hc => ?_) (fun hc => ?_)
        · refine lv_bipush (v := oI (-4)) X.1 X.2.1 dX1_named_50 (by decide) ?_
          rw [if_pos hc] at hj; exact hj
        · refine lv_iconst (v := oI 0) X.1 X.2.1 dX1_named_46 rfl ?_
          refine lv_goto (tgt := 52) X.1 X.2.1 dX1_named_47 (by decide) ?_
          rw [if_neg hc] at hj; exact hj
      exact wret_I X hr hlk hWσ_16 hS (ite_rI ((rB_lit (-4) (by decide)).i) rZ_0.i) h dX1_named_52
    · have h := h.2 hc
      refine lv_iload X.1 X.2.1 dX1_named_26 (lv_at hl 0 rfl) ?_
      exact wret_I X hr hlk hWσ_12 hS rr_11 h dX1_named_28
  · have h := h.2 hc
    refine lv_bipush (v := oI (-3)) X.1 X.2.1 dX1_named_7 (by decide) ?_
    exact wret_I X hr hlk hWσ_10 hS ((rB_lit (-3) (by decide)).i) h dX1_named_9
/-! House.isOpen(I)Z -/
set_option maxHeartbeats 4000000 in
set_option maxRecDepth 100000 in
theorem wk_House_isOpen_L2B {p : Program} {l : Launch} {e : Env} {st : State} {m : MethodId} {args : Array Value} {below : List Frame} {meth : Method} {c : Code} {w : Wp} {x1 : Int} {Q : Int → St → Prop} (X : CallFix p m c cX1_isOpen 3 st args lw_all RX1) (hr : meth.sig.returnType = (some .boolean)) (hlk : meth.locks = false) (hT : Tb w st) (hV : Hvl w) (rx1 : rI x1) (K2 : Int → St → Prop) (hK2 : ∀ (y2 : Int) (σ : St) (H : Heap) (locs : List Loc) (ls : Array Slot), rI y2 → lv_has ls 3 [(0, .ref (wad w 1 0)), (1, .int (oI x1)), (2, .int (oI y2))] → Wo w σ H → va_S (wA w) st.heap H locs → K2 y2 σ → W p l e (headSpec (ws_ yX1_isOpen cX1_isOpen 3 (some .boolean)) rm_House_isOpen).room st m args below meth c H locs 0 0 (MQ below (QcZ w Q) args st 0 0 (wA w)) (F0 m 2 ls [])) : ∀ (y2 : Int) (σ : St) (H : Heap) (locs : List Loc) (ls : Array Slot), rI y2 → lv_has ls 3 [(0, .ref (wad w 1 0)), (1, .int (oI x1)), (2, .int (oI y2))] → Wo w σ H → va_S (wA w) st.heap H locs → wp_House_isOpen_L2 (wc w) (wtv w) x1 Q K2 y2 σ → W p l e (headSpec (ws_ yX1_isOpen cX1_isOpen 3 (some .boolean)) rm_House_isOpen).room st m args below meth c H locs 0 0 (MQ below (QcZ w Q) args st 0 0 (wA w)) (F0 m 2 ls []) := by
  have vl1_0 : vl w 1 0 := hV.hv 1 rfl ⟨by omega, by show _ < (1 : Int); omega⟩
  have vl70_0 : vl w 70 0 := hV.hv 70 rfl ⟨by omega, by show _ < (1 : Int); omega⟩
  intro y2 σ H locs ls ry2 hl hW hS h
  unfold wp_House_isOpen_L2 at h
  refine lv_iload_n X.1 X.2.1 dX1_isOpen_2 rfl (lv_at hl 2 rfl) ?_
  refine lv_bipush (v := oI 8) X.1 X.2.1 dX1_isOpen_3 (by decide) ?_
  refine w_icmp_ge (tgt := 26) X ry2 ((rB_lit 8 (by decide)).i) dX1_isOpen_5 (by decide) (fun hc => ?_) (fun hc => ?_)
  · have h := h.1 hc
    refine lv_iconst (v := oI 0) X.1 X.2.1 dX1_isOpen_26 rfl ?_
    exact wret_Z X hr hlk hW hS rZ_0 h dX1_isOpen_27
  · have h := h.2 hc
    refine lv_aload_n X.1 X.2.1 dX1_isOpen_8 rfl (lv_at hl 0 rfl) ?_
    refine wg (v := .ref (wad w 70 0)) X hT hW 1 6 70 vl1_0 rfl rfl (by decide) rfl (by decide) in_X1 q1076 rfl dX1_isOpen_9 ?_
    refine lv_iload_n X.1 X.2.1 dX1_isOpen_12 rfl (lv_at hl 2 rfl) ?_
    obtain ⟨bi, h⟩ := h
    refine w_iald (n := 8) X hT hW 70 vl70_0 (by decide) rfl rfl bi dX1_isOpen_13 ?_
    refine lv_iload_n X.1 X.2.1 dX1_isOpen_14 rfl (lv_at hl 1 rfl) ?_
    refine w_icmp_ne (tgt := 20) X (hW.r.ai 70 0 y2 rfl) rx1 dX1_isOpen_15 (by decide) (fun hc => ?_) (fun hc => ?_)
    · have h := h.1 hc
      obtain ⟨y2_3, ey2_3⟩ : ∃ y : Int, y = w32 (y2 + 1) := ⟨_, rfl⟩
      have h := h y2_3 ey2_3
      have ry2_3 : rI y2_3 := by rw [ey2_3]; exact w32_r _
      refine lv_iinc (v := oI y2_3) (lv' := [(2, .int (oI y2_3)), (0, .ref (wad w 1 0)), (1, .int (oI x1))]) X.1 X.2.1 dX1_isOpen_20 hl (k := 2) rfl (by rw [ey2_3]; exact oI_add _ _) (by decide) (by first | rfl | simp [catK, catI, catR, catL]) (fun ls hl => ?_)
      refine lv_goto (tgt := 2) X.1 X.2.1 dX1_isOpen_23 (by decide) ?_
      exact hK2 y2_3 σ _ _ _ ry2_3 (lv_sub hl [1, 2, 0] rfl) hW hS h
    · have h := h.2 hc
      refine lv_iconst (v := oI 1) X.1 X.2.1 dX1_isOpen_18 rfl ?_
      exact wret_Z X hr hlk hW hS rZ_1 h dX1_isOpen_19
theorem wk_House_isOpen_L2 {p : Program} {l : Launch} {e : Env} {st : State} {m : MethodId} {args : Array Value} {below : List Frame} {meth : Method} {c : Code} {w : Wp} {x1 : Int} {Q : Int → St → Prop} (X : CallFix p m c cX1_isOpen 3 st args lw_all RX1) (hr : meth.sig.returnType = (some .boolean)) (hlk : meth.locks = false) (hT : Tb w st) (hV : Hvl w) (rx1 : rI x1) : ∀ (y2 : Int) (σ : St) (H : Heap) (locs : List Loc) (ls : Array Slot), rI y2 → lv_has ls 3 [(0, .ref (wad w 1 0)), (1, .int (oI x1)), (2, .int (oI y2))] → Wo w σ H → va_S (wA w) st.heap H locs → lQ1 (wp_House_isOpen_L2 (wc w) (wtv w) x1 Q) y2 σ → W p l e (headSpec (ws_ yX1_isOpen cX1_isOpen 3 (some .boolean)) rm_House_isOpen).room st m args below meth c H locs 0 0 (MQ below (QcZ w Q) args st 0 0 (wA w)) (F0 m 2 ls []) := by
  intro y2 σ H locs ls ry2 hl hW hS h
  obtain ⟨fu, h⟩ := h
  induction fu generalizing y2 σ H locs ls with
  | zero => exact h.elim
  | succ fu ih =>
    exact wk_House_isOpen_L2B X hr hlk hT hV rx1 (lq1 (wp_House_isOpen_L2 (wc w) (wtv w) x1 Q) fu) (fun y2 σ H locs ls ry2 hl hW hS h => ih y2 σ H locs ls ry2 hl hW hS h) y2 σ H locs ls ry2 hl hW hS h
set_option maxHeartbeats 4000000 in
set_option maxRecDepth 100000 in
theorem met_House_isOpen (l : Launch) {w : Wp} (hV : Hvl w) (x1 : Int) (Q : Int → St → Prop) (σ : St) (rx1 : rI x1) (h : wp_House_isOpen (wc w) (wtv w) x1 Q σ) : Met l yX1_isOpen (ws_ yX1_isOpen cX1_isOpen 3 (some .boolean)) rm_House_isOpen (PcW w σ [.ref (wad w 1 0), .int (oI x1)]) (QcZ w Q) 0 0 (wA w) := by
  refine Met.ofW (cc := cX1_isOpen) (maxL := 3) (ret := (some .boolean)) (by decide) rfl ?_
  intro p e st m args below meth c s₁ B hml hv
  obtain ⟨hargs, hW, hT⟩ := hv
  have X : CallFix p m c cX1_isOpen 3 st _ lw_all RX1 := ⟨B.exec, B.bytes, hml, findClass_of_methodNamed B.named, fun w h => atoms_spec (ws := ws_ yX1_isOpen cX1_isOpen 3 (some .boolean)) B.pre w (List.mem_cons_of_mem _ h)⟩
  have hr := B.returns
  have hlk := B.notSynchronized
  have hS : va_S (wA w) st.heap st.heap [] := va_S.rf
  have vl1_0 : vl w 1 0 := hV.hv 1 rfl ⟨by omega, by show _ < (1 : Int); omega⟩
  have hl := lv_entry ([.ref (wad w 1 0), .int (oI x1)]) (n := 3) (Nat.le_of_ble_eq_true rfl)
  have hfr := lg_entry_eq m ([.ref (wad w 1 0), .int (oI x1)]) 3
  rw [← hargs] at hfr
  rw [hfr]
  generalize (lg_sl ([.ref (wad w 1 0), .int (oI x1)]) ++ List.replicate (3 - (lg_sl ([.ref (wad w 1 0), .int (oI x1)])).length) Slot.unset).toArray = ls at hl ⊢
  have hl : lv_has ls 3 [(0, .ref (wad w 1 0)), (1, .int (oI x1))] := hl
  unfold wp_House_isOpen at h
  refine lv_iconst (v := oI 0) X.1 X.2.1 dX1_isOpen_0 rfl ?_
  refine lv_istore_n (i := 2) (lv' := [(2, .int (oI 0)), (0, .ref (wad w 1 0)), (1, .int (oI x1))]) X.1 X.2.1 dX1_isOpen_1 rfl hl (by decide) (by first | rfl | simp [catK, catI, catR, catL]) (fun ls hl => ?_)
  exact wk_House_isOpen_L2 X hr hlk hT hV rx1 0 σ _ _ _ rZ_0.i (lv_sub hl [1, 2, 0] rfl) hW hS h
/-! House.roomOf(I)I -/
set_option maxHeartbeats 4000000 in
set_option maxRecDepth 100000 in
theorem wk_House_roomOf_b80 {p : Program} {l : Launch} {e : Env} {st : State} {m : MethodId} {args : Array Value} {below : List Frame} {meth : Method} {c : Code} {w : Wp} {x1 : Int} {Q : Int → St → Prop} (X : CallFix p m c cX1_roomOf 4 st args lw_all RX1) (hr : meth.sig.returnType = (some .int)) (hlk : meth.locks = false) (hT : Tb w st) (hV : Hvl w) (rx1 : rI x1) (K19 : Int → Int → St → Prop) (hK19 : ∀ (y2 y3 : Int) (σ : St) (H : Heap) (locs : List Loc) (ls : Array Slot), rI y2 → rZ y3 → lv_has ls 4 [(0, .ref (wad w 1 0)), (1, .int (oI x1)), (2, .int (oI y2)), (3, .int (oI y3))] → Wo w σ H → va_S (wA w) st.heap H locs → K19 y2 y3 σ → W p l e (headSpec (ws_ yX1_roomOf cX1_roomOf 4 (some .int)) rm_House_roomOf).room st m args below meth c H locs 0 0 (MQ below (QcI w Q) args st 0 0 (wA w)) (F0 m 19 ls [])) : ∀ (t0 t1 : Int) (σ : St) (H : Heap) (locs : List Loc) (ls : Array Slot), rI t0 → rI t1 → lv_has ls 4 [(0, .ref (wad w 1 0)), (1, .int (oI x1))] → Wo w σ H → va_S (wA w) st.heap H locs → wp_House_roomOf_b80 (wc w) (wtv w) x1 Q K19 t0 t1 σ → W p l e (headSpec (ws_ yX1_roomOf cX1_roomOf 4 (some .int)) rm_House_roomOf).room st m args below meth c H locs 0 0 (MQ below (QcI w Q) args st 0 0 (wA w)) (F0 m 80 ls [.int (oI t0), .int (oI t1)]) := by
  have vl1_0 : vl w 1 0 := hV.hv 1 rfl ⟨by omega, by show _ < (1 : Int); omega⟩
  have vl3_0 : vl w 3 0 := hV.hv 3 rfl ⟨by omega, by show _ < (2 : Int); omega⟩
  have vl6_0 : vl w 6 0 := hV.hv 6 rfl ⟨by omega, by show _ < (2 : Int); omega⟩
  intro t0 t1 σ H locs ls rt0 rt1 hl hW hS h
  unfold wp_House_roomOf_b80 at h
  refine w_iadd X dX1_roomOf_80 ?_
  refine w_top (fun y2_34 ey2_34 => ?_)
  have h := h y2_34 ey2_34
  have ry2_34 : rI y2_34 := by rw [ey2_34]; exact (w32_r _)
  refine lv_istore_n (i := 2) (lv' := [(2, .int (oI y2_34)), (0, .ref (wad w 1 0)), (1, .int (oI x1))]) X.1 X.2.1 dX1_roomOf_81 rfl hl (by decide) (by first | rfl | simp [catK, catI, catR, catL]) (fun ls hl => ?_)
  refine lv_aload_n X.1 X.2.1 dX1_roomOf_82 rfl (lv_at hl 1 rfl) ?_
  refine wg (v := .ref (wad w 3 0)) X hT hW 1 1 65 vl1_0 rfl rfl (by decide) rfl (by decide) in_X1 q1071 rfl dX1_roomOf_83 ?_
  refine wg (v := .ref (wad w 6 0)) X hT hW 3 2 194 vl3_0 rfl rfl (by decide) rfl (by decide) in_X5 q527 rfl dX1_roomOf_86 ?_
  refine wr_Z (rV (As := []) (rest := []) X hT hW hS (met_Index_next l (w := w) hV 0 _ σ (by omega) h) (cwV 0 X.2.2.2.2 (lw_V q1065 q1066 q1067 q139 q1068) rfl rfl rfl (by decide +kernel) ⟨Nat.le_of_ble_eq_true rfl, Nat.le_of_ble_eq_true rfl⟩) vl6_0 (by decide) rfl rfl hl.1 rfl (by first | exact Nat.le_of_ble_eq_true rfl | simp [catK, catI, catR, catL]) dX1_roomOf_89 ⟨Nat.le_refl _, Nat.le_refl _⟩) hS (fun r_35 σ_36 H locs rr_35 rkσ_36 h hWσ_36 hS => ?_)
  have h := h rr_35 rkσ_36
  refine lv_istore_n (i := 3) (lv' := [(3, .int (oI r_35)), (2, .int (oI y2_34)), (0, .ref (wad w 1 0)), (1, .int (oI x1))]) X.1 X.2.1 dX1_roomOf_92 rfl hl (by decide) (by first | rfl | simp [catK, catI, catR, catL]) (fun ls hl => ?_)
  refine lv_goto (tgt := 19) X.1 X.2.1 dX1_roomOf_93 (by decide) ?_
  exact hK19 y2_34 r_35 σ_36 _ _ _ ry2_34 rr_35 (lv_sub hl [2, 3, 1, 0] rfl) hWσ_36 hS h
set_option maxHeartbeats 4000000 in
set_option maxRecDepth 100000 in
theorem wk_House_roomOf_L19B {p : Program} {l : Launch} {e : Env} {st : State} {m : MethodId} {args : Array Value} {below : List Frame} {meth : Method} {c : Code} {w : Wp} {x1 : Int} {Q : Int → St → Prop} (X : CallFix p m c cX1_roomOf 4 st args lw_all RX1) (hr : meth.sig.returnType = (some .int)) (hlk : meth.locks = false) (hT : Tb w st) (hV : Hvl w) (rx1 : rI x1) (K19 : Int → Int → St → Prop) (hK19 : ∀ (y2 y3 : Int) (σ : St) (H : Heap) (locs : List Loc) (ls : Array Slot), rI y2 → rZ y3 → lv_has ls 4 [(0, .ref (wad w 1 0)), (1, .int (oI x1)), (2, .int (oI y2)), (3, .int (oI y3))] → Wo w σ H → va_S (wA w) st.heap H locs → K19 y2 y3 σ → W p l e (headSpec (ws_ yX1_roomOf cX1_roomOf 4 (some .int)) rm_House_roomOf).room st m args below meth c H locs 0 0 (MQ below (QcI w Q) args st 0 0 (wA w)) (F0 m 19 ls [])) : ∀ (y2 y3 : Int) (σ : St) (H : Heap) (locs : List Loc) (ls : Array Slot), rI y2 → rZ y3 → lv_has ls 4 [(0, .ref (wad w 1 0)), (1, .int (oI x1)), (2, .int (oI y2)), (3, .int (oI y3))] → Wo w σ H → va_S (wA w) st.heap H locs → wp_House_roomOf_L19 (wc w) (wtv w) x1 Q K19 y2 y3 σ → W p l e (headSpec (ws_ yX1_roomOf cX1_roomOf 4 (some .int)) rm_House_roomOf).room st m args below meth c H locs 0 0 (MQ below (QcI w Q) args st 0 0 (wA w)) (F0 m 19 ls []) := by
  have vl1_0 : vl w 1 0 := hV.hv 1 rfl ⟨by omega, by show _ < (1 : Int); omega⟩
  have vl3_0 : vl w 3 0 := hV.hv 3 rfl ⟨by omega, by show _ < (2 : Int); omega⟩
  have vl6_0 : vl w 6 0 := hV.hv 6 rfl ⟨by omega, by show _ < (2 : Int); omega⟩
  intro y2 y3 σ H locs ls ry2 ry3 hl hW hS h
  unfold wp_House_roomOf_L19 at h
  refine lv_iload_n X.1 X.2.1 dX1_roomOf_19 rfl (lv_at hl 3 rfl) ?_
  refine w_if_eq (tgt := 96) X ry3.i dX1_roomOf_20 (by decide) (fun hc => ?_) (fun hc => ?_)
  · have h := h.1 hc
    refine lv_iload_n X.1 X.2.1 dX1_roomOf_96 rfl (lv_at hl 2 rfl) ?_
    exact wret_I X hr hlk hW hS ry2 h dX1_roomOf_97
  · have h := h.2 hc
    refine lv_aload_n X.1 X.2.1 dX1_roomOf_23 rfl (lv_at hl 0 rfl) ?_
    refine wg (v := .ref (wad w 3 0)) X hT hW 1 1 65 vl1_0 rfl rfl (by decide) rfl (by decide) in_X1 q1071 rfl dX1_roomOf_24 ?_
    refine wg (v := .ref (wad w 6 0)) X hT hW 3 2 194 vl3_0 rfl rfl (by decide) rfl (by decide) in_X5 q527 rfl dX1_roomOf_27 ?_
    refine wg (v := .long (oL (gI σ 391 0))) X hT hW 6 7 391 vl6_0 rfl rfl (by decide) rfl (by decide) in_X8 q454 rfl dX1_roomOf_30 ?_
    refine lv_iload_n X.1 X.2.1 dX1_roomOf_33 rfl (lv_at hl 1 rfl) ?_
    refine lv_iconst (v := oI 3) X.1 X.2.1 dX1_roomOf_34 rfl ?_
    refine wr_J (rS (As := [.int (oI x1), .int (oI 3)]) (rest := [.long (oL (gI σ 391 0))]) X hT hW hS (met_House_keyOf l (w := w) x1 3 _ σ rx1 ((rB_lit 3 (by decide)).i) h) (va_cwS 2 X.2.2.2.2 (lw_S q1181 q894 q131 q895) rfl rfl rfl (by decide +kernel) ⟨Nat.le_of_ble_eq_true rfl, Nat.le_of_ble_eq_true rfl⟩) rfl hl.1 rfl (by first | exact Nat.le_of_ble_eq_true rfl | simp [catK, catI, catR, catL]) dX1_roomOf_35 ⟨Nat.le_refl _, Nat.le_refl _⟩) hS (fun r_37 σ_38 H locs rr_37 rkσ_38 h hWσ_38 hS => ?_)
    have h := h rr_37 rkσ_38
    refine w_lcmp_gt (tgt := 96) X (hW.r.j 391 0 rfl) rr_37 dX1_roomOf_38 dX1_roomOf_39 (by decide) (fun hc => ?_) (fun hc => ?_)
    · have h := h.1 hc
      refine lv_iload_n X.1 X.2.1 dX1_roomOf_96 rfl (lv_at hl 2 rfl) ?_
      exact wret_I X hr hlk hWσ_38 hS ry2 h dX1_roomOf_97
    · have h := h.2 hc
      refine lv_iload_n X.1 X.2.1 dX1_roomOf_42 rfl (lv_at hl 2 rfl) ?_
      refine lv_aload_n X.1 X.2.1 dX1_roomOf_43 rfl (lv_at hl 0 rfl) ?_
      refine wg (v := .ref (wad w 3 0)) X hT hWσ_38 1 1 65 vl1_0 rfl rfl (by decide) rfl (by decide) in_X1 q1071 rfl dX1_roomOf_44 ?_
      refine wg (v := .ref (wad w 6 0)) X hT hWσ_38 3 2 194 vl3_0 rfl rfl (by decide) rfl (by decide) in_X5 q527 rfl dX1_roomOf_47 ?_
      refine wg (v := .long (oL (gI σ_38 391 0))) X hT hWσ_38 6 7 391 vl6_0 rfl rfl (by decide) rfl (by decide) in_X8 q454 rfl dX1_roomOf_50 ?_
      refine lv_iload_n X.1 X.2.1 dX1_roomOf_53 rfl (lv_at hl 1 rfl) ?_
      refine lv_iconst (v := oI 2) X.1 X.2.1 dX1_roomOf_54 rfl ?_
      refine wr_J (rS (As := [.int (oI x1), .int (oI 2)]) (rest := [.long (oL (gI σ_38 391 0)), .int (oI y2)]) X hT hWσ_38 hS (met_House_keyOf l (w := w) x1 2 _ σ_38 rx1 ((rB_lit 2 (by decide)).i) h) (va_cwS 2 X.2.2.2.2 (lw_S q1181 q894 q131 q895) rfl rfl rfl (by decide +kernel) ⟨Nat.le_of_ble_eq_true rfl, Nat.le_of_ble_eq_true rfl⟩) rfl hl.1 rfl (by first | exact Nat.le_of_ble_eq_true rfl | simp [catK, catI, catR, catL]) dX1_roomOf_55 ⟨Nat.le_refl _, Nat.le_refl _⟩) hS (fun r_39 σ_40 H locs rr_39 rkσ_40 h hWσ_40 hS => ?_)
      have h := h rr_39 rkσ_40
      refine w_lcmp_ne (tgt := 66) X (hWσ_38.r.j 391 0 rfl) rr_39 dX1_roomOf_58 dX1_roomOf_59 (by decide) (fun hc => ?_) (fun hc => ?_)
      · have h := h.1 hc
        refine lv_aload_n X.1 X.2.1 dX1_roomOf_66 rfl (lv_at hl 0 rfl) ?_
        refine wg (v := .ref (wad w 3 0)) X hT hWσ_40 1 1 65 vl1_0 rfl rfl (by decide) rfl (by decide) in_X1 q1071 rfl dX1_roomOf_67 ?_
        refine wg (v := .ref (wad w 6 0)) X hT hWσ_40 3 2 194 vl3_0 rfl rfl (by decide) rfl (by decide) in_X5 q527 rfl dX1_roomOf_70 ?_
        refine wg (v := .int (oI (gI σ_40 395 0))) X hT hWσ_40 6 11 395 vl6_0 rfl rfl (by decide) rfl (by decide) in_X8 q466 rfl dX1_roomOf_73 ?_
        refine lv_sipush (v := oI 192) X.1 X.2.1 dX1_roomOf_76 (by decide) ?_
        refine w_iadd X dX1_roomOf_79 ?_
        exact wk_House_roomOf_b80 X hr hlk hT hV rx1 K19 hK19 (w32 ((gI σ_40 395 0) + 192)) y2 σ_40 _ _ _ (w32_r _) ry2 (lv_sub hl [0, 1] rfl) hWσ_40 hS h
      · have h := h.2 hc
        refine lv_iconst (v := oI 0) X.1 X.2.1 dX1_roomOf_62 rfl ?_
        refine lv_goto (tgt := 80) X.1 X.2.1 dX1_roomOf_63 (by decide) ?_
        exact wk_House_roomOf_b80 X hr hlk hT hV rx1 K19 hK19 0 y2 σ_40 _ _ _ rZ_0.i ry2 (lv_sub hl [0, 1] rfl) hWσ_40 hS h
theorem wk_House_roomOf_L19 {p : Program} {l : Launch} {e : Env} {st : State} {m : MethodId} {args : Array Value} {below : List Frame} {meth : Method} {c : Code} {w : Wp} {x1 : Int} {Q : Int → St → Prop} (X : CallFix p m c cX1_roomOf 4 st args lw_all RX1) (hr : meth.sig.returnType = (some .int)) (hlk : meth.locks = false) (hT : Tb w st) (hV : Hvl w) (rx1 : rI x1) : ∀ (y2 y3 : Int) (σ : St) (H : Heap) (locs : List Loc) (ls : Array Slot), rI y2 → rZ y3 → lv_has ls 4 [(0, .ref (wad w 1 0)), (1, .int (oI x1)), (2, .int (oI y2)), (3, .int (oI y3))] → Wo w σ H → va_S (wA w) st.heap H locs → lQ2 (wp_House_roomOf_L19 (wc w) (wtv w) x1 Q) y2 y3 σ → W p l e (headSpec (ws_ yX1_roomOf cX1_roomOf 4 (some .int)) rm_House_roomOf).room st m args below meth c H locs 0 0 (MQ below (QcI w Q) args st 0 0 (wA w)) (F0 m 19 ls []) := by
  intro y2 y3 σ H locs ls ry2 ry3 hl hW hS h
  obtain ⟨fu, h⟩ := h
  induction fu generalizing y2 y3 σ H locs ls with
  | zero => exact h.elim
  | succ fu ih =>
    exact wk_House_roomOf_L19B X hr hlk hT hV rx1 (lq2 (wp_House_roomOf_L19 (wc w) (wtv w) x1 Q) fu) (fun y2 y3 σ H locs ls ry2 ry3 hl hW hS h => ih y2 y3 σ H locs ls ry2 ry3 hl hW hS h) y2 y3 σ H locs ls ry2 ry3 hl hW hS h
set_option maxHeartbeats 4000000 in
set_option maxRecDepth 100000 in
theorem met_House_roomOf (l : Launch) {w : Wp} (hV : Hvl w) (x1 : Int) (Q : Int → St → Prop) (σ : St) (rx1 : rI x1) (h : wp_House_roomOf (wc w) (wtv w) x1 Q σ) : Met l yX1_roomOf (ws_ yX1_roomOf cX1_roomOf 4 (some .int)) rm_House_roomOf (PcW w σ [.ref (wad w 1 0), .int (oI x1)]) (QcI w Q) 0 0 (wA w) := by
  refine Met.ofW (cc := cX1_roomOf) (maxL := 4) (ret := (some .int)) (by decide) rfl ?_
  intro p e st m args below meth c s₁ B hml hv
  obtain ⟨hargs, hW, hT⟩ := hv
  have X : CallFix p m c cX1_roomOf 4 st _ lw_all RX1 := ⟨B.exec, B.bytes, hml, findClass_of_methodNamed B.named, fun w h => atoms_spec (ws := ws_ yX1_roomOf cX1_roomOf 4 (some .int)) B.pre w (List.mem_cons_of_mem _ h)⟩
  have hr := B.returns
  have hlk := B.notSynchronized
  have hS : va_S (wA w) st.heap st.heap [] := va_S.rf
  have vl1_0 : vl w 1 0 := hV.hv 1 rfl ⟨by omega, by show _ < (1 : Int); omega⟩
  have vl3_0 : vl w 3 0 := hV.hv 3 rfl ⟨by omega, by show _ < (2 : Int); omega⟩
  have vl6_0 : vl w 6 0 := hV.hv 6 rfl ⟨by omega, by show _ < (2 : Int); omega⟩
  have hl := lv_entry ([.ref (wad w 1 0), .int (oI x1)]) (n := 4) (Nat.le_of_ble_eq_true rfl)
  have hfr := lg_entry_eq m ([.ref (wad w 1 0), .int (oI x1)]) 4
  rw [← hargs] at hfr
  rw [hfr]
  generalize (lg_sl ([.ref (wad w 1 0), .int (oI x1)]) ++ List.replicate (4 - (lg_sl ([.ref (wad w 1 0), .int (oI x1)])).length) Slot.unset).toArray = ls at hl ⊢
  have hl : lv_has ls 4 [(0, .ref (wad w 1 0)), (1, .int (oI x1))] := hl
  unfold wp_House_roomOf at h
  refine lv_iconst (v := oI 0) X.1 X.2.1 dX1_roomOf_0 rfl ?_
  refine lv_istore_n (i := 2) (lv' := [(2, .int (oI 0)), (0, .ref (wad w 1 0)), (1, .int (oI x1))]) X.1 X.2.1 dX1_roomOf_1 rfl hl (by decide) (by first | rfl | simp [catK, catI, catR, catL]) (fun ls hl => ?_)
  refine lv_aload_n X.1 X.2.1 dX1_roomOf_2 rfl (lv_at hl 1 rfl) ?_
  refine wg (v := .ref (wad w 3 0)) X hT hW 1 1 65 vl1_0 rfl rfl (by decide) rfl (by decide) in_X1 q1071 rfl dX1_roomOf_3 ?_
  refine wg (v := .ref (wad w 6 0)) X hT hW 3 2 194 vl3_0 rfl rfl (by decide) rfl (by decide) in_X5 q527 rfl dX1_roomOf_6 ?_
  refine lv_iload_n X.1 X.2.1 dX1_roomOf_9 rfl (lv_at hl 2 rfl) ?_
  refine lv_iconst (v := oI 0) X.1 X.2.1 dX1_roomOf_10 rfl ?_
  refine wr_J (rS (As := [.int (oI x1), .int (oI 0)]) (rest := [.ref (wad w 6 0)]) X hT hW hS (met_House_keyOf l (w := w) x1 0 _ σ rx1 rZ_0.i h) (va_cwS 2 X.2.2.2.2 (lw_S q1181 q894 q131 q895) rfl rfl rfl (by decide +kernel) ⟨Nat.le_of_ble_eq_true rfl, Nat.le_of_ble_eq_true rfl⟩) rfl hl.1 rfl (by first | exact Nat.le_of_ble_eq_true rfl | simp [catK, catI, catR, catL]) dX1_roomOf_11 ⟨Nat.le_refl _, Nat.le_refl _⟩) hS (fun r_41 σ_42 H locs rr_41 rkσ_42 h hWσ_42 hS => ?_)
  have h := h rr_41 rkσ_42
  refine lv_lconst (v := oL 0) X.1 X.2.1 dX1_roomOf_14 (by decide) ?_
  refine wr_Z (rV (As := [.long (oL r_41), .long (oL 0)]) (rest := []) X hT hWσ_42 hS (met_Index_seek l (w := w) hV 0 r_41 0 _ σ_42 (by omega) rr_41 (rJ_lit 0 (by decide)) h) (cwV 2 X.2.2.2.2 (lw_V q1064 q906 q907 q139 q908) rfl rfl rfl (by decide +kernel) ⟨Nat.le_of_ble_eq_true rfl, Nat.le_of_ble_eq_true rfl⟩) vl6_0 (by decide) rfl rfl hl.1 rfl (by first | exact Nat.le_of_ble_eq_true rfl | simp [catK, catI, catR, catL]) dX1_roomOf_15 ⟨Nat.le_refl _, Nat.le_refl _⟩) hS (fun r_43 σ_44 H locs rr_43 rkσ_44 h hWσ_44 hS => ?_)
  have h := h rr_43 rkσ_44
  refine lv_istore_n (i := 3) (lv' := [(3, .int (oI r_43)), (2, .int (oI 0)), (0, .ref (wad w 1 0)), (1, .int (oI x1))]) X.1 X.2.1 dX1_roomOf_18 rfl hl (by decide) (by first | rfl | simp [catK, catI, catR, catL]) (fun ls hl => ?_)
  exact wk_House_roomOf_L19 X hr hlk hT hV rx1 0 r_43 σ_44 _ _ _ rZ_0.i rr_43 (lv_sub hl [2, 3, 1, 0] rfl) hWσ_44 hS h
/-! House.loses(LNandHouse$Inode;Z)Z -/
set_option maxHeartbeats 4000000 in
set_option maxRecDepth 100000 in
theorem wk_House_loses_b78 {p : Program} {l : Launch} {e : Env} {st : State} {m : MethodId} {args : Array Value} {below : List Frame} {meth : Method} {c : Code} {w : Wp} {x1 : Int} {x2 : Int} {Q : Int → St → Prop} (X : CallFix p m c cX1_loses 4 st args lw_all RX1) (hr : meth.sig.returnType = (some .boolean)) (hlk : meth.locks = false) (hT : Tb w st) (hV : Hvl w) (hx1 : 0 ≤ x1 ∧ x1 < 4) (rx2 : rZ x2) : ∀ (y3 : Int) (σ : St) (H : Heap) (locs : List Loc) (ls : Array Slot), rZ y3 → lv_has ls 4 [(0, .ref (wad w 1 0)), (1, .ref (wad w 10 x1)), (2, .int (oI x2)), (3, .int (oI y3))] → Wo w σ H → va_S (wA w) st.heap H locs → wp_House_loses_b78 (wc w) (wtv w) x1 x2 Q y3 σ → W p l e (headSpec (ws_ yX1_loses cX1_loses 4 (some .boolean)) rm_House_loses).room st m args below meth c H locs 0 0 (MQ below (QcZ w Q) args st 0 0 (wA w)) (F0 m 78 ls []) := by
  have vl1_0 : vl w 1 0 := hV.hv 1 rfl ⟨by omega, by show _ < (1 : Int); omega⟩
  intro y3 σ H locs ls ry3 hl hW hS h
  unfold wp_House_loses_b78 at h
  refine lv_aload_n X.1 X.2.1 dX1_loses_78 rfl (lv_at hl 0 rfl) ?_
  refine lv_aload_n X.1 X.2.1 dX1_loses_79 rfl (lv_at hl 1 rfl) ?_
  refine lv_iload_n X.1 X.2.1 dX1_loses_80 rfl (lv_at hl 2 rfl) ?_
  refine wr_V (rV (As := [.ref (wad w 10 x1), .int (oI x2)]) (rest := []) X hT hW hS (met_House_addInode l (w := w) hV x1 x2 _ σ (by omega) rx2 h) (cwV 2 X.2.2.2.2 (lw_V q1244 q1246 qs37 q131 q1247) rfl rfl rfl (by decide +kernel) ⟨Nat.le_of_ble_eq_true rfl, Nat.le_of_ble_eq_true rfl⟩) vl1_0 (by decide) rfl rfl hl.1 rfl (by first | exact Nat.le_of_ble_eq_true rfl | simp [catK, catI, catR, catL]) dX1_loses_81 ⟨Nat.le_refl _, Nat.le_refl _⟩) hS (fun σ_12 H locs rkσ_12 h hWσ_12 hS => ?_)
  have h := h rkσ_12
  refine lv_iload_n X.1 X.2.1 dX1_loses_84 rfl (lv_at hl 3 rfl) ?_
  exact wret_Z X hr hlk hWσ_12 hS ry3 h dX1_loses_85
set_option maxHeartbeats 4000000 in
set_option maxRecDepth 100000 in
theorem wk_House_loses_b40 {p : Program} {l : Launch} {e : Env} {st : State} {m : MethodId} {args : Array Value} {below : List Frame} {meth : Method} {c : Code} {w : Wp} {x1 : Int} {x2 : Int} {Q : Int → St → Prop} (X : CallFix p m c cX1_loses 4 st args lw_all RX1) (hr : meth.sig.returnType = (some .boolean)) (hlk : meth.locks = false) (hT : Tb w st) (hV : Hvl w) (hx1 : 0 ≤ x1 ∧ x1 < 4) (rx2 : rZ x2) (K41 : Int → St → Prop) (hK41 : ∀ (t0 : Int) (σ : St) (H : Heap) (locs : List Loc) (ls : Array Slot), rZ t0 → lv_has ls 4 [(0, .ref (wad w 1 0)), (1, .ref (wad w 10 x1)), (2, .int (oI x2))] → Wo w σ H → va_S (wA w) st.heap H locs → K41 t0 σ → W p l e (headSpec (ws_ yX1_loses cX1_loses 4 (some .boolean)) rm_House_loses).room st m args below meth c H locs 0 0 (MQ below (QcZ w Q) args st 0 0 (wA w)) (F0 m 41 ls [.int (oI t0)])) : ∀ (σ : St) (H : Heap) (locs : List Loc) (ls : Array Slot), lv_has ls 4 [(0, .ref (wad w 1 0)), (1, .ref (wad w 10 x1)), (2, .int (oI x2))] → Wo w σ H → va_S (wA w) st.heap H locs → wp_House_loses_b40 (wc w) (wtv w) x1 x2 Q K41 σ → W p l e (headSpec (ws_ yX1_loses cX1_loses 4 (some .boolean)) rm_House_loses).room st m args below meth c H locs 0 0 (MQ below (QcZ w Q) args st 0 0 (wA w)) (F0 m 40 ls []) := by

  intro σ H locs ls hl hW hS h
  unfold wp_House_loses_b40 at h
  refine lv_iconst (v := oI 0) X.1 X.2.1 dX1_loses_40 rfl ?_
  exact hK41 0 σ _ _ _ rZ_0 (lv_sub hl [0, 1, 2] rfl) hW hS h
set_option maxHeartbeats 4000000 in
set_option maxRecDepth 100000 in
theorem wk_House_loses_b41 {p : Program} {l : Launch} {e : Env} {st : State} {m : MethodId} {args : Array Value} {below : List Frame} {meth : Method} {c : Code} {w : Wp} {x1 : Int} {x2 : Int} {Q : Int → St → Prop} (X : CallFix p m c cX1_loses 4 st args lw_all RX1) (hr : meth.sig.returnType = (some .boolean)) (hlk : meth.locks = false) (hT : Tb w st) (hV : Hvl w) (hx1 : 0 ≤ x1 ∧ x1 < 4) (rx2 : rZ x2) : ∀ (t0 : Int) (σ : St) (H : Heap) (locs : List Loc) (ls : Array Slot), rZ t0 → lv_has ls 4 [(0, .ref (wad w 1 0)), (1, .ref (wad w 10 x1)), (2, .int (oI x2))] → Wo w σ H → va_S (wA w) st.heap H locs → wp_House_loses_b41 (wc w) (wtv w) x1 x2 Q t0 σ → W p l e (headSpec (ws_ yX1_loses cX1_loses 4 (some .boolean)) rm_House_loses).room st m args below meth c H locs 0 0 (MQ below (QcZ w Q) args st 0 0 (wA w)) (F0 m 41 ls [.int (oI t0)]) := by
  have vl1_0 : vl w 1 0 := hV.hv 1 rfl ⟨by omega, by show _ < (1 : Int); omega⟩
  have vl10_x1 : vl w 10 x1 := hV.hv 10 rfl ⟨by omega, by show _ < (4 : Int); omega⟩
  intro t0 σ H locs ls rt0 hl hW hS h
  unfold wp_House_loses_b41 at h
  refine lv_istore_n (i := 3) (lv' := [(3, .int (oI t0)), (0, .ref (wad w 1 0)), (1, .ref (wad w 10 x1)), (2, .int (oI x2))]) X.1 X.2.1 dX1_loses_41 rfl hl (by decide) (by first | rfl | simp [catK, catI, catR, catL]) (fun ls hl => ?_)
  refine lv_iload_n X.1 X.2.1 dX1_loses_42 rfl (lv_at hl 0 rfl) ?_
  refine w_if_eq (tgt := 78) X rt0.i dX1_loses_43 (by decide) (fun hc => ?_) (fun hc => ?_)
  · have h := h.1 hc
    exact wk_House_loses_b78 X hr hlk hT hV hx1 rx2 t0 σ _ _ _ rt0 (lv_sub hl [1, 2, 3, 0] rfl) hW hS h
  · have h := h.2 hc
    refine lv_aload_n X.1 X.2.1 dX1_loses_46 rfl (lv_at hl 1 rfl) ?_
    refine lv_dup X.1 X.2.1 dX1_loses_47 rfl ?_
    refine wg (v := .int (oI (gI σ 71 0))) X hT hW 1 7 71 vl1_0 rfl rfl (by decide) rfl (by decide) in_X1 q1077 rfl dX1_loses_48 ?_
    refine lv_aload_n X.1 X.2.1 dX1_loses_51 rfl (lv_at hl 1 rfl) ?_
    refine lv_aload_n X.1 X.2.1 dX1_loses_52 rfl (lv_at hl 2 rfl) ?_
    refine wg (v := .int (oI (gI σ 640 x1))) X hT hW 10 0 640 vl10_x1 rfl rfl (by decide) rfl (by decide) in_X3 q189 rfl dX1_loses_53 ?_
    refine wr_I (rV (As := [.int (oI (gI σ 640 x1))]) (rest := [.int (oI (gI σ 71 0)), .ref (wad w 1 0)]) X hT hW hS (met_House_roomOf l (w := w) hV (gI σ 640 x1) _ σ (hW.r.i 640 x1 rfl) h) (cwV 1 X.2.2.2.2 (lw_V q1416 q1418 qs57 q131 q1419) rfl rfl rfl (by decide +kernel) ⟨Nat.le_of_ble_eq_true rfl, Nat.le_of_ble_eq_true rfl⟩) vl1_0 (by decide) rfl rfl hl.1 rfl (by first | exact Nat.le_of_ble_eq_true rfl | simp [catK, catI, catR, catL]) dX1_loses_56 ⟨Nat.le_refl _, Nat.le_refl _⟩) hS (fun r_13 σ_14 H locs rr_13 rkσ_14 h hWσ_14 hS => ?_)
    have h := h rr_13 rkσ_14
    refine w_isub X dX1_loses_59 ?_
    refine wput (z := w32 ((gI σ 71 0) - r_13)) X hT hWσ_14 hS 1 7 71 vl1_0 rfl rfl (by decide) rfl (by decide) in_X1 tyX1 tyX1_ok nmX1 q1077 rfl rfl (w32_r _) (fv0 w rfl) rfl rfl dX1_loses_60 (fun H locs hN hS => ?_)
    obtain ⟨σ_15, eσ_15⟩ : ∃ x, x = sI σ_14 71 0 (w32 ((gI σ 71 0) - r_13)) := ⟨_, rfl⟩
    have hWσ_15 : Wo w σ_15 H := eσ_15 ▸ hN
    have h := h σ_15 eσ_15
    clear hN
    refine lv_aload_n X.1 X.2.1 dX1_loses_63 rfl (lv_at hl 1 rfl) ?_
    refine lv_dup X.1 X.2.1 dX1_loses_64 rfl ?_
    refine wg (v := .int (oI (gI σ_15 72 0))) X hT hWσ_15 1 8 72 vl1_0 rfl rfl (by decide) rfl (by decide) in_X1 q1078 rfl dX1_loses_65 ?_
    refine lv_iconst (v := oI 1) X.1 X.2.1 dX1_loses_68 rfl ?_
    refine w_isub X dX1_loses_69 ?_
    refine wput (z := w32 ((gI σ_15 72 0) - 1)) X hT hWσ_15 hS 1 8 72 vl1_0 rfl rfl (by decide) rfl (by decide) in_X1 tyX1 tyX1_ok nmX1 q1078 rfl rfl (w32_r _) (fv0 w rfl) rfl rfl dX1_loses_70 (fun H locs hN hS => ?_)
    obtain ⟨σ_16, eσ_16⟩ : ∃ x, x = sI σ_15 72 0 (w32 ((gI σ_15 72 0) - 1)) := ⟨_, rfl⟩
    have hWσ_16 : Wo w σ_16 H := eσ_16 ▸ hN
    have h := h σ_16 eσ_16
    clear hN
    refine lv_aload_n X.1 X.2.1 dX1_loses_73 rfl (lv_at hl 2 rfl) ?_
    refine lv_iconst (v := oI 0) X.1 X.2.1 dX1_loses_74 rfl ?_
    refine wput (z := 0) X hT hWσ_16 hS 10 1 641 vl10_x1 rfl rfl (by decide) rfl (by decide) in_X3 tyX3 tyX3_ok nmX3 q190 rfl rfl rZ_0.i (fv0 w rfl) rfl rfl dX1_loses_75 (fun H locs hN hS => ?_)
    obtain ⟨σ_17, eσ_17⟩ : ∃ x, x = sI σ_16 641 x1 0 := ⟨_, rfl⟩
    have hWσ_17 : Wo w σ_17 H := eσ_17 ▸ hN
    have h := h σ_17 eσ_17
    clear hN
    exact wk_House_loses_b78 X hr hlk hT hV hx1 rx2 t0 σ_17 _ _ _ rt0 (lv_sub hl [1, 2, 3, 0] rfl) hWσ_17 hS h
set_option maxHeartbeats 4000000 in
set_option maxRecDepth 100000 in
theorem wk_House_loses_b36 {p : Program} {l : Launch} {e : Env} {st : State} {m : MethodId} {args : Array Value} {below : List Frame} {meth : Method} {c : Code} {w : Wp} {x1 : Int} {x2 : Int} {Q : Int → St → Prop} (X : CallFix p m c cX1_loses 4 st args lw_all RX1) (hr : meth.sig.returnType = (some .boolean)) (hlk : meth.locks = false) (hT : Tb w st) (hV : Hvl w) (hx1 : 0 ≤ x1 ∧ x1 < 4) (rx2 : rZ x2) (K41 : Int → St → Prop) (hK41 : ∀ (t0 : Int) (σ : St) (H : Heap) (locs : List Loc) (ls : Array Slot), rZ t0 → lv_has ls 4 [(0, .ref (wad w 1 0)), (1, .ref (wad w 10 x1)), (2, .int (oI x2))] → Wo w σ H → va_S (wA w) st.heap H locs → K41 t0 σ → W p l e (headSpec (ws_ yX1_loses cX1_loses 4 (some .boolean)) rm_House_loses).room st m args below meth c H locs 0 0 (MQ below (QcZ w Q) args st 0 0 (wA w)) (F0 m 41 ls [.int (oI t0)])) : ∀ (σ : St) (H : Heap) (locs : List Loc) (ls : Array Slot), lv_has ls 4 [(0, .ref (wad w 1 0)), (1, .ref (wad w 10 x1)), (2, .int (oI x2))] → Wo w σ H → va_S (wA w) st.heap H locs → wp_House_loses_b36 (wc w) (wtv w) x1 x2 Q K41 σ → W p l e (headSpec (ws_ yX1_loses cX1_loses 4 (some .boolean)) rm_House_loses).room st m args below meth c H locs 0 0 (MQ below (QcZ w Q) args st 0 0 (wA w)) (F0 m 36 ls []) := by

  intro σ H locs ls hl hW hS h
  unfold wp_House_loses_b36 at h
  refine lv_iconst (v := oI 1) X.1 X.2.1 dX1_loses_36 rfl ?_
  refine lv_goto (tgt := 41) X.1 X.2.1 dX1_loses_37 (by decide) ?_
  exact hK41 1 σ _ _ _ rZ_1 (lv_sub hl [0, 1, 2] rfl) hW hS h
set_option maxHeartbeats 4000000 in
set_option maxRecDepth 100000 in
theorem met_House_loses (l : Launch) {w : Wp} (hV : Hvl w) (x1 : Int) (x2 : Int) (Q : Int → St → Prop) (σ : St) (hx1 : 0 ≤ x1 ∧ x1 < 4) (rx2 : rZ x2) (h : wp_House_loses (wc w) (wtv w) x1 x2 Q σ) : Met l yX1_loses (ws_ yX1_loses cX1_loses 4 (some .boolean)) rm_House_loses (PcW w σ [.ref (wad w 1 0), .ref (wad w 10 x1), .int (oI x2)]) (QcZ w Q) 0 0 (wA w) := by
  refine Met.ofW (cc := cX1_loses) (maxL := 4) (ret := (some .boolean)) (by decide) rfl ?_
  intro p e st m args below meth c s₁ B hml hv
  obtain ⟨hargs, hW, hT⟩ := hv
  have X : CallFix p m c cX1_loses 4 st _ lw_all RX1 := ⟨B.exec, B.bytes, hml, findClass_of_methodNamed B.named, fun w h => atoms_spec (ws := ws_ yX1_loses cX1_loses 4 (some .boolean)) B.pre w (List.mem_cons_of_mem _ h)⟩
  have hr := B.returns
  have hlk := B.notSynchronized
  have hS : va_S (wA w) st.heap st.heap [] := va_S.rf
  have vl1_0 : vl w 1 0 := hV.hv 1 rfl ⟨by omega, by show _ < (1 : Int); omega⟩
  have vl10_x1 : vl w 10 x1 := hV.hv 10 rfl ⟨by omega, by show _ < (4 : Int); omega⟩
  have hl := lv_entry ([.ref (wad w 1 0), .ref (wad w 10 x1), .int (oI x2)]) (n := 4) (Nat.le_of_ble_eq_true rfl)
  have hfr := lg_entry_eq m ([.ref (wad w 1 0), .ref (wad w 10 x1), .int (oI x2)]) 4
  rw [← hargs] at hfr
  rw [hfr]
  generalize (lg_sl ([.ref (wad w 1 0), .ref (wad w 10 x1), .int (oI x2)]) ++ List.replicate (4 - (lg_sl ([.ref (wad w 1 0), .ref (wad w 10 x1), .int (oI x2)])).length) Slot.unset).toArray = ls at hl ⊢
  have hl : lv_has ls 4 [(0, .ref (wad w 1 0)), (1, .ref (wad w 10 x1)), (2, .int (oI x2))] := hl
  unfold wp_House_loses at h
  refine lv_aload_n X.1 X.2.1 dX1_loses_0 rfl (lv_at hl 1 rfl) ?_
  refine lv_dup X.1 X.2.1 dX1_loses_1 rfl ?_
  refine wg (v := .int (oI (gI σ 642 x1))) X hT hW 10 2 642 vl10_x1 rfl rfl (by decide) rfl (by decide) in_X3 q191 rfl dX1_loses_2 ?_
  refine lv_iconst (v := oI 1) X.1 X.2.1 dX1_loses_5 rfl ?_
  refine w_isub X dX1_loses_6 ?_
  refine wput (z := w32 ((gI σ 642 x1) - 1)) X hT hW hS 10 2 642 vl10_x1 rfl rfl (by decide) rfl (by decide) in_X3 tyX3 tyX3_ok nmX3 q191 rfl rfl (w32_r _) (fv0 w rfl) rfl rfl dX1_loses_7 (fun H locs hN hS => ?_)
  obtain ⟨σ_18, eσ_18⟩ : ∃ x, x = sI σ 642 x1 (w32 ((gI σ 642 x1) - 1)) := ⟨_, rfl⟩
  have hWσ_18 : Wo w σ_18 H := eσ_18 ▸ hN
  have h := h σ_18 eσ_18
  clear hN
  refine lv_aload_n X.1 X.2.1 dX1_loses_10 rfl (lv_at hl 1 rfl) ?_
  refine wg (v := .int (oI (gI σ_18 641 x1))) X hT hWσ_18 10 1 641 vl10_x1 rfl rfl (by decide) rfl (by decide) in_X3 q190 rfl dX1_loses_11 ?_
  refine lv_iconst (v := oI 1) X.1 X.2.1 dX1_loses_14 rfl ?_
  refine w_icmp_eq (tgt := 36) X (hWσ_18.r.i 641 x1 rfl) rZ_1.i dX1_loses_15 (by decide) (fun hc => ?_) (fun hc => ?_)
  · have h := h.1 hc
    exact wk_House_loses_b36 X hr hlk hT hV hx1 rx2 (wp_House_loses_b41 (wc w) (wtv w) x1 x2 Q) (wk_House_loses_b41 X hr hlk hT hV hx1 rx2) σ_18 _ _ _ (lv_sub hl [0, 1, 2] rfl) hWσ_18 hS h
  · have h := h.2 hc
    refine lv_aload_n X.1 X.2.1 dX1_loses_18 rfl (lv_at hl 1 rfl) ?_
    refine wg (v := .int (oI (gI σ_18 642 x1))) X hT hWσ_18 10 2 642 vl10_x1 rfl rfl (by decide) rfl (by decide) in_X3 q191 rfl dX1_loses_19 ?_
    refine w_if_ne (tgt := 40) X (hWσ_18.r.i 642 x1 rfl) dX1_loses_22 (by decide) (fun hc => ?_) (fun hc => ?_)
    · have h := h.1 hc
      exact wk_House_loses_b40 X hr hlk hT hV hx1 rx2 (wp_House_loses_b41 (wc w) (wtv w) x1 x2 Q) (wk_House_loses_b41 X hr hlk hT hV hx1 rx2) σ_18 _ _ _ (lv_sub hl [0, 1, 2] rfl) hWσ_18 hS h
    · have h := h.2 hc
      refine lv_aload_n X.1 X.2.1 dX1_loses_25 rfl (lv_at hl 0 rfl) ?_
      refine lv_aload_n X.1 X.2.1 dX1_loses_26 rfl (lv_at hl 1 rfl) ?_
      refine wg (v := .int (oI (gI σ_18 640 x1))) X hT hWσ_18 10 0 640 vl10_x1 rfl rfl (by decide) rfl (by decide) in_X3 q189 rfl dX1_loses_27 ?_
      refine wr_Z (rV (As := [.int (oI (gI σ_18 640 x1))]) (rest := []) X hT hWσ_18 hS (met_House_isOpen l (w := w) hV (gI σ_18 640 x1) _ σ_18 (hWσ_18.r.i 640 x1 rfl) h) (cwV 1 X.2.2.2.2 (lw_V q1412 q1414 qs56 q131 q1415) rfl rfl rfl (by decide +kernel) ⟨Nat.le_of_ble_eq_true rfl, Nat.le_of_ble_eq_true rfl⟩) vl1_0 (by decide) rfl rfl hl.1 rfl (by first | exact Nat.le_of_ble_eq_true rfl | simp [catK, catI, catR, catL]) dX1_loses_30 ⟨Nat.le_refl _, Nat.le_refl _⟩) hS (fun r_19 σ_20 H locs rr_19 rkσ_20 h hWσ_20 hS => ?_)
      have h := h rr_19 rkσ_20
      refine w_if_ne (tgt := 40) X rr_19.i dX1_loses_33 (by decide) (fun hc => ?_) (fun hc => ?_)
      · have h := h.1 hc
        exact wk_House_loses_b40 X hr hlk hT hV hx1 rx2 (wp_House_loses_b41 (wc w) (wtv w) x1 x2 Q) (wk_House_loses_b41 X hr hlk hT hV hx1 rx2) σ_20 _ _ _ (lv_sub hl [0, 1, 2] rfl) hWσ_20 hS h
      · have h := h.2 hc
        exact wk_House_loses_b36 X hr hlk hT hV hx1 rx2 (wp_House_loses_b41 (wc w) (wtv w) x1 x2 Q) (wk_House_loses_b41 X hr hlk hT hV hx1 rx2) σ_20 _ _ _ (lv_sub hl [0, 1, 2] rfl) hWσ_20 hS h
/-! House.unname(IJ)V -/
set_option maxHeartbeats 4000000 in
set_option maxRecDepth 100000 in
theorem met_House_unname (l : Launch) {w : Wp} (hV : Hvl w) (x1 : Int) (x2 : Int) (Q : St → Prop) (σ : St) (rx1 : rI x1) (rx2 : rJ x2) (h : wp_House_unname (wc w) (wtv w) x1 x2 Q σ) : Met l yX1_unname (ws_ yX1_unname cX1_unname 4 none) rm_House_unname (PcW w σ [.ref (wad w 1 0), .int (oI x1), .long (oL x2)]) (QcV w Q) 0 0 (wA w) := by
  refine Met.ofW (cc := cX1_unname) (maxL := 4) (ret := none) (by decide) rfl ?_
  intro p e st m args below meth c s₁ B hml hv
  obtain ⟨hargs, hW, hT⟩ := hv
  have X : CallFix p m c cX1_unname 4 st _ lw_all RX1 := ⟨B.exec, B.bytes, hml, findClass_of_methodNamed B.named, fun w h => atoms_spec (ws := ws_ yX1_unname cX1_unname 4 none) B.pre w (List.mem_cons_of_mem _ h)⟩
  have hr := B.returns
  have hlk := B.notSynchronized
  have hS : va_S (wA w) st.heap st.heap [] := va_S.rf
  have vl1_0 : vl w 1 0 := hV.hv 1 rfl ⟨by omega, by show _ < (1 : Int); omega⟩
  have vl10_0 : vl w 10 0 := hV.hv 10 rfl ⟨by omega, by show _ < (4 : Int); omega⟩
  have vl10_1 : vl w 10 1 := hV.hv 10 rfl ⟨by omega, by show _ < (4 : Int); omega⟩
  have hl := lv_entry ([.ref (wad w 1 0), .int (oI x1), .long (oL x2)]) (n := 4) (Nat.le_of_ble_eq_true rfl)
  have hfr := lg_entry_eq m ([.ref (wad w 1 0), .int (oI x1), .long (oL x2)]) 4
  rw [← hargs] at hfr
  rw [hfr]
  generalize (lg_sl ([.ref (wad w 1 0), .int (oI x1), .long (oL x2)]) ++ List.replicate (4 - (lg_sl ([.ref (wad w 1 0), .int (oI x1), .long (oL x2)])).length) Slot.unset).toArray = ls at hl ⊢
  have hl : lv_has ls 4 [(0, .ref (wad w 1 0)), (1, .int (oI x1)), (2, .long (oL x2))] := hl
  unfold wp_House_unname at h
  refine lv_aload_n X.1 X.2.1 dX1_unname_0 rfl (lv_at hl 0 rfl) ?_
  refine wg (v := .ref (wad w 10 0)) X hT hW 1 14 78 vl1_0 rfl rfl (by decide) rfl (by decide) in_X1 q1084 rfl dX1_unname_1 ?_
  refine lv_dup X.1 X.2.1 dX1_unname_4 rfl ?_
  refine wg (v := .int (oI (gI σ 644 0))) X hT hW 10 4 644 vl10_0 rfl rfl (by decide) rfl (by decide) in_X3 q193 rfl dX1_unname_5 ?_
  refine lv_iconst (v := oI 1) X.1 X.2.1 dX1_unname_8 rfl ?_
  refine w_isub X dX1_unname_9 ?_
  refine wput (z := w32 ((gI σ 644 0) - 1)) X hT hW hS 10 4 644 vl10_0 rfl rfl (by decide) rfl (by decide) in_X3 tyX3 tyX3_ok nmX3 q193 rfl rfl (w32_r _) (fv0 w rfl) rfl rfl dX1_unname_10 (fun H locs hN hS => ?_)
  obtain ⟨σ_13, eσ_13⟩ : ∃ x, x = sI σ 644 0 (w32 ((gI σ 644 0) - 1)) := ⟨_, rfl⟩
  have hWσ_13 : Wo w σ_13 H := eσ_13 ▸ hN
  have h := h σ_13 eσ_13
  clear hN
  refine lv_aload_n X.1 X.2.1 dX1_unname_13 rfl (lv_at hl 0 rfl) ?_
  refine lv_dup X.1 X.2.1 dX1_unname_14 rfl ?_
  refine wg (v := .int (oI (gI σ_13 71 0))) X hT hWσ_13 1 7 71 vl1_0 rfl rfl (by decide) rfl (by decide) in_X1 q1077 rfl dX1_unname_15 ?_
  refine lv_sipush (v := oI 240) X.1 X.2.1 dX1_unname_18 (by decide) ?_
  refine w_isub X dX1_unname_21 ?_
  refine wput (z := w32 ((gI σ_13 71 0) - 240)) X hT hWσ_13 hS 1 7 71 vl1_0 rfl rfl (by decide) rfl (by decide) in_X1 tyX1 tyX1_ok nmX1 q1077 rfl rfl (w32_r _) (fv0 w rfl) rfl rfl dX1_unname_22 (fun H locs hN hS => ?_)
  obtain ⟨σ_14, eσ_14⟩ : ∃ x, x = sI σ_13 71 0 (w32 ((gI σ_13 71 0) - 240)) := ⟨_, rfl⟩
  have hWσ_14 : Wo w σ_14 H := eσ_14 ▸ hN
  have h := h σ_14 eσ_14
  clear hN
  refine lv_aload_n X.1 X.2.1 dX1_unname_25 rfl (lv_at hl 0 rfl) ?_
  refine wr_V (rV (As := []) (rest := []) X hT hWσ_14 hS (met_House_begin l (w := w) hV _ σ_14 h) (cwV 0 X.2.2.2.2 (lw_V q1231 q1233 qs35 q131 q1234) rfl rfl rfl (by decide +kernel) ⟨Nat.le_of_ble_eq_true rfl, Nat.le_of_ble_eq_true rfl⟩) vl1_0 (by decide) rfl rfl hl.1 rfl (by first | exact Nat.le_of_ble_eq_true rfl | simp [catK, catI, catR, catL]) dX1_unname_26 ⟨Nat.le_refl _, Nat.le_refl _⟩) hS (fun σ_16 H locs rkσ_16 h hWσ_16 hS => ?_)
  have h := h rkσ_16
  refine lv_aload_n X.1 X.2.1 dX1_unname_29 rfl (lv_at hl 0 rfl) ?_
  refine lv_iload_n X.1 X.2.1 dX1_unname_30 rfl (lv_at hl 1 rfl) ?_
  refine lv_lload_n X.1 X.2.1 dX1_unname_31 rfl (lv_at hl 2 rfl) ?_
  refine lv_iconst (v := oI 0) X.1 X.2.1 dX1_unname_32 rfl ?_
  refine lv_aload_n X.1 X.2.1 dX1_unname_33 rfl (lv_at hl 0 rfl) ?_
  refine wg (v := .int (oI (gI σ_16 91 0))) X hT hWσ_16 1 27 91 vl1_0 rfl rfl (by decide) rfl (by decide) in_X1 q1097 rfl dX1_unname_34 ?_
  refine wr_V (rV (As := [.int (oI x1), .long (oL x2), .int (oI 0), .int (oI (gI σ_16 91 0))]) (rest := []) X hT hWσ_16 hS (met_House_addEntry l (w := w) hV x1 x2 0 (gI σ_16 91 0) _ σ_16 rx1 rx2 rZ_0.i (hWσ_16.r.i 91 0 rfl) h) (cwV 4 X.2.2.2.2 (lw_V q1236 q1238 qs36 q131 q1239) rfl rfl rfl (by decide +kernel) ⟨Nat.le_of_ble_eq_true rfl, Nat.le_of_ble_eq_true rfl⟩) vl1_0 (by decide) rfl rfl hl.1 rfl (by first | exact Nat.le_of_ble_eq_true rfl | simp [catK, catI, catR, catL]) dX1_unname_37 ⟨Nat.le_refl _, Nat.le_refl _⟩) hS (fun σ_18 H locs rkσ_18 h hWσ_18 hS => ?_)
  have h := h rkσ_18
  refine lv_aload_n X.1 X.2.1 dX1_unname_40 rfl (lv_at hl 0 rfl) ?_
  refine lv_aload_n X.1 X.2.1 dX1_unname_41 rfl (lv_at hl 0 rfl) ?_
  refine wg (v := .ref (wad w 10 1)) X hT hWσ_18 1 15 79 vl1_0 rfl rfl (by decide) rfl (by decide) in_X1 q1085 rfl dX1_unname_42 ?_
  refine lv_iconst (v := oI 0) X.1 X.2.1 dX1_unname_45 rfl ?_
  refine wr_Z (rV (As := [.ref (wad w 10 1), .int (oI 0)]) (rest := []) X hT hWσ_18 hS (met_House_loses l (w := w) hV 1 0 _ σ_18 (by omega) rZ_0 h) (cwV 2 X.2.2.2.2 (lw_V q1408 q1410 qs55 q131 q1411) rfl rfl rfl (by decide +kernel) ⟨Nat.le_of_ble_eq_true rfl, Nat.le_of_ble_eq_true rfl⟩) vl1_0 (by decide) rfl rfl hl.1 rfl (by first | exact Nat.le_of_ble_eq_true rfl | simp [catK, catI, catR, catL]) dX1_unname_46 ⟨Nat.le_refl _, Nat.le_refl _⟩) hS (fun r_19 σ_20 H locs rr_19 rkσ_20 h hWσ_20 hS => ?_)
  have h := h rr_19 rkσ_20
  refine lv_pop X.1 X.2.1 dX1_unname_49 rfl ?_
  refine lv_aload_n X.1 X.2.1 dX1_unname_50 rfl (lv_at hl 0 rfl) ?_
  refine lv_aload_n X.1 X.2.1 dX1_unname_51 rfl (lv_at hl 0 rfl) ?_
  refine wg (v := .ref (wad w 10 0)) X hT hWσ_20 1 14 78 vl1_0 rfl rfl (by decide) rfl (by decide) in_X1 q1084 rfl dX1_unname_52 ?_
  refine lv_iconst (v := oI 1) X.1 X.2.1 dX1_unname_55 rfl ?_
  refine wr_V (rV (As := [.ref (wad w 10 0), .int (oI 1)]) (rest := []) X hT hWσ_20 hS (met_House_addInode l (w := w) hV 0 1 _ σ_20 (by omega) rZ_1 h) (cwV 2 X.2.2.2.2 (lw_V q1244 q1246 qs37 q131 q1247) rfl rfl rfl (by decide +kernel) ⟨Nat.le_of_ble_eq_true rfl, Nat.le_of_ble_eq_true rfl⟩) vl1_0 (by decide) rfl rfl hl.1 rfl (by first | exact Nat.le_of_ble_eq_true rfl | simp [catK, catI, catR, catL]) dX1_unname_56 ⟨Nat.le_refl _, Nat.le_refl _⟩) hS (fun σ_22 H locs rkσ_22 h hWσ_22 hS => ?_)
  have h := h rkσ_22
  refine lv_aload_n X.1 X.2.1 dX1_unname_59 rfl (lv_at hl 0 rfl) ?_
  refine wr_V (rV (As := []) (rest := []) X hT hWσ_22 hS (met_House_hand l (w := w) hV _ σ_22 h) (cwV 0 X.2.2.2.2 (lw_V q1253 q1255 qs39 q131 q1256) rfl rfl rfl (by decide +kernel) ⟨Nat.le_of_ble_eq_true rfl, Nat.le_of_ble_eq_true rfl⟩) vl1_0 (by decide) rfl rfl hl.1 rfl (by first | exact Nat.le_of_ble_eq_true rfl | simp [catK, catI, catR, catL]) dX1_unname_60 ⟨Nat.le_refl _, Nat.le_refl _⟩) hS (fun σ_24 H locs rkσ_24 h hWσ_24 hS => ?_)
  have h := h rkσ_24
  exact wret_V X hr hlk hWσ_24 hS h dX1_unname_63
/-! House.unlink(IJ)I -/
set_option maxHeartbeats 4000000 in
set_option maxRecDepth 100000 in
theorem met_House_unlink (l : Launch) {w : Wp} (hV : Hvl w) (x1 : Int) (x2 : Int) (Q : Int → St → Prop) (σ : St) (rx1 : rI x1) (rx2 : rJ x2) (h : wp_House_unlink (wc w) (wtv w) x1 x2 Q σ) : Met l yX1_unlink (ws_ yX1_unlink cX1_unlink 5 (some .int)) rm_House_unlink (PcW w σ [.ref (wad w 1 0), .int (oI x1), .long (oL x2)]) (QcI w Q) 0 0 (wA w) := by
  refine Met.ofW (cc := cX1_unlink) (maxL := 5) (ret := (some .int)) (by decide) rfl ?_
  intro p e st m args below meth c s₁ B hml hv
  obtain ⟨hargs, hW, hT⟩ := hv
  have X : CallFix p m c cX1_unlink 5 st _ lw_all RX1 := ⟨B.exec, B.bytes, hml, findClass_of_methodNamed B.named, fun w h => atoms_spec (ws := ws_ yX1_unlink cX1_unlink 5 (some .int)) B.pre w (List.mem_cons_of_mem _ h)⟩
  have hr := B.returns
  have hlk := B.notSynchronized
  have hS : va_S (wA w) st.heap st.heap [] := va_S.rf
  have vl1_0 : vl w 1 0 := hV.hv 1 rfl ⟨by omega, by show _ < (1 : Int); omega⟩
  have vl10_1 : vl w 10 1 := hV.hv 10 rfl ⟨by omega, by show _ < (4 : Int); omega⟩
  have hl := lv_entry ([.ref (wad w 1 0), .int (oI x1), .long (oL x2)]) (n := 5) (Nat.le_of_ble_eq_true rfl)
  have hfr := lg_entry_eq m ([.ref (wad w 1 0), .int (oI x1), .long (oL x2)]) 5
  rw [← hargs] at hfr
  rw [hfr]
  generalize (lg_sl ([.ref (wad w 1 0), .int (oI x1), .long (oL x2)]) ++ List.replicate (5 - (lg_sl ([.ref (wad w 1 0), .int (oI x1), .long (oL x2)])).length) Slot.unset).toArray = ls at hl ⊢
  have hl : lv_has ls 5 [(0, .ref (wad w 1 0)), (1, .int (oI x1)), (2, .long (oL x2))] := hl
  unfold wp_House_unlink at h
  refine lv_aload_n X.1 X.2.1 dX1_unlink_0 rfl (lv_at hl 0 rfl) ?_
  refine wg (v := .int (oI (gI σ 69 0))) X hT hW 1 5 69 vl1_0 rfl rfl (by decide) rfl (by decide) in_X1 q1075 rfl dX1_unlink_1 ?_
  refine w_if_ne (tgt := 10) X ((hW.r.z 69 0 rfl).i) dX1_unlink_4 (by decide) (fun hc => ?_) (fun hc => ?_)
  · have h := h.1 hc
    refine lv_aload_n X.1 X.2.1 dX1_unlink_10 rfl (lv_at hl 0 rfl) ?_
    refine lv_iload_n X.1 X.2.1 dX1_unlink_11 rfl (lv_at hl 1 rfl) ?_
    refine lv_lload_n X.1 X.2.1 dX1_unlink_12 rfl (lv_at hl 2 rfl) ?_
    refine wr_I (rV (As := [.int (oI x1), .long (oL x2)]) (rest := []) X hT hW hS (met_House_named l (w := w) hV x1 x2 _ σ rx1 rx2 h) (cwV 2 X.2.2.2.2 (lw_V q1400 q1402 qs53 q131 q1403) rfl rfl rfl (by decide +kernel) ⟨Nat.le_of_ble_eq_true rfl, Nat.le_of_ble_eq_true rfl⟩) vl1_0 (by decide) rfl rfl hl.1 rfl (by first | exact Nat.le_of_ble_eq_true rfl | simp [catK, catI, catR, catL]) dX1_unlink_13 ⟨Nat.le_refl _, Nat.le_refl _⟩) hS (fun r_5 σ_6 H locs rr_5 rkσ_6 h hWσ_6 hS => ?_)
    have h := h rr_5 rkσ_6
    refine lv_istore (i := 4) (lv' := [(4, .int (oI r_5)), (0, .ref (wad w 1 0)), (1, .int (oI x1)), (2, .long (oL x2))]) X.1 X.2.1 dX1_unlink_16 hl (by decide) (by first | rfl | simp [catK, catI, catR, catL]) (fun ls hl => ?_)
    refine lv_iload X.1 X.2.1 dX1_unlink_18 (lv_at hl 0 rfl) ?_
    refine w_if_ge (tgt := 26) X rr_5 dX1_unlink_20 (by decide) (fun hc => ?_) (fun hc => ?_)
    · have h := h.1 hc
      refine lv_aload_n X.1 X.2.1 dX1_unlink_26 rfl (lv_at hl 1 rfl) ?_
      refine wg (v := .ref (wad w 10 1)) X hT hWσ_6 1 15 79 vl1_0 rfl rfl (by decide) rfl (by decide) in_X1 q1085 rfl dX1_unlink_27 ?_
      refine wg (v := .int (oI (gI σ_6 641 1))) X hT hWσ_6 10 1 641 vl10_1 rfl rfl (by decide) rfl (by decide) in_X3 q190 rfl dX1_unlink_30 ?_
      refine lv_iconst (v := oI 1) X.1 X.2.1 dX1_unlink_33 rfl ?_
      refine w_icmp_ne (tgt := 40) X (hWσ_6.r.i 641 1 rfl) rZ_1.i dX1_unlink_34 (by decide) (fun hc => ?_) (fun hc => ?_)
      · have h := h.1 hc
        refine lv_aload_n X.1 X.2.1 dX1_unlink_40 rfl (lv_at hl 1 rfl) ?_
        refine lv_iload_n X.1 X.2.1 dX1_unlink_41 rfl (lv_at hl 2 rfl) ?_
        refine lv_lload_n X.1 X.2.1 dX1_unlink_42 rfl (lv_at hl 3 rfl) ?_
        refine wr_V (rV (As := [.int (oI x1), .long (oL x2)]) (rest := []) X hT hWσ_6 hS (met_House_unname l (w := w) hV x1 x2 _ σ_6 rx1 rx2 h) (cwV 2 X.2.2.2.2 (lw_V q1404 q1406 qs54 q131 q1407) rfl rfl rfl (by decide +kernel) ⟨Nat.le_of_ble_eq_true rfl, Nat.le_of_ble_eq_true rfl⟩) vl1_0 (by decide) rfl rfl hl.1 rfl (by first | exact Nat.le_of_ble_eq_true rfl | simp [catK, catI, catR, catL]) dX1_unlink_43 ⟨Nat.le_refl _, Nat.le_refl _⟩) hS (fun σ_8 H locs rkσ_8 h hWσ_8 hS => ?_)
        have h := h rkσ_8
        refine lv_aload_n X.1 X.2.1 dX1_unlink_46 rfl (lv_at hl 1 rfl) ?_
        refine wg (v := .ref (wad w 10 1)) X hT hWσ_8 1 15 79 vl1_0 rfl rfl (by decide) rfl (by decide) in_X1 q1085 rfl dX1_unlink_47 ?_
        refine wg (v := .int (oI (gI σ_8 642 1))) X hT hWσ_8 10 2 642 vl10_1 rfl rfl (by decide) rfl (by decide) in_X3 q191 rfl dX1_unlink_50 ?_
        exact wret_I X hr hlk hWσ_8 hS (hWσ_8.r.i 642 1 rfl) h dX1_unlink_53
      · have h := h.2 hc
        refine lv_bipush (v := oI (-7)) X.1 X.2.1 dX1_unlink_37 (by decide) ?_
        exact wret_I X hr hlk hWσ_6 hS ((rB_lit (-7) (by decide)).i) h dX1_unlink_39
    · have h := h.2 hc
      refine lv_iload X.1 X.2.1 dX1_unlink_23 (lv_at hl 0 rfl) ?_
      exact wret_I X hr hlk hWσ_6 hS rr_5 h dX1_unlink_25
  · have h := h.2 hc
    refine lv_bipush (v := oI (-2)) X.1 X.2.1 dX1_unlink_7 (by decide) ?_
    exact wret_I X hr hlk hW hS ((rB_lit (-2) (by decide)).i) h dX1_unlink_9
/-! House.rmdir(IJ)I -/
set_option maxHeartbeats 4000000 in
set_option maxRecDepth 100000 in
theorem met_House_rmdir (l : Launch) {w : Wp} (hV : Hvl w) (x1 : Int) (x2 : Int) (Q : Int → St → Prop) (σ : St) (rx1 : rI x1) (rx2 : rJ x2) (h : wp_House_rmdir (wc w) (wtv w) x1 x2 Q σ) : Met l yX1_rmdir (ws_ yX1_rmdir cX1_rmdir 5 (some .int)) rm_House_rmdir (PcW w σ [.ref (wad w 1 0), .int (oI x1), .long (oL x2)]) (QcI w Q) 0 0 (wA w) := by
  refine Met.ofW (cc := cX1_rmdir) (maxL := 5) (ret := (some .int)) (by decide) rfl ?_
  intro p e st m args below meth c s₁ B hml hv
  obtain ⟨hargs, hW, hT⟩ := hv
  have X : CallFix p m c cX1_rmdir 5 st _ lw_all RX1 := ⟨B.exec, B.bytes, hml, findClass_of_methodNamed B.named, fun w h => atoms_spec (ws := ws_ yX1_rmdir cX1_rmdir 5 (some .int)) B.pre w (List.mem_cons_of_mem _ h)⟩
  have hr := B.returns
  have hlk := B.notSynchronized
  have hS : va_S (wA w) st.heap st.heap [] := va_S.rf
  have vl1_0 : vl w 1 0 := hV.hv 1 rfl ⟨by omega, by show _ < (1 : Int); omega⟩
  have vl10_1 : vl w 10 1 := hV.hv 10 rfl ⟨by omega, by show _ < (4 : Int); omega⟩
  have hl := lv_entry ([.ref (wad w 1 0), .int (oI x1), .long (oL x2)]) (n := 5) (Nat.le_of_ble_eq_true rfl)
  have hfr := lg_entry_eq m ([.ref (wad w 1 0), .int (oI x1), .long (oL x2)]) 5
  rw [← hargs] at hfr
  rw [hfr]
  generalize (lg_sl ([.ref (wad w 1 0), .int (oI x1), .long (oL x2)]) ++ List.replicate (5 - (lg_sl ([.ref (wad w 1 0), .int (oI x1), .long (oL x2)])).length) Slot.unset).toArray = ls at hl ⊢
  have hl : lv_has ls 5 [(0, .ref (wad w 1 0)), (1, .int (oI x1)), (2, .long (oL x2))] := hl
  unfold wp_House_rmdir at h
  refine lv_aload_n X.1 X.2.1 dX1_rmdir_0 rfl (lv_at hl 0 rfl) ?_
  refine wg (v := .int (oI (gI σ 69 0))) X hT hW 1 5 69 vl1_0 rfl rfl (by decide) rfl (by decide) in_X1 q1075 rfl dX1_rmdir_1 ?_
  refine w_if_ne (tgt := 10) X ((hW.r.z 69 0 rfl).i) dX1_rmdir_4 (by decide) (fun hc => ?_) (fun hc => ?_)
  · have h := h.1 hc
    refine lv_aload_n X.1 X.2.1 dX1_rmdir_10 rfl (lv_at hl 0 rfl) ?_
    refine lv_iload_n X.1 X.2.1 dX1_rmdir_11 rfl (lv_at hl 1 rfl) ?_
    refine lv_lload_n X.1 X.2.1 dX1_rmdir_12 rfl (lv_at hl 2 rfl) ?_
    refine wr_I (rV (As := [.int (oI x1), .long (oL x2)]) (rest := []) X hT hW hS (met_House_named l (w := w) hV x1 x2 _ σ rx1 rx2 h) (cwV 2 X.2.2.2.2 (lw_V q1400 q1402 qs53 q131 q1403) rfl rfl rfl (by decide +kernel) ⟨Nat.le_of_ble_eq_true rfl, Nat.le_of_ble_eq_true rfl⟩) vl1_0 (by decide) rfl rfl hl.1 rfl (by first | exact Nat.le_of_ble_eq_true rfl | simp [catK, catI, catR, catL]) dX1_rmdir_13 ⟨Nat.le_refl _, Nat.le_refl _⟩) hS (fun r_5 σ_6 H locs rr_5 rkσ_6 h hWσ_6 hS => ?_)
    have h := h rr_5 rkσ_6
    refine lv_istore (i := 4) (lv' := [(4, .int (oI r_5)), (0, .ref (wad w 1 0)), (1, .int (oI x1)), (2, .long (oL x2))]) X.1 X.2.1 dX1_rmdir_16 hl (by decide) (by first | rfl | simp [catK, catI, catR, catL]) (fun ls hl => ?_)
    refine lv_iload X.1 X.2.1 dX1_rmdir_18 (lv_at hl 0 rfl) ?_
    refine w_if_ge (tgt := 26) X rr_5 dX1_rmdir_20 (by decide) (fun hc => ?_) (fun hc => ?_)
    · have h := h.1 hc
      refine lv_aload_n X.1 X.2.1 dX1_rmdir_26 rfl (lv_at hl 1 rfl) ?_
      refine wg (v := .ref (wad w 10 1)) X hT hWσ_6 1 15 79 vl1_0 rfl rfl (by decide) rfl (by decide) in_X1 q1085 rfl dX1_rmdir_27 ?_
      refine wg (v := .int (oI (gI σ_6 641 1))) X hT hWσ_6 10 1 641 vl10_1 rfl rfl (by decide) rfl (by decide) in_X3 q190 rfl dX1_rmdir_30 ?_
      refine lv_iconst (v := oI 1) X.1 X.2.1 dX1_rmdir_33 rfl ?_
      refine w_icmp_eq (tgt := 40) X (hWσ_6.r.i 641 1 rfl) rZ_1.i dX1_rmdir_34 (by decide) (fun hc => ?_) (fun hc => ?_)
      · have h := h.1 hc
        refine lv_aload_n X.1 X.2.1 dX1_rmdir_40 rfl (lv_at hl 1 rfl) ?_
        refine wg (v := .ref (wad w 10 1)) X hT hWσ_6 1 15 79 vl1_0 rfl rfl (by decide) rfl (by decide) in_X1 q1085 rfl dX1_rmdir_41 ?_
        refine wg (v := .int (oI (gI σ_6 644 1))) X hT hWσ_6 10 4 644 vl10_1 rfl rfl (by decide) rfl (by decide) in_X3 q193 rfl dX1_rmdir_44 ?_
        refine w_if_le (tgt := 53) X (hWσ_6.r.i 644 1 rfl) dX1_rmdir_47 (by decide) (fun hc => ?_) (fun hc => ?_)
        · have h := h.1 hc
          refine lv_aload_n X.1 X.2.1 dX1_rmdir_53 rfl (lv_at hl 1 rfl) ?_
          refine lv_iload_n X.1 X.2.1 dX1_rmdir_54 rfl (lv_at hl 2 rfl) ?_
          refine lv_lload_n X.1 X.2.1 dX1_rmdir_55 rfl (lv_at hl 3 rfl) ?_
          refine wr_V (rV (As := [.int (oI x1), .long (oL x2)]) (rest := []) X hT hWσ_6 hS (met_House_unname l (w := w) hV x1 x2 _ σ_6 rx1 rx2 h) (cwV 2 X.2.2.2.2 (lw_V q1404 q1406 qs54 q131 q1407) rfl rfl rfl (by decide +kernel) ⟨Nat.le_of_ble_eq_true rfl, Nat.le_of_ble_eq_true rfl⟩) vl1_0 (by decide) rfl rfl hl.1 rfl (by first | exact Nat.le_of_ble_eq_true rfl | simp [catK, catI, catR, catL]) dX1_rmdir_56 ⟨Nat.le_refl _, Nat.le_refl _⟩) hS (fun σ_8 H locs rkσ_8 h hWσ_8 hS => ?_)
          have h := h rkσ_8
          refine lv_aload_n X.1 X.2.1 dX1_rmdir_59 rfl (lv_at hl 1 rfl) ?_
          refine wg (v := .ref (wad w 10 1)) X hT hWσ_8 1 15 79 vl1_0 rfl rfl (by decide) rfl (by decide) in_X1 q1085 rfl dX1_rmdir_60 ?_
          refine wg (v := .int (oI (gI σ_8 640 1))) X hT hWσ_8 10 0 640 vl10_1 rfl rfl (by decide) rfl (by decide) in_X3 q189 rfl dX1_rmdir_63 ?_
          exact wret_I X hr hlk hWσ_8 hS (hWσ_8.r.i 640 1 rfl) h dX1_rmdir_66
        · have h := h.2 hc
          refine lv_bipush (v := oI (-8)) X.1 X.2.1 dX1_rmdir_50 (by decide) ?_
          exact wret_I X hr hlk hWσ_6 hS ((rB_lit (-8) (by decide)).i) h dX1_rmdir_52
      · have h := h.2 hc
        refine lv_bipush (v := oI (-6)) X.1 X.2.1 dX1_rmdir_37 (by decide) ?_
        exact wret_I X hr hlk hWσ_6 hS ((rB_lit (-6) (by decide)).i) h dX1_rmdir_39
    · have h := h.2 hc
      refine lv_iload X.1 X.2.1 dX1_rmdir_23 (lv_at hl 0 rfl) ?_
      exact wret_I X hr hlk hWσ_6 hS rr_5 h dX1_rmdir_25
  · have h := h.2 hc
    refine lv_bipush (v := oI (-2)) X.1 X.2.1 dX1_rmdir_7 (by decide) ?_
    exact wret_I X hr hlk hW hS ((rB_lit (-2) (by decide)).i) h dX1_rmdir_9
/-! House.isWithin(II)Z -/
set_option maxHeartbeats 4000000 in
set_option maxRecDepth 100000 in
theorem wk_House_isWithin_b208 {p : Program} {l : Launch} {e : Env} {st : State} {m : MethodId} {args : Array Value} {below : List Frame} {meth : Method} {c : Code} {w : Wp} {x1 : Int} {x2 : Int} {Q : Int → St → Prop} (X : CallFix p m c cX1_isWithin 10 st args lw_all RX1) (hr : meth.sig.returnType = (some .boolean)) (hlk : meth.locks = false) (hT : Tb w st) (hV : Hvl w) (rx1 : rI x1) (rx2 : rI x2) (K12 : Int → Int → St → Prop) (hK12 : ∀ (y3 y4 : Int) (σ : St) (H : Heap) (locs : List Loc) (ls : Array Slot), rI y3 → rI y4 → lv_has ls 10 [(0, .ref (wad w 1 0)), (1, .int (oI x1)), (3, .int (oI y3)), (4, .int (oI y4))] → Wo w σ H → va_S (wA w) st.heap H locs → K12 y3 y4 σ → W p l e (headSpec (ws_ yX1_isWithin cX1_isWithin 10 (some .boolean)) rm_House_isWithin).room st m args below meth c H locs 0 0 (MQ below (QcZ w Q) args st 0 0 (wA w)) (F0 m 12 ls [])) : ∀ (y3 y4 : Int) (σ : St) (H : Heap) (locs : List Loc) (ls : Array Slot), rI y3 → rI y4 → lv_has ls 10 [(0, .ref (wad w 1 0)), (1, .int (oI x1)), (3, .int (oI y3)), (4, .int (oI y4))] → Wo w σ H → va_S (wA w) st.heap H locs → wp_House_isWithin_b208 (wc w) (wtv w) x1 x2 Q K12 y3 y4 σ → W p l e (headSpec (ws_ yX1_isWithin cX1_isWithin 10 (some .boolean)) rm_House_isWithin).room st m args below meth c H locs 0 0 (MQ below (QcZ w Q) args st 0 0 (wA w)) (F0 m 208 ls []) := by

  intro y3 y4 σ H locs ls ry3 ry4 hl hW hS h
  unfold wp_House_isWithin_b208 at h
  obtain ⟨y4_46, ey4_46⟩ : ∃ y : Int, y = w32 (y4 + 1) := ⟨_, rfl⟩
  have h := h y4_46 ey4_46
  have ry4_46 : rI y4_46 := by rw [ey4_46]; exact w32_r _
  refine lv_iinc (v := oI y4_46) (lv' := [(4, .int (oI y4_46)), (0, .ref (wad w 1 0)), (1, .int (oI x1)), (3, .int (oI y3))]) X.1 X.2.1 dX1_isWithin_208 hl (k := 3) rfl (by rw [ey4_46]; exact oI_add _ _) (by decide) (by first | rfl | simp [catK, catI, catR, catL]) (fun ls hl => ?_)
  refine lv_goto (tgt := 12) X.1 X.2.1 dX1_isWithin_211 (by decide) ?_
  exact hK12 y3 y4_46 σ _ _ _ ry3 ry4_46 (lv_sub hl [1, 2, 3, 0] rfl) hW hS h
set_option maxHeartbeats 4000000 in
set_option maxRecDepth 100000 in
theorem wk_House_isWithin_b195 {p : Program} {l : Launch} {e : Env} {st : State} {m : MethodId} {args : Array Value} {below : List Frame} {meth : Method} {c : Code} {w : Wp} {x1 : Int} {x2 : Int} {Q : Int → St → Prop} (X : CallFix p m c cX1_isWithin 10 st args lw_all RX1) (hr : meth.sig.returnType = (some .boolean)) (hlk : meth.locks = false) (hT : Tb w st) (hV : Hvl w) (rx1 : rI x1) (rx2 : rI x2) (K47 : Int → Int → Int → Int → St → Prop) (K208 : Int → Int → St → Prop) (hK47 : ∀ (y3 y4 y5 y7 : Int) (σ : St) (H : Heap) (locs : List Loc) (ls : Array Slot), rI y3 → rI y4 → rJ y5 → rJ y7 → lv_has ls 10 [(0, .ref (wad w 1 0)), (1, .int (oI x1)), (3, .int (oI y3)), (4, .int (oI y4)), (5, .long (oL y5)), (7, .long (oL y7))] → Wo w σ H → va_S (wA w) st.heap H locs → K47 y3 y4 y5 y7 σ → W p l e (headSpec (ws_ yX1_isWithin cX1_isWithin 10 (some .boolean)) rm_House_isWithin).room st m args below meth c H locs 0 0 (MQ below (QcZ w Q) args st 0 0 (wA w)) (F0 m 47 ls [])) (hK208 : ∀ (y3 y4 : Int) (σ : St) (H : Heap) (locs : List Loc) (ls : Array Slot), rI y3 → rI y4 → lv_has ls 10 [(0, .ref (wad w 1 0)), (1, .int (oI x1)), (3, .int (oI y3)), (4, .int (oI y4))] → Wo w σ H → va_S (wA w) st.heap H locs → K208 y3 y4 σ → W p l e (headSpec (ws_ yX1_isWithin cX1_isWithin 10 (some .boolean)) rm_House_isWithin).room st m args below meth c H locs 0 0 (MQ below (QcZ w Q) args st 0 0 (wA w)) (F0 m 208 ls [])) : ∀ (y3 y4 y5 y7 : Int) (σ : St) (H : Heap) (locs : List Loc) (ls : Array Slot), rI y3 → rI y4 → rJ y5 → rJ y7 → lv_has ls 10 [(0, .ref (wad w 1 0)), (1, .int (oI x1)), (3, .int (oI y3)), (4, .int (oI y4)), (5, .long (oL y5)), (7, .long (oL y7))] → Wo w σ H → va_S (wA w) st.heap H locs → wp_House_isWithin_b195 (wc w) (wtv w) x1 x2 Q K47 K208 y3 y4 y5 y7 σ → W p l e (headSpec (ws_ yX1_isWithin cX1_isWithin 10 (some .boolean)) rm_House_isWithin).room st m args below meth c H locs 0 0 (MQ below (QcZ w Q) args st 0 0 (wA w)) (F0 m 195 ls []) := by

  intro y3 y4 y5 y7 σ H locs ls ry3 ry4 ry5 ry7 hl hW hS h
  unfold wp_House_isWithin_b195 at h
  refine lv_lload X.1 X.2.1 dX1_isWithin_195 (lv_at hl 5 rfl) ?_
  refine lv_lconst (v := oL 0) X.1 X.2.1 dX1_isWithin_197 (by decide) ?_
  refine w_lcmp_ne (tgt := 205) X ry7 (rJ_lit 0 (by decide)) dX1_isWithin_198 dX1_isWithin_199 (by decide) (fun hc => ?_) (fun hc => ?_)
  · have h := h.1 hc
    refine lv_goto (tgt := 47) X.1 X.2.1 dX1_isWithin_205 (by decide) ?_
    exact hK47 y3 y4 y5 y7 σ _ _ _ ry3 ry4 ry5 ry7 (lv_sub hl [0, 1, 2, 3, 4, 5] rfl) hW hS h
  · have h := h.2 hc
    refine lv_goto (tgt := 208) X.1 X.2.1 dX1_isWithin_202 (by decide) ?_
    exact hK208 y3 y4 σ _ _ _ ry3 ry4 (lv_sub hl [0, 1, 2, 3] rfl) hW hS h
set_option maxHeartbeats 4000000 in
set_option maxRecDepth 100000 in
theorem wk_House_isWithin_L47B {p : Program} {l : Launch} {e : Env} {st : State} {m : MethodId} {args : Array Value} {below : List Frame} {meth : Method} {c : Code} {w : Wp} {x1 : Int} {x2 : Int} {Q : Int → St → Prop} (X : CallFix p m c cX1_isWithin 10 st args lw_all RX1) (hr : meth.sig.returnType = (some .boolean)) (hlk : meth.locks = false) (hT : Tb w st) (hV : Hvl w) (rx1 : rI x1) (rx2 : rI x2) (K12 : Int → Int → St → Prop) (K47 : Int → Int → Int → Int → St → Prop) (hK12 : ∀ (y3 y4 : Int) (σ : St) (H : Heap) (locs : List Loc) (ls : Array Slot), rI y3 → rI y4 → lv_has ls 10 [(0, .ref (wad w 1 0)), (1, .int (oI x1)), (3, .int (oI y3)), (4, .int (oI y4))] → Wo w σ H → va_S (wA w) st.heap H locs → K12 y3 y4 σ → W p l e (headSpec (ws_ yX1_isWithin cX1_isWithin 10 (some .boolean)) rm_House_isWithin).room st m args below meth c H locs 0 0 (MQ below (QcZ w Q) args st 0 0 (wA w)) (F0 m 12 ls [])) (hK47 : ∀ (y3 y4 y5 y7 : Int) (σ : St) (H : Heap) (locs : List Loc) (ls : Array Slot), rI y3 → rI y4 → rJ y5 → rJ y7 → lv_has ls 10 [(0, .ref (wad w 1 0)), (1, .int (oI x1)), (3, .int (oI y3)), (4, .int (oI y4)), (5, .long (oL y5)), (7, .long (oL y7))] → Wo w σ H → va_S (wA w) st.heap H locs → K47 y3 y4 y5 y7 σ → W p l e (headSpec (ws_ yX1_isWithin cX1_isWithin 10 (some .boolean)) rm_House_isWithin).room st m args below meth c H locs 0 0 (MQ below (QcZ w Q) args st 0 0 (wA w)) (F0 m 47 ls [])) : ∀ (y3 y4 y5 y7 : Int) (σ : St) (H : Heap) (locs : List Loc) (ls : Array Slot), rI y3 → rI y4 → rJ y5 → rJ y7 → lv_has ls 10 [(0, .ref (wad w 1 0)), (1, .int (oI x1)), (3, .int (oI y3)), (4, .int (oI y4)), (5, .long (oL y5)), (7, .long (oL y7))] → Wo w σ H → va_S (wA w) st.heap H locs → wp_House_isWithin_L47 (wc w) (wtv w) x1 x2 Q K12 K47 y3 y4 y5 y7 σ → W p l e (headSpec (ws_ yX1_isWithin cX1_isWithin 10 (some .boolean)) rm_House_isWithin).room st m args below meth c H locs 0 0 (MQ below (QcZ w Q) args st 0 0 (wA w)) (F0 m 47 ls []) := by
  have vl1_0 : vl w 1 0 := hV.hv 1 rfl ⟨by omega, by show _ < (1 : Int); omega⟩
  have vl10_3 : vl w 10 3 := hV.hv 10 rfl ⟨by omega, by show _ < (4 : Int); omega⟩
  have vl3_0 : vl w 3 0 := hV.hv 3 rfl ⟨by omega, by show _ < (2 : Int); omega⟩
  have vl6_0 : vl w 6 0 := hV.hv 6 rfl ⟨by omega, by show _ < (2 : Int); omega⟩
  have vl8_0 : vl w 8 0 := hV.hv 8 rfl ⟨by omega, by show _ < (8 : Int); omega⟩
  have vl82_0 : vl w 82 0 := hV.hv 82 rfl ⟨by omega, by show _ < (1 : Int); omega⟩
  intro y3 y4 y5 y7 σ H locs ls ry3 ry4 ry5 ry7 hl hW hS h
  unfold wp_House_isWithin_L47 at h
  refine lv_aload_n X.1 X.2.1 dX1_isWithin_47 rfl (lv_at hl 0 rfl) ?_
  refine wg (v := .ref (wad w 3 0)) X hT hW 1 1 65 vl1_0 rfl rfl (by decide) rfl (by decide) in_X1 q1071 rfl dX1_isWithin_48 ?_
  refine wg (v := .ref (wad w 6 0)) X hT hW 3 2 194 vl3_0 rfl rfl (by decide) rfl (by decide) in_X5 q527 rfl dX1_isWithin_51 ?_
  refine lv_lload X.1 X.2.1 dX1_isWithin_54 (lv_at hl 4 rfl) ?_
  refine lv_lload X.1 X.2.1 dX1_isWithin_56 (lv_at hl 5 rfl) ?_
  refine wr_Z (rV (As := [.long (oL y5), .long (oL y7)]) (rest := []) X hT hW hS (met_Index_seek l (w := w) hV 0 y5 y7 _ σ (by omega) ry5 ry7 h) (cwV 2 X.2.2.2.2 (lw_V q1064 q906 q907 q139 q908) rfl rfl rfl (by decide +kernel) ⟨Nat.le_of_ble_eq_true rfl, Nat.le_of_ble_eq_true rfl⟩) vl6_0 (by decide) rfl rfl hl.1 rfl (by first | exact Nat.le_of_ble_eq_true rfl | simp [catK, catI, catR, catL]) dX1_isWithin_58 ⟨Nat.le_refl _, Nat.le_refl _⟩) hS (fun r_47 σ_48 H locs rr_47 rkσ_48 h hWσ_48 hS => ?_)
  have h := h rr_47 rkσ_48
  refine w_if_eq (tgt := 208) X rr_47.i dX1_isWithin_61 (by decide) (fun hc => ?_) (fun hc => ?_)
  · have h := h.1 hc
    exact wk_House_isWithin_b208 X hr hlk hT hV rx1 rx2 K12 hK12 y3 y4 σ_48 _ _ _ ry3 ry4 (lv_sub hl [0, 1, 2, 3] rfl) hWσ_48 hS h
  · have h := h.2 hc
    refine lv_aload_n X.1 X.2.1 dX1_isWithin_64 rfl (lv_at hl 0 rfl) ?_
    refine wg (v := .ref (wad w 3 0)) X hT hWσ_48 1 1 65 vl1_0 rfl rfl (by decide) rfl (by decide) in_X1 q1071 rfl dX1_isWithin_65 ?_
    refine wg (v := .ref (wad w 6 0)) X hT hWσ_48 3 2 194 vl3_0 rfl rfl (by decide) rfl (by decide) in_X5 q527 rfl dX1_isWithin_68 ?_
    refine wg (v := .long (oL (gI σ_48 391 0))) X hT hWσ_48 6 7 391 vl6_0 rfl rfl (by decide) rfl (by decide) in_X8 q454 rfl dX1_isWithin_71 ?_
    refine lv_lload X.1 X.2.1 dX1_isWithin_74 (lv_at hl 4 rfl) ?_
    refine w_lcmp_ne (tgt := 208) X (hWσ_48.r.j 391 0 rfl) ry5 dX1_isWithin_76 dX1_isWithin_77 (by decide) (fun hc => ?_) (fun hc => ?_)
    · have h := h.1 hc
      exact wk_House_isWithin_b208 X hr hlk hT hV rx1 rx2 K12 hK12 y3 y4 σ_48 _ _ _ ry3 ry4 (lv_sub hl [0, 1, 2, 3] rfl) hWσ_48 hS h
    · have h := h.2 hc
      refine lv_aload_n X.1 X.2.1 dX1_isWithin_80 rfl (lv_at hl 0 rfl) ?_
      refine wg (v := .ref (wad w 3 0)) X hT hWσ_48 1 1 65 vl1_0 rfl rfl (by decide) rfl (by decide) in_X1 q1071 rfl dX1_isWithin_81 ?_
      refine wg (v := .ref (wad w 6 0)) X hT hWσ_48 3 2 194 vl3_0 rfl rfl (by decide) rfl (by decide) in_X5 q527 rfl dX1_isWithin_84 ?_
      refine wg (v := .long (oL (gI σ_48 392 0))) X hT hWσ_48 6 8 392 vl6_0 rfl rfl (by decide) rfl (by decide) in_X8 q457 rfl dX1_isWithin_87 ?_
      refine lv_lconst (v := oL 1) X.1 X.2.1 dX1_isWithin_90 (by decide) ?_
      refine w_ladd X dX1_isWithin_91 ?_
      refine w_topl (fun y7_49 ey7_49 => ?_)
      have h := h y7_49 ey7_49
      have ry7_49 : rJ y7_49 := by rw [ey7_49]; exact (w64_r _)
      refine lv_lstore (i := 7) (lv' := [(7, .long (oL y7_49)), (0, .ref (wad w 1 0)), (1, .int (oI x1)), (3, .int (oI y3)), (4, .int (oI y4)), (5, .long (oL y5))]) X.1 X.2.1 dX1_isWithin_92 hl (by decide) (by first | rfl | simp [catK, catI, catR, catL]) (fun ls hl => ?_)
      refine lv_aload_n X.1 X.2.1 dX1_isWithin_94 rfl (lv_at hl 1 rfl) ?_
      refine wg (v := .ref (wad w 3 0)) X hT hWσ_48 1 1 65 vl1_0 rfl rfl (by decide) rfl (by decide) in_X1 q1071 rfl dX1_isWithin_95 ?_
      refine lv_aload_n X.1 X.2.1 dX1_isWithin_98 rfl (lv_at hl 1 rfl) ?_
      refine wg (v := .ref (wad w 3 0)) X hT hWσ_48 1 1 65 vl1_0 rfl rfl (by decide) rfl (by decide) in_X1 q1071 rfl dX1_isWithin_99 ?_
      refine wg (v := .ref (wad w 6 0)) X hT hWσ_48 3 2 194 vl3_0 rfl rfl (by decide) rfl (by decide) in_X5 q527 rfl dX1_isWithin_102 ?_
      refine wg (v := .int (oI (gI σ_48 393 0))) X hT hWσ_48 6 9 393 vl6_0 rfl rfl (by decide) rfl (by decide) in_X8 q460 rfl dX1_isWithin_105 ?_
      refine lv_aload_n X.1 X.2.1 dX1_isWithin_108 rfl (lv_at hl 1 rfl) ?_
      refine wg (v := .ref (wad w 3 0)) X hT hWσ_48 1 1 65 vl1_0 rfl rfl (by decide) rfl (by decide) in_X1 q1071 rfl dX1_isWithin_109 ?_
      refine wg (v := .ref (wad w 6 0)) X hT hWσ_48 3 2 194 vl3_0 rfl rfl (by decide) rfl (by decide) in_X5 q527 rfl dX1_isWithin_112 ?_
      refine wg (v := .int (oI (gI σ_48 394 0))) X hT hWσ_48 6 10 394 vl6_0 rfl rfl (by decide) rfl (by decide) in_X8 q463 rfl dX1_isWithin_115 ?_
      refine lv_aload_n X.1 X.2.1 dX1_isWithin_118 rfl (lv_at hl 1 rfl) ?_
      refine wg (v := .ref (wad w 3 0)) X hT hWσ_48 1 1 65 vl1_0 rfl rfl (by decide) rfl (by decide) in_X1 q1071 rfl dX1_isWithin_119 ?_
      refine wg (v := .ref (wad w 6 0)) X hT hWσ_48 3 2 194 vl3_0 rfl rfl (by decide) rfl (by decide) in_X5 q527 rfl dX1_isWithin_122 ?_
      refine wg (v := .int (oI (gI σ_48 395 0))) X hT hWσ_48 6 11 395 vl6_0 rfl rfl (by decide) rfl (by decide) in_X8 q466 rfl dX1_isWithin_125 ?_
      refine lv_aload_n X.1 X.2.1 dX1_isWithin_128 rfl (lv_at hl 1 rfl) ?_
      refine wg (v := .ref (wad w 3 0)) X hT hWσ_48 1 1 65 vl1_0 rfl rfl (by decide) rfl (by decide) in_X1 q1071 rfl dX1_isWithin_129 ?_
      refine wg (v := .ref (wad w 8 0)) X hT hWσ_48 3 6 198 vl3_0 rfl rfl (by decide) rfl (by decide) in_X5 q532 rfl dX1_isWithin_132 ?_
      refine wr_V (rV (As := [.int (oI (gI σ_48 393 0)), .int (oI (gI σ_48 394 0)), .int (oI (gI σ_48 395 0)), .ref (wad w 8 0)]) (rest := []) X hT hWσ_48 hS (met_Store_read l (w := w) hV 0 (gI σ_48 393 0) (gI σ_48 394 0) (gI σ_48 395 0) 0 _ σ_48 (by omega) (hWσ_48.r.i 393 0 rfl) (hWσ_48.r.i 394 0 rfl) (hWσ_48.r.i 395 0 rfl) (by omega) h) (cwV 4 X.2.2.2.2 (lw_V q1183 q1184 q1185 q136 q1186) rfl rfl rfl (by decide +kernel) ⟨Nat.le_of_ble_eq_true rfl, Nat.le_of_ble_eq_true rfl⟩) vl3_0 (by decide) rfl rfl hl.1 rfl (by first | exact Nat.le_of_ble_eq_true rfl | simp [catK, catI, catR, catL]) dX1_isWithin_135 ⟨Nat.le_refl _, Nat.le_refl _⟩) hS (fun σ_51 H locs rkσ_51 h hWσ_51 hS => ?_)
      have h := h rkσ_51
      refine lv_aload_n X.1 X.2.1 dX1_isWithin_138 rfl (lv_at hl 1 rfl) ?_
      refine wg (v := .ref (wad w 3 0)) X hT hWσ_51 1 1 65 vl1_0 rfl rfl (by decide) rfl (by decide) in_X1 q1071 rfl dX1_isWithin_139 ?_
      refine wg (v := .ref (wad w 8 0)) X hT hWσ_51 3 6 198 vl3_0 rfl rfl (by decide) rfl (by decide) in_X5 q532 rfl dX1_isWithin_142 ?_
      refine lv_iconst (v := oI 4) X.1 X.2.1 dX1_isWithin_145 rfl ?_
      refine wr_I (rV (As := [.int (oI 4)]) (rest := []) X hT hWσ_51 hS (met_Row_get l (w := w) hV 0 4 _ σ_51 (by omega) ((rB_lit 4 (by decide)).i) h) (cwV 1 X.2.2.2.2 (lw_V q1206 q1207 q1208 q132 q1209) rfl rfl rfl (by decide +kernel) ⟨Nat.le_of_ble_eq_true rfl, Nat.le_of_ble_eq_true rfl⟩) vl8_0 (by decide) rfl rfl hl.1 rfl (by first | exact Nat.le_of_ble_eq_true rfl | simp [catK, catI, catR, catL]) dX1_isWithin_146 ⟨Nat.le_refl _, Nat.le_refl _⟩) hS (fun r_52 σ_53 H locs rr_52 rkσ_53 h hWσ_53 hS => ?_)
      have h := h rr_52 rkσ_53
      refine lv_istore (i := 9) (lv' := [(9, .int (oI r_52)), (7, .long (oL y7_49)), (0, .ref (wad w 1 0)), (1, .int (oI x1)), (3, .int (oI y3)), (4, .int (oI y4)), (5, .long (oL y5))]) X.1 X.2.1 dX1_isWithin_149 hl (by decide) (by first | rfl | simp [catK, catI, catR, catL]) (fun ls hl => ?_)
      refine lv_iload_n X.1 X.2.1 dX1_isWithin_151 rfl (lv_at hl 4 rfl) ?_
      refine lv_aload_n X.1 X.2.1 dX1_isWithin_152 rfl (lv_at hl 2 rfl) ?_
      refine wg (v := .ref (wad w 82 0)) X hT hWσ_53 1 18 82 vl1_0 rfl rfl (by decide) rfl (by decide) in_X1 q1088 rfl dX1_isWithin_153 ?_
      refine w_alen (n := 1024) X hT hWσ_53 82 vl82_0 (by decide) (by rw [show aty 82 = 0 from rfl]; decide) rfl dX1_isWithin_156 ?_
      refine w_icmp_ge (tgt := 195) X ry3 (aln_r hT.c 82 0) dX1_isWithin_157 (by decide) (fun hc => ?_) (fun hc => ?_)
      · have h := h.1 hc
        exact wk_House_isWithin_b195 X hr hlk hT hV rx1 rx2 K47 (wp_House_isWithin_b208 (wc w) (wtv w) x1 x2 Q K12) hK47 (wk_House_isWithin_b208 X hr hlk hT hV rx1 rx2 K12 hK12) y3 y4 y5 y7_49 σ_53 _ _ _ ry3 ry4 ry5 ry7_49 (lv_sub hl [2, 3, 4, 5, 6, 1] rfl) hWσ_53 hS h
      · have h := h.2 hc
        refine lv_aload_n X.1 X.2.1 dX1_isWithin_160 rfl (lv_at hl 2 rfl) ?_
        refine lv_iload X.1 X.2.1 dX1_isWithin_161 (lv_at hl 0 rfl) ?_
        refine lv_aload_n X.1 X.2.1 dX1_isWithin_163 rfl (lv_at hl 2 rfl) ?_
        refine wg (v := .ref (wad w 10 3)) X hT hWσ_53 1 17 81 vl1_0 rfl rfl (by decide) rfl (by decide) in_X1 q1087 rfl dX1_isWithin_164 ?_
        refine wr_Z (rV (As := [.int (oI r_52), .ref (wad w 10 3)]) (rest := []) X hT hWσ_53 hS (met_House_read l (w := w) hV r_52 3 _ σ_53 rr_52 (by omega) h) (cwV 2 X.2.2.2.2 (lw_V q1177 q1179 qs32 q131 q1180) rfl rfl rfl (by decide +kernel) ⟨Nat.le_of_ble_eq_true rfl, Nat.le_of_ble_eq_true rfl⟩) vl1_0 (by decide) rfl rfl hl.1 rfl (by first | exact Nat.le_of_ble_eq_true rfl | simp [catK, catI, catR, catL]) dX1_isWithin_167 ⟨Nat.le_refl _, Nat.le_refl _⟩) hS (fun r_54 σ_55 H locs rr_54 rkσ_55 h hWσ_55 hS => ?_)
        have h := h rr_54 rkσ_55
        refine w_if_eq (tgt := 195) X rr_54.i dX1_isWithin_170 (by decide) (fun hc => ?_) (fun hc => ?_)
        · have h := h.1 hc
          exact wk_House_isWithin_b195 X hr hlk hT hV rx1 rx2 K47 (wp_House_isWithin_b208 (wc w) (wtv w) x1 x2 Q K12) hK47 (wk_House_isWithin_b208 X hr hlk hT hV rx1 rx2 K12 hK12) y3 y4 y5 y7_49 σ_55 _ _ _ ry3 ry4 ry5 ry7_49 (lv_sub hl [2, 3, 4, 5, 6, 1] rfl) hWσ_55 hS h
        · have h := h.2 hc
          refine lv_aload_n X.1 X.2.1 dX1_isWithin_173 rfl (lv_at hl 2 rfl) ?_
          refine wg (v := .ref (wad w 10 3)) X hT hWσ_55 1 17 81 vl1_0 rfl rfl (by decide) rfl (by decide) in_X1 q1087 rfl dX1_isWithin_174 ?_
          refine wg (v := .int (oI (gI σ_55 641 3))) X hT hWσ_55 10 1 641 vl10_3 rfl rfl (by decide) rfl (by decide) in_X3 q190 rfl dX1_isWithin_177 ?_
          refine lv_iconst (v := oI 1) X.1 X.2.1 dX1_isWithin_180 rfl ?_
          refine w_icmp_ne (tgt := 195) X (hWσ_55.r.i 641 3 rfl) rZ_1.i dX1_isWithin_181 (by decide) (fun hc => ?_) (fun hc => ?_)
          · have h := h.1 hc
            exact wk_House_isWithin_b195 X hr hlk hT hV rx1 rx2 K47 (wp_House_isWithin_b208 (wc w) (wtv w) x1 x2 Q K12) hK47 (wk_House_isWithin_b208 X hr hlk hT hV rx1 rx2 K12 hK12) y3 y4 y5 y7_49 σ_55 _ _ _ ry3 ry4 ry5 ry7_49 (lv_sub hl [2, 3, 4, 5, 6, 1] rfl) hWσ_55 hS h
          · have h := h.2 hc
            refine lv_aload_n X.1 X.2.1 dX1_isWithin_184 rfl (lv_at hl 2 rfl) ?_
            refine wg (v := .ref (wad w 82 0)) X hT hWσ_55 1 18 82 vl1_0 rfl rfl (by decide) rfl (by decide) in_X1 q1088 rfl dX1_isWithin_185 ?_
            refine lv_iload_n X.1 X.2.1 dX1_isWithin_188 rfl (lv_at hl 4 rfl) ?_
            obtain ⟨y3_56, ey3_56⟩ : ∃ y : Int, y = w32 (y3 + 1) := ⟨_, rfl⟩
            have h := h y3_56 ey3_56
            have ry3_56 : rI y3_56 := by rw [ey3_56]; exact w32_r _
            refine lv_iinc (v := oI y3_56) (lv' := [(3, .int (oI y3_56)), (9, .int (oI r_52)), (7, .long (oL y7_49)), (0, .ref (wad w 1 0)), (1, .int (oI x1)), (4, .int (oI y4)), (5, .long (oL y5))]) X.1 X.2.1 dX1_isWithin_189 hl (k := 4) rfl (by rw [ey3_56]; exact oI_add _ _) (by decide) (by first | rfl | simp [catK, catI, catR, catL]) (fun ls hl => ?_)
            refine lv_iload X.1 X.2.1 dX1_isWithin_192 (lv_at hl 1 rfl) ?_
            obtain ⟨bi, h⟩ := h
            refine w_iast (n := 1024) X hT hWσ_55 hS 82 vl82_0 (by decide) rfl rfl bi rr_52 dX1_isWithin_194 (fun H locs hN hS => ?_)
            obtain ⟨σ_57, eσ_57⟩ : ∃ x, x = sA σ_55 82 0 y3 r_52 := ⟨_, rfl⟩
            have hWσ_57 : Wo w σ_57 H := eσ_57 ▸ hN
            have h := h σ_57 eσ_57
            clear hN
            exact wk_House_isWithin_b195 X hr hlk hT hV rx1 rx2 K47 (wp_House_isWithin_b208 (wc w) (wtv w) x1 x2 Q K12) hK47 (wk_House_isWithin_b208 X hr hlk hT hV rx1 rx2 K12 hK12) y3_56 y4 y5 y7_49 σ_57 _ _ _ ry3_56 ry4 ry5 ry7_49 (lv_sub hl [3, 4, 0, 5, 6, 2] rfl) hWσ_57 hS h
theorem wk_House_isWithin_L47 {p : Program} {l : Launch} {e : Env} {st : State} {m : MethodId} {args : Array Value} {below : List Frame} {meth : Method} {c : Code} {w : Wp} {x1 : Int} {x2 : Int} {Q : Int → St → Prop} (X : CallFix p m c cX1_isWithin 10 st args lw_all RX1) (hr : meth.sig.returnType = (some .boolean)) (hlk : meth.locks = false) (hT : Tb w st) (hV : Hvl w) (rx1 : rI x1) (rx2 : rI x2) (K12 : Int → Int → St → Prop) (hK12 : ∀ (y3 y4 : Int) (σ : St) (H : Heap) (locs : List Loc) (ls : Array Slot), rI y3 → rI y4 → lv_has ls 10 [(0, .ref (wad w 1 0)), (1, .int (oI x1)), (3, .int (oI y3)), (4, .int (oI y4))] → Wo w σ H → va_S (wA w) st.heap H locs → K12 y3 y4 σ → W p l e (headSpec (ws_ yX1_isWithin cX1_isWithin 10 (some .boolean)) rm_House_isWithin).room st m args below meth c H locs 0 0 (MQ below (QcZ w Q) args st 0 0 (wA w)) (F0 m 12 ls [])) : ∀ (y3 y4 y5 y7 : Int) (σ : St) (H : Heap) (locs : List Loc) (ls : Array Slot), rI y3 → rI y4 → rJ y5 → rJ y7 → lv_has ls 10 [(0, .ref (wad w 1 0)), (1, .int (oI x1)), (3, .int (oI y3)), (4, .int (oI y4)), (5, .long (oL y5)), (7, .long (oL y7))] → Wo w σ H → va_S (wA w) st.heap H locs → lQ4 (wp_House_isWithin_L47 (wc w) (wtv w) x1 x2 Q K12) y3 y4 y5 y7 σ → W p l e (headSpec (ws_ yX1_isWithin cX1_isWithin 10 (some .boolean)) rm_House_isWithin).room st m args below meth c H locs 0 0 (MQ below (QcZ w Q) args st 0 0 (wA w)) (F0 m 47 ls []) := by
  intro y3 y4 y5 y7 σ H locs ls ry3 ry4 ry5 ry7 hl hW hS h
  obtain ⟨fu, h⟩ := h
  induction fu generalizing y3 y4 y5 y7 σ H locs ls with
  | zero => exact h.elim
  | succ fu ih =>
    exact wk_House_isWithin_L47B X hr hlk hT hV rx1 rx2 K12 (lq4 (wp_House_isWithin_L47 (wc w) (wtv w) x1 x2 Q K12) fu) hK12 (fun y3 y4 y5 y7 σ H locs ls ry3 ry4 ry5 ry7 hl hW hS h => ih y3 y4 y5 y7 σ H locs ls ry3 ry4 ry5 ry7 hl hW hS h) y3 y4 y5 y7 σ H locs ls ry3 ry4 ry5 ry7 hl hW hS h
set_option maxHeartbeats 4000000 in
set_option maxRecDepth 100000 in
theorem wk_House_isWithin_L12B {p : Program} {l : Launch} {e : Env} {st : State} {m : MethodId} {args : Array Value} {below : List Frame} {meth : Method} {c : Code} {w : Wp} {x1 : Int} {x2 : Int} {Q : Int → St → Prop} (X : CallFix p m c cX1_isWithin 10 st args lw_all RX1) (hr : meth.sig.returnType = (some .boolean)) (hlk : meth.locks = false) (hT : Tb w st) (hV : Hvl w) (rx1 : rI x1) (rx2 : rI x2) (K12 : Int → Int → St → Prop) (hK12 : ∀ (y3 y4 : Int) (σ : St) (H : Heap) (locs : List Loc) (ls : Array Slot), rI y3 → rI y4 → lv_has ls 10 [(0, .ref (wad w 1 0)), (1, .int (oI x1)), (3, .int (oI y3)), (4, .int (oI y4))] → Wo w σ H → va_S (wA w) st.heap H locs → K12 y3 y4 σ → W p l e (headSpec (ws_ yX1_isWithin cX1_isWithin 10 (some .boolean)) rm_House_isWithin).room st m args below meth c H locs 0 0 (MQ below (QcZ w Q) args st 0 0 (wA w)) (F0 m 12 ls [])) : ∀ (y3 y4 : Int) (σ : St) (H : Heap) (locs : List Loc) (ls : Array Slot), rI y3 → rI y4 → lv_has ls 10 [(0, .ref (wad w 1 0)), (1, .int (oI x1)), (3, .int (oI y3)), (4, .int (oI y4))] → Wo w σ H → va_S (wA w) st.heap H locs → wp_House_isWithin_L12 (wc w) (wtv w) x1 x2 Q K12 y3 y4 σ → W p l e (headSpec (ws_ yX1_isWithin cX1_isWithin 10 (some .boolean)) rm_House_isWithin).room st m args below meth c H locs 0 0 (MQ below (QcZ w Q) args st 0 0 (wA w)) (F0 m 12 ls []) := by
  have vl1_0 : vl w 1 0 := hV.hv 1 rfl ⟨by omega, by show _ < (1 : Int); omega⟩
  have vl82_0 : vl w 82 0 := hV.hv 82 rfl ⟨by omega, by show _ < (1 : Int); omega⟩
  intro y3 y4 σ H locs ls ry3 ry4 hl hW hS h
  unfold wp_House_isWithin_L12 at h
  refine lv_iload X.1 X.2.1 dX1_isWithin_12 (lv_at hl 3 rfl) ?_
  refine lv_iload_n X.1 X.2.1 dX1_isWithin_14 rfl (lv_at hl 2 rfl) ?_
  refine w_icmp_ge (tgt := 214) X ry4 ry3 dX1_isWithin_15 (by decide) (fun hc => ?_) (fun hc => ?_)
  · have h := h.1 hc
    refine lv_iconst (v := oI 0) X.1 X.2.1 dX1_isWithin_214 rfl ?_
    exact wret_Z X hr hlk hW hS rZ_0 h dX1_isWithin_215
  · have h := h.2 hc
    refine lv_aload_n X.1 X.2.1 dX1_isWithin_18 rfl (lv_at hl 0 rfl) ?_
    refine wg (v := .ref (wad w 82 0)) X hT hW 1 18 82 vl1_0 rfl rfl (by decide) rfl (by decide) in_X1 q1088 rfl dX1_isWithin_19 ?_
    refine lv_iload X.1 X.2.1 dX1_isWithin_22 (lv_at hl 3 rfl) ?_
    obtain ⟨bi, h⟩ := h
    refine w_iald (n := 1024) X hT hW 82 vl82_0 (by decide) rfl rfl bi dX1_isWithin_24 ?_
    refine lv_iload_n X.1 X.2.1 dX1_isWithin_25 rfl (lv_at hl 1 rfl) ?_
    refine w_icmp_ne (tgt := 31) X (hW.r.ai 82 0 y4 rfl) rx1 dX1_isWithin_26 (by decide) (fun hc => ?_) (fun hc => ?_)
    · have h := h.1 hc
      refine lv_aload_n X.1 X.2.1 dX1_isWithin_31 rfl (lv_at hl 0 rfl) ?_
      refine wg (v := .ref (wad w 82 0)) X hT hW 1 18 82 vl1_0 rfl rfl (by decide) rfl (by decide) in_X1 q1088 rfl dX1_isWithin_32 ?_
      refine lv_iload X.1 X.2.1 dX1_isWithin_35 (lv_at hl 3 rfl) ?_
      obtain ⟨bi, h⟩ := h
      refine w_iald (n := 1024) X hT hW 82 vl82_0 (by decide) rfl rfl bi dX1_isWithin_37 ?_
      refine lv_iconst (v := oI 2) X.1 X.2.1 dX1_isWithin_38 rfl ?_
      refine wr_J (rS (As := [.int (oI (gA σ 82 0 y4)), .int (oI 2)]) (rest := []) X hT hW hS (met_House_keyOf l (w := w) (gA σ 82 0 y4) 2 _ σ (hW.r.ai 82 0 y4 rfl) ((rB_lit 2 (by decide)).i) h) (va_cwS 2 X.2.2.2.2 (lw_S q1181 q894 q131 q895) rfl rfl rfl (by decide +kernel) ⟨Nat.le_of_ble_eq_true rfl, Nat.le_of_ble_eq_true rfl⟩) rfl hl.1 rfl (by first | exact Nat.le_of_ble_eq_true rfl | simp [catK, catI, catR, catL]) dX1_isWithin_39 ⟨Nat.le_refl _, Nat.le_refl _⟩) hS (fun r_58 σ_59 H locs rr_58 rkσ_59 h hWσ_59 hS => ?_)
      have h := h rr_58 rkσ_59
      refine lv_lstore (i := 5) (lv' := [(5, .long (oL r_58)), (0, .ref (wad w 1 0)), (1, .int (oI x1)), (3, .int (oI y3)), (4, .int (oI y4))]) X.1 X.2.1 dX1_isWithin_42 hl (by decide) (by first | rfl | simp [catK, catI, catR, catL]) (fun ls hl => ?_)
      refine lv_lconst (v := oL 0) X.1 X.2.1 dX1_isWithin_44 (by decide) ?_
      refine lv_lstore (i := 7) (lv' := [(7, .long (oL 0)), (5, .long (oL r_58)), (0, .ref (wad w 1 0)), (1, .int (oI x1)), (3, .int (oI y3)), (4, .int (oI y4))]) X.1 X.2.1 dX1_isWithin_45 hl (by decide) (by first | rfl | simp [catK, catI, catR, catL]) (fun ls hl => ?_)
      exact wk_House_isWithin_L47 X hr hlk hT hV rx1 rx2 K12 hK12 y3 y4 r_58 0 σ_59 _ _ _ ry3 ry4 rr_58 (rJ_lit 0 (by decide)) (lv_sub hl [2, 3, 4, 5, 1, 0] rfl) hWσ_59 hS h
    · have h := h.2 hc
      refine lv_iconst (v := oI 1) X.1 X.2.1 dX1_isWithin_29 rfl ?_
      exact wret_Z X hr hlk hW hS rZ_1 h dX1_isWithin_30
theorem wk_House_isWithin_L12 {p : Program} {l : Launch} {e : Env} {st : State} {m : MethodId} {args : Array Value} {below : List Frame} {meth : Method} {c : Code} {w : Wp} {x1 : Int} {x2 : Int} {Q : Int → St → Prop} (X : CallFix p m c cX1_isWithin 10 st args lw_all RX1) (hr : meth.sig.returnType = (some .boolean)) (hlk : meth.locks = false) (hT : Tb w st) (hV : Hvl w) (rx1 : rI x1) (rx2 : rI x2) : ∀ (y3 y4 : Int) (σ : St) (H : Heap) (locs : List Loc) (ls : Array Slot), rI y3 → rI y4 → lv_has ls 10 [(0, .ref (wad w 1 0)), (1, .int (oI x1)), (3, .int (oI y3)), (4, .int (oI y4))] → Wo w σ H → va_S (wA w) st.heap H locs → lQ2 (wp_House_isWithin_L12 (wc w) (wtv w) x1 x2 Q) y3 y4 σ → W p l e (headSpec (ws_ yX1_isWithin cX1_isWithin 10 (some .boolean)) rm_House_isWithin).room st m args below meth c H locs 0 0 (MQ below (QcZ w Q) args st 0 0 (wA w)) (F0 m 12 ls []) := by
  intro y3 y4 σ H locs ls ry3 ry4 hl hW hS h
  obtain ⟨fu, h⟩ := h
  induction fu generalizing y3 y4 σ H locs ls with
  | zero => exact h.elim
  | succ fu ih =>
    exact wk_House_isWithin_L12B X hr hlk hT hV rx1 rx2 (lq2 (wp_House_isWithin_L12 (wc w) (wtv w) x1 x2 Q) fu) (fun y3 y4 σ H locs ls ry3 ry4 hl hW hS h => ih y3 y4 σ H locs ls ry3 ry4 hl hW hS h) y3 y4 σ H locs ls ry3 ry4 hl hW hS h
set_option maxHeartbeats 4000000 in
set_option maxRecDepth 100000 in
theorem met_House_isWithin (l : Launch) {w : Wp} (hV : Hvl w) (x1 : Int) (x2 : Int) (Q : Int → St → Prop) (σ : St) (rx1 : rI x1) (rx2 : rI x2) (h : wp_House_isWithin (wc w) (wtv w) x1 x2 Q σ) : Met l yX1_isWithin (ws_ yX1_isWithin cX1_isWithin 10 (some .boolean)) rm_House_isWithin (PcW w σ [.ref (wad w 1 0), .int (oI x1), .int (oI x2)]) (QcZ w Q) 0 0 (wA w) := by
  refine Met.ofW (cc := cX1_isWithin) (maxL := 10) (ret := (some .boolean)) (by decide) rfl ?_
  intro p e st m args below meth c s₁ B hml hv
  obtain ⟨hargs, hW, hT⟩ := hv
  have X : CallFix p m c cX1_isWithin 10 st _ lw_all RX1 := ⟨B.exec, B.bytes, hml, findClass_of_methodNamed B.named, fun w h => atoms_spec (ws := ws_ yX1_isWithin cX1_isWithin 10 (some .boolean)) B.pre w (List.mem_cons_of_mem _ h)⟩
  have hr := B.returns
  have hlk := B.notSynchronized
  have hS : va_S (wA w) st.heap st.heap [] := va_S.rf
  have vl1_0 : vl w 1 0 := hV.hv 1 rfl ⟨by omega, by show _ < (1 : Int); omega⟩
  have vl82_0 : vl w 82 0 := hV.hv 82 rfl ⟨by omega, by show _ < (1 : Int); omega⟩
  have hl := lv_entry ([.ref (wad w 1 0), .int (oI x1), .int (oI x2)]) (n := 10) (Nat.le_of_ble_eq_true rfl)
  have hfr := lg_entry_eq m ([.ref (wad w 1 0), .int (oI x1), .int (oI x2)]) 10
  rw [← hargs] at hfr
  rw [hfr]
  generalize (lg_sl ([.ref (wad w 1 0), .int (oI x1), .int (oI x2)]) ++ List.replicate (10 - (lg_sl ([.ref (wad w 1 0), .int (oI x1), .int (oI x2)])).length) Slot.unset).toArray = ls at hl ⊢
  have hl : lv_has ls 10 [(0, .ref (wad w 1 0)), (1, .int (oI x1)), (2, .int (oI x2))] := hl
  unfold wp_House_isWithin at h
  refine lv_iconst (v := oI 1) X.1 X.2.1 dX1_isWithin_0 rfl ?_
  refine lv_istore_n (i := 3) (lv' := [(3, .int (oI 1)), (0, .ref (wad w 1 0)), (1, .int (oI x1)), (2, .int (oI x2))]) X.1 X.2.1 dX1_isWithin_1 rfl hl (by decide) (by first | rfl | simp [catK, catI, catR, catL]) (fun ls hl => ?_)
  refine lv_aload_n X.1 X.2.1 dX1_isWithin_2 rfl (lv_at hl 1 rfl) ?_
  refine wg (v := .ref (wad w 82 0)) X hT hW 1 18 82 vl1_0 rfl rfl (by decide) rfl (by decide) in_X1 q1088 rfl dX1_isWithin_3 ?_
  refine lv_iconst (v := oI 0) X.1 X.2.1 dX1_isWithin_6 rfl ?_
  refine lv_iload_n X.1 X.2.1 dX1_isWithin_7 rfl (lv_at hl 3 rfl) ?_
  obtain ⟨bi, h⟩ := h
  refine w_iast (n := 1024) X hT hW hS 82 vl82_0 (by decide) rfl rfl bi rx2 dX1_isWithin_8 (fun H locs hN hS => ?_)
  obtain ⟨σ_60, eσ_60⟩ : ∃ x, x = sA σ 82 0 0 x2 := ⟨_, rfl⟩
  have hWσ_60 : Wo w σ_60 H := eσ_60 ▸ hN
  have h := h σ_60 eσ_60
  clear hN
  refine lv_iconst (v := oI 0) X.1 X.2.1 dX1_isWithin_9 rfl ?_
  refine lv_istore (i := 4) (lv' := [(4, .int (oI 0)), (3, .int (oI 1)), (0, .ref (wad w 1 0)), (1, .int (oI x1)), (2, .int (oI x2))]) X.1 X.2.1 dX1_isWithin_10 hl (by decide) (by first | rfl | simp [catK, catI, catR, catL]) (fun ls hl => ?_)
  exact wk_House_isWithin_L12 X hr hlk hT hV rx1 rx2 1 0 σ_60 _ _ _ rZ_1.i rZ_0.i (lv_sub hl [2, 3, 1, 0] rfl) hWσ_60 hS h
/-! House.rename(IJIJ)I -/
set_option maxHeartbeats 4000000 in
set_option maxRecDepth 100000 in
theorem wk_House_rename_b345 {p : Program} {l : Launch} {e : Env} {st : State} {m : MethodId} {args : Array Value} {below : List Frame} {meth : Method} {c : Code} {w : Wp} {x1 : Int} {x2 : Int} {x4 : Int} {x5 : Int} {Q : Int → St → Prop} (X : CallFix p m c cX1_rename 14 st args lw_all RX1) (hr : meth.sig.returnType = (some .int)) (hlk : meth.locks = false) (hT : Tb w st) (hV : Hvl w) (rx1 : rI x1) (rx2 : rJ x2) (rx4 : rI x4) (rx5 : rJ x5) : ∀ (y9 : Int) (σ : St) (H : Heap) (locs : List Loc) (ls : Array Slot), rI y9 → lv_has ls 14 [(0, .ref (wad w 1 0)), (9, .int (oI y9))] → Wo w σ H → va_S (wA w) st.heap H locs → wp_House_rename_b345 (wc w) (wtv w) x1 x2 x4 x5 Q y9 σ → W p l e (headSpec (ws_ yX1_rename cX1_rename 14 (some .int)) rm_House_rename).room st m args below meth c H locs 0 0 (MQ below (QcI w Q) args st 0 0 (wA w)) (F0 m 345 ls []) := by
  have vl1_0 : vl w 1 0 := hV.hv 1 rfl ⟨by omega, by show _ < (1 : Int); omega⟩
  have vl10_0 : vl w 10 0 := hV.hv 10 rfl ⟨by omega, by show _ < (4 : Int); omega⟩
  intro y9 σ H locs ls ry9 hl hW hS h
  unfold wp_House_rename_b345 at h
  refine lv_aload_n X.1 X.2.1 dX1_rename_345 rfl (lv_at hl 0 rfl) ?_
  refine lv_aload_n X.1 X.2.1 dX1_rename_346 rfl (lv_at hl 0 rfl) ?_
  refine wg (v := .ref (wad w 10 0)) X hT hW 1 14 78 vl1_0 rfl rfl (by decide) rfl (by decide) in_X1 q1084 rfl dX1_rename_347 ?_
  refine lv_iconst (v := oI 1) X.1 X.2.1 dX1_rename_350 rfl ?_
  refine wr_V (rV (As := [.ref (wad w 10 0), .int (oI 1)]) (rest := []) X hT hW hS (met_House_addInode l (w := w) hV 0 1 _ σ (by omega) rZ_1 h) (cwV 2 X.2.2.2.2 (lw_V q1244 q1246 qs37 q131 q1247) rfl rfl rfl (by decide +kernel) ⟨Nat.le_of_ble_eq_true rfl, Nat.le_of_ble_eq_true rfl⟩) vl1_0 (by decide) rfl rfl hl.1 rfl (by first | exact Nat.le_of_ble_eq_true rfl | simp [catK, catI, catR, catL]) dX1_rename_351 ⟨Nat.le_refl _, Nat.le_refl _⟩) hS (fun σ_37 H locs rkσ_37 h hWσ_37 hS => ?_)
  have h := h rkσ_37
  refine lv_aload_n X.1 X.2.1 dX1_rename_354 rfl (lv_at hl 0 rfl) ?_
  refine wr_V (rV (As := []) (rest := []) X hT hWσ_37 hS (met_House_hand l (w := w) hV _ σ_37 h) (cwV 0 X.2.2.2.2 (lw_V q1253 q1255 qs39 q131 q1256) rfl rfl rfl (by decide +kernel) ⟨Nat.le_of_ble_eq_true rfl, Nat.le_of_ble_eq_true rfl⟩) vl1_0 (by decide) rfl rfl hl.1 rfl (by first | exact Nat.le_of_ble_eq_true rfl | simp [catK, catI, catR, catL]) dX1_rename_355 ⟨Nat.le_refl _, Nat.le_refl _⟩) hS (fun σ_39 H locs rkσ_39 h hWσ_39 hS => ?_)
  have h := h rkσ_39
  refine lv_iload X.1 X.2.1 dX1_rename_358 (lv_at hl 1 rfl) ?_
  refine w_cut (pc2 := 368) (st2 := [.int (oI (if y9 ≤ 0 then (0 : Int) else (1 : Int)))]) (fun hj => ?_) ?_
  · refine w_if_le (tgt := 367) X ry9 dX1_rename_360 (by decide) (fun hc => ?_) (fun hc => ?_)
    · refine lv_iconst (v := oI 0) X.1 X.2.1 dX1_rename_367 rfl ?_
      rw [if_pos hc] at hj; exact hj
    · refine lv_iconst (v := oI 1) X.1 X.2.1 dX1_rename_363 rfl ?_
      refine lv_goto (tgt := 368) X.1 X.2.1 dX1_rename_364 (by decide) ?_
      rw [if_neg hc] at hj; exact hj
  exact wret_I X hr hlk hWσ_39 hS ((ite_rZ rZ_0 rZ_1).i) h dX1_rename_368
set_option maxHeartbeats 4000000 in
set_option maxRecDepth 100000 in
theorem wk_House_rename_b198 {p : Program} {l : Launch} {e : Env} {st : State} {m : MethodId} {args : Array Value} {below : List Frame} {meth : Method} {c : Code} {w : Wp} {x1 : Int} {x2 : Int} {x4 : Int} {x5 : Int} {Q : Int → St → Prop} (X : CallFix p m c cX1_rename 14 st args lw_all RX1) (hr : meth.sig.returnType = (some .int)) (hlk : meth.locks = false) (hT : Tb w st) (hV : Hvl w) (rx1 : rI x1) (rx2 : rJ x2) (rx4 : rI x4) (rx5 : rJ x5) (K216 : Int → Int → Int → Int → St → Prop) (hK216 : ∀ (y8 y9 y10 y12 : Int) (σ : St) (H : Heap) (locs : List Loc) (ls : Array Slot), rI y8 → rI y9 → rI y10 → rI y12 → lv_has ls 14 [(0, .ref (wad w 1 0)), (1, .int (oI x1)), (2, .long (oL x2)), (4, .int (oI x4)), (5, .long (oL x5)), (8, .int (oI y8)), (9, .int (oI y9)), (10, .int (oI y10)), (12, .int (oI y12))] → Wo w σ H → va_S (wA w) st.heap H locs → K216 y8 y9 y10 y12 σ → W p l e (headSpec (ws_ yX1_rename cX1_rename 14 (some .int)) rm_House_rename).room st m args below meth c H locs 0 0 (MQ below (QcI w Q) args st 0 0 (wA w)) (F0 m 216 ls [])) : ∀ (y8 y9 y10 y11 y12 : Int) (σ : St) (H : Heap) (locs : List Loc) (ls : Array Slot), rI y8 → rI y9 → rI y10 → rZ y11 → rI y12 → lv_has ls 14 [(0, .ref (wad w 1 0)), (1, .int (oI x1)), (2, .long (oL x2)), (4, .int (oI x4)), (5, .long (oL x5)), (8, .int (oI y8)), (9, .int (oI y9)), (10, .int (oI y10)), (11, .int (oI y11)), (12, .int (oI y12))] → Wo w σ H → va_S (wA w) st.heap H locs → wp_House_rename_b198 (wc w) (wtv w) x1 x2 x4 x5 Q K216 y8 y9 y10 y11 y12 σ → W p l e (headSpec (ws_ yX1_rename cX1_rename 14 (some .int)) rm_House_rename).room st m args below meth c H locs 0 0 (MQ below (QcI w Q) args st 0 0 (wA w)) (F0 m 198 ls []) := by
  have vl1_0 : vl w 1 0 := hV.hv 1 rfl ⟨by omega, by show _ < (1 : Int); omega⟩
  have vl10_1 : vl w 10 1 := hV.hv 10 rfl ⟨by omega, by show _ < (4 : Int); omega⟩
  intro y8 y9 y10 y11 y12 σ H locs ls ry8 ry9 ry10 ry11 ry12 hl hW hS h
  unfold wp_House_rename_b198 at h
  refine lv_iload X.1 X.2.1 dX1_rename_198 (lv_at hl 8 rfl) ?_
  refine w_if_eq (tgt := 216) X ry11.i dX1_rename_200 (by decide) (fun hc => ?_) (fun hc => ?_)
  · have h := h.1 hc
    exact hK216 y8 y9 y10 y12 σ _ _ _ ry8 ry9 ry10 ry12 (lv_sub hl [0, 1, 2, 3, 4, 5, 6, 7, 9] rfl) hW hS h
  · have h := h.2 hc
    refine lv_aload_n X.1 X.2.1 dX1_rename_203 rfl (lv_at hl 0 rfl) ?_
    refine wg (v := .ref (wad w 10 1)) X hT hW 1 15 79 vl1_0 rfl rfl (by decide) rfl (by decide) in_X1 q1085 rfl dX1_rename_204 ?_
    refine wg (v := .int (oI (gI σ 644 1))) X hT hW 10 4 644 vl10_1 rfl rfl (by decide) rfl (by decide) in_X3 q193 rfl dX1_rename_207 ?_
    refine w_if_le (tgt := 216) X (hW.r.i 644 1 rfl) dX1_rename_210 (by decide) (fun hc => ?_) (fun hc => ?_)
    · have h := h.1 hc
      exact hK216 y8 y9 y10 y12 σ _ _ _ ry8 ry9 ry10 ry12 (lv_sub hl [0, 1, 2, 3, 4, 5, 6, 7, 9] rfl) hW hS h
    · have h := h.2 hc
      refine lv_bipush (v := oI (-8)) X.1 X.2.1 dX1_rename_213 (by decide) ?_
      exact wret_I X hr hlk hW hS ((rB_lit (-8) (by decide)).i) h dX1_rename_215
set_option maxHeartbeats 4000000 in
set_option maxRecDepth 100000 in
theorem wk_House_rename_b331 {p : Program} {l : Launch} {e : Env} {st : State} {m : MethodId} {args : Array Value} {below : List Frame} {meth : Method} {c : Code} {w : Wp} {x1 : Int} {x2 : Int} {x4 : Int} {x5 : Int} {Q : Int → St → Prop} (X : CallFix p m c cX1_rename 14 st args lw_all RX1) (hr : meth.sig.returnType = (some .int)) (hlk : meth.locks = false) (hT : Tb w st) (hV : Hvl w) (rx1 : rI x1) (rx2 : rJ x2) (rx4 : rI x4) (rx5 : rJ x5) : ∀ (y9 y13 : Int) (σ : St) (H : Heap) (locs : List Loc) (ls : Array Slot), rI y9 → rZ y13 → lv_has ls 14 [(0, .ref (wad w 1 0)), (9, .int (oI y9)), (13, .int (oI y13))] → Wo w σ H → va_S (wA w) st.heap H locs → wp_House_rename_b331 (wc w) (wtv w) x1 x2 x4 x5 Q y9 y13 σ → W p l e (headSpec (ws_ yX1_rename cX1_rename 14 (some .int)) rm_House_rename).room st m args below meth c H locs 0 0 (MQ below (QcI w Q) args st 0 0 (wA w)) (F0 m 331 ls []) := by
  have vl1_0 : vl w 1 0 := hV.hv 1 rfl ⟨by omega, by show _ < (1 : Int); omega⟩
  have vl10_2 : vl w 10 2 := hV.hv 10 rfl ⟨by omega, by show _ < (4 : Int); omega⟩
  intro y9 y13 σ H locs ls ry9 ry13 hl hW hS h
  unfold wp_House_rename_b331 at h
  refine lv_iload X.1 X.2.1 dX1_rename_331 (lv_at hl 2 rfl) ?_
  refine w_if_ne (tgt := 345) X ry13.i dX1_rename_333 (by decide) (fun hc => ?_) (fun hc => ?_)
  · have h := h.1 hc
    exact wk_House_rename_b345 X hr hlk hT hV rx1 rx2 rx4 rx5 y9 σ _ _ _ ry9 (lv_sub hl [0, 1] rfl) hW hS h
  · have h := h.2 hc
    refine lv_aload_n X.1 X.2.1 dX1_rename_336 rfl (lv_at hl 0 rfl) ?_
    refine lv_aload_n X.1 X.2.1 dX1_rename_337 rfl (lv_at hl 0 rfl) ?_
    refine wg (v := .ref (wad w 10 2)) X hT hW 1 16 80 vl1_0 rfl rfl (by decide) rfl (by decide) in_X1 q1086 rfl dX1_rename_338 ?_
    refine lv_iconst (v := oI 0) X.1 X.2.1 dX1_rename_341 rfl ?_
    refine wr_V (rV (As := [.ref (wad w 10 2), .int (oI 0)]) (rest := []) X hT hW hS (met_House_addInode l (w := w) hV 2 0 _ σ (by omega) rZ_0 h) (cwV 2 X.2.2.2.2 (lw_V q1244 q1246 qs37 q131 q1247) rfl rfl rfl (by decide +kernel) ⟨Nat.le_of_ble_eq_true rfl, Nat.le_of_ble_eq_true rfl⟩) vl1_0 (by decide) rfl rfl hl.1 rfl (by first | exact Nat.le_of_ble_eq_true rfl | simp [catK, catI, catR, catL]) dX1_rename_342 ⟨Nat.le_refl _, Nat.le_refl _⟩) hS (fun σ_41 H locs rkσ_41 h hWσ_41 hS => ?_)
    have h := h rkσ_41
    exact wk_House_rename_b345 X hr hlk hT hV rx1 rx2 rx4 rx5 y9 σ_41 _ _ _ ry9 (lv_sub hl [0, 1] rfl) hWσ_41 hS h
set_option maxHeartbeats 4000000 in
set_option maxRecDepth 100000 in
theorem wk_House_rename_b179 {p : Program} {l : Launch} {e : Env} {st : State} {m : MethodId} {args : Array Value} {below : List Frame} {meth : Method} {c : Code} {w : Wp} {x1 : Int} {x2 : Int} {x4 : Int} {x5 : Int} {Q : Int → St → Prop} (X : CallFix p m c cX1_rename 14 st args lw_all RX1) (hr : meth.sig.returnType = (some .int)) (hlk : meth.locks = false) (hT : Tb w st) (hV : Hvl w) (rx1 : rI x1) (rx2 : rJ x2) (rx4 : rI x4) (rx5 : rJ x5) (K216 : Int → Int → Int → Int → St → Prop) (hK216 : ∀ (y8 y9 y10 y12 : Int) (σ : St) (H : Heap) (locs : List Loc) (ls : Array Slot), rI y8 → rI y9 → rI y10 → rI y12 → lv_has ls 14 [(0, .ref (wad w 1 0)), (1, .int (oI x1)), (2, .long (oL x2)), (4, .int (oI x4)), (5, .long (oL x5)), (8, .int (oI y8)), (9, .int (oI y9)), (10, .int (oI y10)), (12, .int (oI y12))] → Wo w σ H → va_S (wA w) st.heap H locs → K216 y8 y9 y10 y12 σ → W p l e (headSpec (ws_ yX1_rename cX1_rename 14 (some .int)) rm_House_rename).room st m args below meth c H locs 0 0 (MQ below (QcI w Q) args st 0 0 (wA w)) (F0 m 216 ls [])) : ∀ (y8 y9 y10 y11 y12 : Int) (σ : St) (H : Heap) (locs : List Loc) (ls : Array Slot), rI y8 → rI y9 → rI y10 → rZ y11 → rI y12 → lv_has ls 14 [(0, .ref (wad w 1 0)), (1, .int (oI x1)), (2, .long (oL x2)), (4, .int (oI x4)), (5, .long (oL x5)), (8, .int (oI y8)), (9, .int (oI y9)), (10, .int (oI y10)), (11, .int (oI y11)), (12, .int (oI y12))] → Wo w σ H → va_S (wA w) st.heap H locs → wp_House_rename_b179 (wc w) (wtv w) x1 x2 x4 x5 Q K216 y8 y9 y10 y11 y12 σ → W p l e (headSpec (ws_ yX1_rename cX1_rename 14 (some .int)) rm_House_rename).room st m args below meth c H locs 0 0 (MQ below (QcI w Q) args st 0 0 (wA w)) (F0 m 179 ls []) := by
  have vl1_0 : vl w 1 0 := hV.hv 1 rfl ⟨by omega, by show _ < (1 : Int); omega⟩
  have vl10_1 : vl w 10 1 := hV.hv 10 rfl ⟨by omega, by show _ < (4 : Int); omega⟩
  intro y8 y9 y10 y11 y12 σ H locs ls ry8 ry9 ry10 ry11 ry12 hl hW hS h
  unfold wp_House_rename_b179 at h
  refine lv_iload X.1 X.2.1 dX1_rename_179 (lv_at hl 8 rfl) ?_
  refine w_if_ne (tgt := 198) X ry11.i dX1_rename_181 (by decide) (fun hc => ?_) (fun hc => ?_)
  · have h := h.1 hc
    exact wk_House_rename_b198 X hr hlk hT hV rx1 rx2 rx4 rx5 K216 hK216 y8 y9 y10 y11 y12 σ _ _ _ ry8 ry9 ry10 ry11 ry12 (lv_sub hl [0, 1, 2, 3, 4, 5, 6, 7, 8, 9] rfl) hW hS h
  · have h := h.2 hc
    refine lv_aload_n X.1 X.2.1 dX1_rename_184 rfl (lv_at hl 0 rfl) ?_
    refine wg (v := .ref (wad w 10 1)) X hT hW 1 15 79 vl1_0 rfl rfl (by decide) rfl (by decide) in_X1 q1085 rfl dX1_rename_185 ?_
    refine wg (v := .int (oI (gI σ 641 1))) X hT hW 10 1 641 vl10_1 rfl rfl (by decide) rfl (by decide) in_X3 q190 rfl dX1_rename_188 ?_
    refine lv_iconst (v := oI 1) X.1 X.2.1 dX1_rename_191 rfl ?_
    refine w_icmp_ne (tgt := 198) X (hW.r.i 641 1 rfl) rZ_1.i dX1_rename_192 (by decide) (fun hc => ?_) (fun hc => ?_)
    · have h := h.1 hc
      exact wk_House_rename_b198 X hr hlk hT hV rx1 rx2 rx4 rx5 K216 hK216 y8 y9 y10 y11 y12 σ _ _ _ ry8 ry9 ry10 ry11 ry12 (lv_sub hl [0, 1, 2, 3, 4, 5, 6, 7, 8, 9] rfl) hW hS h
    · have h := h.2 hc
      refine lv_bipush (v := oI (-7)) X.1 X.2.1 dX1_rename_195 (by decide) ?_
      exact wret_I X hr hlk hW hS ((rB_lit (-7) (by decide)).i) h dX1_rename_197
set_option maxHeartbeats 4000000 in
set_option maxRecDepth 100000 in
theorem wk_House_rename_b216 {p : Program} {l : Launch} {e : Env} {st : State} {m : MethodId} {args : Array Value} {below : List Frame} {meth : Method} {c : Code} {w : Wp} {x1 : Int} {x2 : Int} {x4 : Int} {x5 : Int} {Q : Int → St → Prop} (X : CallFix p m c cX1_rename 14 st args lw_all RX1) (hr : meth.sig.returnType = (some .int)) (hlk : meth.locks = false) (hT : Tb w st) (hV : Hvl w) (rx1 : rI x1) (rx2 : rJ x2) (rx4 : rI x4) (rx5 : rJ x5) : ∀ (y8 y9 y10 y12 : Int) (σ : St) (H : Heap) (locs : List Loc) (ls : Array Slot), rI y8 → rI y9 → rI y10 → rI y12 → lv_has ls 14 [(0, .ref (wad w 1 0)), (1, .int (oI x1)), (2, .long (oL x2)), (4, .int (oI x4)), (5, .long (oL x5)), (8, .int (oI y8)), (9, .int (oI y9)), (10, .int (oI y10)), (12, .int (oI y12))] → Wo w σ H → va_S (wA w) st.heap H locs → wp_House_rename_b216 (wc w) (wtv w) x1 x2 x4 x5 Q y8 y9 y10 y12 σ → W p l e (headSpec (ws_ yX1_rename cX1_rename 14 (some .int)) rm_House_rename).room st m args below meth c H locs 0 0 (MQ below (QcI w Q) args st 0 0 (wA w)) (F0 m 216 ls []) := by
  have vl1_0 : vl w 1 0 := hV.hv 1 rfl ⟨by omega, by show _ < (1 : Int); omega⟩
  have vl10_0 : vl w 10 0 := hV.hv 10 rfl ⟨by omega, by show _ < (4 : Int); omega⟩
  have vl10_1 : vl w 10 1 := hV.hv 10 rfl ⟨by omega, by show _ < (4 : Int); omega⟩
  have vl10_2 : vl w 10 2 := hV.hv 10 rfl ⟨by omega, by show _ < (4 : Int); omega⟩
  intro y8 y9 y10 y12 σ H locs ls ry8 ry9 ry10 ry12 hl hW hS h
  unfold wp_House_rename_b216 at h
  refine lv_aload_n X.1 X.2.1 dX1_rename_216 rfl (lv_at hl 0 rfl) ?_
  refine wr_V (rV (As := []) (rest := []) X hT hW hS (met_House_begin l (w := w) hV _ σ h) (cwV 0 X.2.2.2.2 (lw_V q1231 q1233 qs35 q131 q1234) rfl rfl rfl (by decide +kernel) ⟨Nat.le_of_ble_eq_true rfl, Nat.le_of_ble_eq_true rfl⟩) vl1_0 (by decide) rfl rfl hl.1 rfl (by first | exact Nat.le_of_ble_eq_true rfl | simp [catK, catI, catR, catL]) dX1_rename_217 ⟨Nat.le_refl _, Nat.le_refl _⟩) hS (fun σ_43 H locs rkσ_43 h hWσ_43 hS => ?_)
  have h := h rkσ_43
  refine lv_aload_n X.1 X.2.1 dX1_rename_220 rfl (lv_at hl 0 rfl) ?_
  refine lv_iload_n X.1 X.2.1 dX1_rename_221 rfl (lv_at hl 1 rfl) ?_
  refine lv_lload_n X.1 X.2.1 dX1_rename_222 rfl (lv_at hl 2 rfl) ?_
  refine lv_iconst (v := oI 0) X.1 X.2.1 dX1_rename_223 rfl ?_
  refine lv_iload X.1 X.2.1 dX1_rename_224 (lv_at hl 5 rfl) ?_
  refine wr_V (rV (As := [.int (oI x1), .long (oL x2), .int (oI 0), .int (oI y8)]) (rest := []) X hT hWσ_43 hS (met_House_addEntry l (w := w) hV x1 x2 0 y8 _ σ_43 rx1 rx2 rZ_0.i ry8 h) (cwV 4 X.2.2.2.2 (lw_V q1236 q1238 qs36 q131 q1239) rfl rfl rfl (by decide +kernel) ⟨Nat.le_of_ble_eq_true rfl, Nat.le_of_ble_eq_true rfl⟩) vl1_0 (by decide) rfl rfl hl.1 rfl (by first | exact Nat.le_of_ble_eq_true rfl | simp [catK, catI, catR, catL]) dX1_rename_226 ⟨Nat.le_refl _, Nat.le_refl _⟩) hS (fun σ_45 H locs rkσ_45 h hWσ_45 hS => ?_)
  have h := h rkσ_45
  refine lv_aload_n X.1 X.2.1 dX1_rename_229 rfl (lv_at hl 0 rfl) ?_
  refine lv_iload X.1 X.2.1 dX1_rename_230 (lv_at hl 3 rfl) ?_
  refine lv_lload X.1 X.2.1 dX1_rename_232 (lv_at hl 4 rfl) ?_
  refine lv_iload X.1 X.2.1 dX1_rename_234 (lv_at hl 8 rfl) ?_
  refine lv_iload X.1 X.2.1 dX1_rename_236 (lv_at hl 7 rfl) ?_
  refine wr_V (rV (As := [.int (oI x4), .long (oL x5), .int (oI y12), .int (oI y10)]) (rest := []) X hT hWσ_45 hS (met_House_addEntry l (w := w) hV x4 x5 y12 y10 _ σ_45 rx4 rx5 ry12 ry10 h) (cwV 4 X.2.2.2.2 (lw_V q1236 q1238 qs36 q131 q1239) rfl rfl rfl (by decide +kernel) ⟨Nat.le_of_ble_eq_true rfl, Nat.le_of_ble_eq_true rfl⟩) vl1_0 (by decide) rfl rfl hl.1 rfl (by first | exact Nat.le_of_ble_eq_true rfl | simp [catK, catI, catR, catL]) dX1_rename_238 ⟨Nat.le_refl _, Nat.le_refl _⟩) hS (fun σ_47 H locs rkσ_47 h hWσ_47 hS => ?_)
  have h := h rkσ_47
  refine lv_iload_n X.1 X.2.1 dX1_rename_241 rfl (lv_at hl 1 rfl) ?_
  refine lv_iload X.1 X.2.1 dX1_rename_242 (lv_at hl 3 rfl) ?_
  refine w_cut (pc2 := 252) (st2 := [.int (oI (if x1 = x4 then (1 : Int) else (0 : Int)))]) (fun hj => ?_) ?_
  · refine w_icmp_ne (tgt := 251) X rx1 rx4 dX1_rename_244 (by decide) (fun hc => ?_) (fun hc => ?_)
    · refine lv_iconst (v := oI 0) X.1 X.2.1 dX1_rename_251 rfl ?_
      rw [if_neg hc] at hj; exact hj
    · refine lv_iconst (v := oI 1) X.1 X.2.1 dX1_rename_247 rfl ?_
      refine lv_goto (tgt := 252) X.1 X.2.1 dX1_rename_248 (by decide) ?_
      rw [if_pos hc] at hj; exact hj
  refine w_top (fun y13_48 ey13_48 => ?_)
  have h := h y13_48 ey13_48
  have ry13_48 : rZ y13_48 := by rw [ey13_48]; exact (ite_rZ rZ_1 rZ_0)
  refine lv_istore (i := 13) (lv' := [(13, .int (oI y13_48)), (0, .ref (wad w 1 0)), (1, .int (oI x1)), (2, .long (oL x2)), (4, .int (oI x4)), (5, .long (oL x5)), (8, .int (oI y8)), (9, .int (oI y9)), (10, .int (oI y10)), (12, .int (oI y12))]) X.1 X.2.1 dX1_rename_252 hl (by decide) (by first | rfl | simp [catK, catI, catR, catL]) (fun ls hl => ?_)
  refine lv_aload_n X.1 X.2.1 dX1_rename_254 rfl (lv_at hl 1 rfl) ?_
  refine wg (v := .ref (wad w 10 0)) X hT hWσ_47 1 14 78 vl1_0 rfl rfl (by decide) rfl (by decide) in_X1 q1084 rfl dX1_rename_255 ?_
  refine lv_dup X.1 X.2.1 dX1_rename_258 rfl ?_
  refine wg (v := .int (oI (gI σ_47 644 0))) X hT hWσ_47 10 4 644 vl10_0 rfl rfl (by decide) rfl (by decide) in_X3 q193 rfl dX1_rename_259 ?_
  refine lv_iconst (v := oI 1) X.1 X.2.1 dX1_rename_262 rfl ?_
  refine w_isub X dX1_rename_263 ?_
  refine wput (z := w32 ((gI σ_47 644 0) - 1)) X hT hWσ_47 hS 10 4 644 vl10_0 rfl rfl (by decide) rfl (by decide) in_X3 tyX3 tyX3_ok nmX3 q193 rfl rfl (w32_r _) (fv0 w rfl) rfl rfl dX1_rename_264 (fun H locs hN hS => ?_)
  obtain ⟨σ_49, eσ_49⟩ : ∃ x, x = sI σ_47 644 0 (w32 ((gI σ_47 644 0) - 1)) := ⟨_, rfl⟩
  have hWσ_49 : Wo w σ_49 H := eσ_49 ▸ hN
  have h := h σ_49 eσ_49
  clear hN
  refine lv_iload X.1 X.2.1 dX1_rename_267 (lv_at hl 7 rfl) ?_
  refine w_if_le (tgt := 297) X ry9 dX1_rename_269 (by decide) (fun hc => ?_) (fun hc => ?_)
  · have h := h.1 hc
    refine lv_iload X.1 X.2.1 dX1_rename_297 (lv_at hl 0 rfl) ?_
    refine w_if_eq (tgt := 318) X ry13_48.i dX1_rename_299 (by decide) (fun hc => ?_) (fun hc => ?_)
    · have h := h.1 hc
      refine lv_aload_n X.1 X.2.1 dX1_rename_318 rfl (lv_at hl 1 rfl) ?_
      refine wg (v := .ref (wad w 10 2)) X hT hWσ_49 1 16 80 vl1_0 rfl rfl (by decide) rfl (by decide) in_X1 q1086 rfl dX1_rename_319 ?_
      refine lv_dup X.1 X.2.1 dX1_rename_322 rfl ?_
      refine wg (v := .int (oI (gI σ_49 644 2))) X hT hWσ_49 10 4 644 vl10_2 rfl rfl (by decide) rfl (by decide) in_X3 q193 rfl dX1_rename_323 ?_
      refine lv_iconst (v := oI 1) X.1 X.2.1 dX1_rename_326 rfl ?_
      refine w_iadd X dX1_rename_327 ?_
      refine wput (z := w32 ((gI σ_49 644 2) + 1)) X hT hWσ_49 hS 10 4 644 vl10_2 rfl rfl (by decide) rfl (by decide) in_X3 tyX3 tyX3_ok nmX3 q193 rfl rfl (w32_r _) (fv0 w rfl) rfl rfl dX1_rename_328 (fun H locs hN hS => ?_)
      obtain ⟨σ_50, eσ_50⟩ : ∃ x, x = sI σ_49 644 2 (w32 ((gI σ_49 644 2) + 1)) := ⟨_, rfl⟩
      have hWσ_50 : Wo w σ_50 H := eσ_50 ▸ hN
      have h := h σ_50 eσ_50
      clear hN
      exact wk_House_rename_b331 X hr hlk hT hV rx1 rx2 rx4 rx5 y9 y13_48 σ_50 _ _ _ ry9 ry13_48 (lv_sub hl [1, 7, 0] rfl) hWσ_50 hS h
    · have h := h.2 hc
      refine lv_aload_n X.1 X.2.1 dX1_rename_302 rfl (lv_at hl 1 rfl) ?_
      refine wg (v := .ref (wad w 10 0)) X hT hWσ_49 1 14 78 vl1_0 rfl rfl (by decide) rfl (by decide) in_X1 q1084 rfl dX1_rename_303 ?_
      refine lv_dup X.1 X.2.1 dX1_rename_306 rfl ?_
      refine wg (v := .int (oI (gI σ_49 644 0))) X hT hWσ_49 10 4 644 vl10_0 rfl rfl (by decide) rfl (by decide) in_X3 q193 rfl dX1_rename_307 ?_
      refine lv_iconst (v := oI 1) X.1 X.2.1 dX1_rename_310 rfl ?_
      refine w_iadd X dX1_rename_311 ?_
      refine wput (z := w32 ((gI σ_49 644 0) + 1)) X hT hWσ_49 hS 10 4 644 vl10_0 rfl rfl (by decide) rfl (by decide) in_X3 tyX3 tyX3_ok nmX3 q193 rfl rfl (w32_r _) (fv0 w rfl) rfl rfl dX1_rename_312 (fun H locs hN hS => ?_)
      obtain ⟨σ_51, eσ_51⟩ : ∃ x, x = sI σ_49 644 0 (w32 ((gI σ_49 644 0) + 1)) := ⟨_, rfl⟩
      have hWσ_51 : Wo w σ_51 H := eσ_51 ▸ hN
      have h := h σ_51 eσ_51
      clear hN
      refine lv_goto (tgt := 331) X.1 X.2.1 dX1_rename_315 (by decide) ?_
      exact wk_House_rename_b331 X hr hlk hT hV rx1 rx2 rx4 rx5 y9 y13_48 σ_51 _ _ _ ry9 ry13_48 (lv_sub hl [1, 7, 0] rfl) hWσ_51 hS h
  · have h := h.2 hc
    refine lv_aload_n X.1 X.2.1 dX1_rename_272 rfl (lv_at hl 1 rfl) ?_
    refine lv_dup X.1 X.2.1 dX1_rename_273 rfl ?_
    refine wg (v := .int (oI (gI σ_49 71 0))) X hT hWσ_49 1 7 71 vl1_0 rfl rfl (by decide) rfl (by decide) in_X1 q1077 rfl dX1_rename_274 ?_
    refine lv_sipush (v := oI 240) X.1 X.2.1 dX1_rename_277 (by decide) ?_
    refine w_isub X dX1_rename_280 ?_
    refine wput (z := w32 ((gI σ_49 71 0) - 240)) X hT hWσ_49 hS 1 7 71 vl1_0 rfl rfl (by decide) rfl (by decide) in_X1 tyX1 tyX1_ok nmX1 q1077 rfl rfl (w32_r _) (fv0 w rfl) rfl rfl dX1_rename_281 (fun H locs hN hS => ?_)
    obtain ⟨σ_52, eσ_52⟩ : ∃ x, x = sI σ_49 71 0 (w32 ((gI σ_49 71 0) - 240)) := ⟨_, rfl⟩
    have hWσ_52 : Wo w σ_52 H := eσ_52 ▸ hN
    have h := h σ_52 eσ_52
    clear hN
    refine lv_aload_n X.1 X.2.1 dX1_rename_284 rfl (lv_at hl 1 rfl) ?_
    refine lv_aload_n X.1 X.2.1 dX1_rename_285 rfl (lv_at hl 1 rfl) ?_
    refine wg (v := .ref (wad w 10 1)) X hT hWσ_52 1 15 79 vl1_0 rfl rfl (by decide) rfl (by decide) in_X1 q1085 rfl dX1_rename_286 ?_
    refine lv_iconst (v := oI 0) X.1 X.2.1 dX1_rename_289 rfl ?_
    refine wr_Z (rV (As := [.ref (wad w 10 1), .int (oI 0)]) (rest := []) X hT hWσ_52 hS (met_House_loses l (w := w) hV 1 0 _ σ_52 (by omega) rZ_0 h) (cwV 2 X.2.2.2.2 (lw_V q1408 q1410 qs55 q131 q1411) rfl rfl rfl (by decide +kernel) ⟨Nat.le_of_ble_eq_true rfl, Nat.le_of_ble_eq_true rfl⟩) vl1_0 (by decide) rfl rfl hl.1 rfl (by first | exact Nat.le_of_ble_eq_true rfl | simp [catK, catI, catR, catL]) dX1_rename_290 ⟨Nat.le_refl _, Nat.le_refl _⟩) hS (fun r_53 σ_54 H locs rr_53 rkσ_54 h hWσ_54 hS => ?_)
    have h := h rr_53 rkσ_54
    refine lv_pop X.1 X.2.1 dX1_rename_293 rfl ?_
    refine lv_goto (tgt := 331) X.1 X.2.1 dX1_rename_294 (by decide) ?_
    exact wk_House_rename_b331 X hr hlk hT hV rx1 rx2 rx4 rx5 y9 y13_48 σ_54 _ _ _ ry9 ry13_48 (lv_sub hl [1, 7, 0] rfl) hWσ_54 hS h
set_option maxHeartbeats 4000000 in
set_option maxRecDepth 100000 in
theorem wk_House_rename_b135 {p : Program} {l : Launch} {e : Env} {st : State} {m : MethodId} {args : Array Value} {below : List Frame} {meth : Method} {c : Code} {w : Wp} {x1 : Int} {x2 : Int} {x4 : Int} {x5 : Int} {Q : Int → St → Prop} (X : CallFix p m c cX1_rename 14 st args lw_all RX1) (hr : meth.sig.returnType = (some .int)) (hlk : meth.locks = false) (hT : Tb w st) (hV : Hvl w) (rx1 : rI x1) (rx2 : rJ x2) (rx4 : rI x4) (rx5 : rJ x5) : ∀ (y8 y9 y10 y11 : Int) (σ : St) (H : Heap) (locs : List Loc) (ls : Array Slot), rI y8 → rI y9 → rI y10 → rZ y11 → lv_has ls 14 [(0, .ref (wad w 1 0)), (1, .int (oI x1)), (2, .long (oL x2)), (4, .int (oI x4)), (5, .long (oL x5)), (8, .int (oI y8)), (9, .int (oI y9)), (10, .int (oI y10)), (11, .int (oI y11))] → Wo w σ H → va_S (wA w) st.heap H locs → wp_House_rename_b135 (wc w) (wtv w) x1 x2 x4 x5 Q y8 y9 y10 y11 σ → W p l e (headSpec (ws_ yX1_rename cX1_rename 14 (some .int)) rm_House_rename).room st m args below meth c H locs 0 0 (MQ below (QcI w Q) args st 0 0 (wA w)) (F0 m 135 ls []) := by
  have vl1_0 : vl w 1 0 := hV.hv 1 rfl ⟨by omega, by show _ < (1 : Int); omega⟩
  have vl10_1 : vl w 10 1 := hV.hv 10 rfl ⟨by omega, by show _ < (4 : Int); omega⟩
  intro y8 y9 y10 y11 σ H locs ls ry8 ry9 ry10 ry11 hl hW hS h
  unfold wp_House_rename_b135 at h
  refine lv_aload_n X.1 X.2.1 dX1_rename_135 rfl (lv_at hl 0 rfl) ?_
  refine wg (v := .ref (wad w 10 1)) X hT hW 1 15 79 vl1_0 rfl rfl (by decide) rfl (by decide) in_X1 q1085 rfl dX1_rename_136 ?_
  refine wg (v := .int (oI (gI σ 640 1))) X hT hW 10 0 640 vl10_1 rfl rfl (by decide) rfl (by decide) in_X3 q189 rfl dX1_rename_139 ?_
  refine w_top (fun y12_55 ey12_55 => ?_)
  have h := h y12_55 ey12_55
  have ry12_55 : rI y12_55 := by rw [ey12_55]; exact (hW.r.i 640 1 rfl)
  refine lv_istore (i := 12) (lv' := [(12, .int (oI y12_55)), (0, .ref (wad w 1 0)), (1, .int (oI x1)), (2, .long (oL x2)), (4, .int (oI x4)), (5, .long (oL x5)), (8, .int (oI y8)), (9, .int (oI y9)), (10, .int (oI y10)), (11, .int (oI y11))]) X.1 X.2.1 dX1_rename_142 hl (by decide) (by first | rfl | simp [catK, catI, catR, catL]) (fun ls hl => ?_)
  refine lv_iload X.1 X.2.1 dX1_rename_144 (lv_at hl 7 rfl) ?_
  refine w_if_le (tgt := 216) X ry9 dX1_rename_146 (by decide) (fun hc => ?_) (fun hc => ?_)
  · have h := h.1 hc
    exact wk_House_rename_b216 X hr hlk hT hV rx1 rx2 rx4 rx5 y8 y9 y10 y12_55 σ _ _ _ ry8 ry9 ry10 ry12_55 (lv_sub hl [1, 2, 3, 4, 5, 6, 7, 8, 0] rfl) hW hS h
  · have h := h.2 hc
    refine lv_aload_n X.1 X.2.1 dX1_rename_149 rfl (lv_at hl 1 rfl) ?_
    refine lv_iload X.1 X.2.1 dX1_rename_150 (lv_at hl 7 rfl) ?_
    refine lv_aload_n X.1 X.2.1 dX1_rename_152 rfl (lv_at hl 1 rfl) ?_
    refine wg (v := .ref (wad w 10 1)) X hT hW 1 15 79 vl1_0 rfl rfl (by decide) rfl (by decide) in_X1 q1085 rfl dX1_rename_153 ?_
    refine wr_Z (rV (As := [.int (oI y9), .ref (wad w 10 1)]) (rest := []) X hT hW hS (met_House_read l (w := w) hV y9 1 _ σ ry9 (by omega) h) (cwV 2 X.2.2.2.2 (lw_V q1177 q1179 qs32 q131 q1180) rfl rfl rfl (by decide +kernel) ⟨Nat.le_of_ble_eq_true rfl, Nat.le_of_ble_eq_true rfl⟩) vl1_0 (by decide) rfl rfl hl.1 rfl (by first | exact Nat.le_of_ble_eq_true rfl | simp [catK, catI, catR, catL]) dX1_rename_156 ⟨Nat.le_refl _, Nat.le_refl _⟩) hS (fun r_56 σ_57 H locs rr_56 rkσ_57 h hWσ_57 hS => ?_)
    have h := h rr_56 rkσ_57
    refine lv_pop X.1 X.2.1 dX1_rename_159 rfl ?_
    refine lv_iload X.1 X.2.1 dX1_rename_160 (lv_at hl 9 rfl) ?_
    refine w_if_eq (tgt := 179) X ry11.i dX1_rename_162 (by decide) (fun hc => ?_) (fun hc => ?_)
    · have h := h.1 hc
      exact wk_House_rename_b179 X hr hlk hT hV rx1 rx2 rx4 rx5 (wp_House_rename_b216 (wc w) (wtv w) x1 x2 x4 x5 Q) (wk_House_rename_b216 X hr hlk hT hV rx1 rx2 rx4 rx5) y8 y9 y10 y11 y12_55 σ_57 _ _ _ ry8 ry9 ry10 ry11 ry12_55 (lv_sub hl [1, 2, 3, 4, 5, 6, 7, 8, 9, 0] rfl) hWσ_57 hS h
    · have h := h.2 hc
      refine lv_aload_n X.1 X.2.1 dX1_rename_165 rfl (lv_at hl 1 rfl) ?_
      refine wg (v := .ref (wad w 10 1)) X hT hWσ_57 1 15 79 vl1_0 rfl rfl (by decide) rfl (by decide) in_X1 q1085 rfl dX1_rename_166 ?_
      refine wg (v := .int (oI (gI σ_57 641 1))) X hT hWσ_57 10 1 641 vl10_1 rfl rfl (by decide) rfl (by decide) in_X3 q190 rfl dX1_rename_169 ?_
      refine lv_iconst (v := oI 1) X.1 X.2.1 dX1_rename_172 rfl ?_
      refine w_icmp_eq (tgt := 179) X (hWσ_57.r.i 641 1 rfl) rZ_1.i dX1_rename_173 (by decide) (fun hc => ?_) (fun hc => ?_)
      · have h := h.1 hc
        exact wk_House_rename_b179 X hr hlk hT hV rx1 rx2 rx4 rx5 (wp_House_rename_b216 (wc w) (wtv w) x1 x2 x4 x5 Q) (wk_House_rename_b216 X hr hlk hT hV rx1 rx2 rx4 rx5) y8 y9 y10 y11 y12_55 σ_57 _ _ _ ry8 ry9 ry10 ry11 ry12_55 (lv_sub hl [1, 2, 3, 4, 5, 6, 7, 8, 9, 0] rfl) hWσ_57 hS h
      · have h := h.2 hc
        refine lv_bipush (v := oI (-6)) X.1 X.2.1 dX1_rename_176 (by decide) ?_
        exact wret_I X hr hlk hWσ_57 hS ((rB_lit (-6) (by decide)).i) h dX1_rename_178
set_option maxHeartbeats 4000000 in
set_option maxRecDepth 100000 in
theorem met_House_rename (l : Launch) {w : Wp} (hV : Hvl w) (x1 : Int) (x2 : Int) (x4 : Int) (x5 : Int) (Q : Int → St → Prop) (σ : St) (rx1 : rI x1) (rx2 : rJ x2) (rx4 : rI x4) (rx5 : rJ x5) (h : wp_House_rename (wc w) (wtv w) x1 x2 x4 x5 Q σ) : Met l yX1_rename (ws_ yX1_rename cX1_rename 14 (some .int)) rm_House_rename (PcW w σ [.ref (wad w 1 0), .int (oI x1), .long (oL x2), .int (oI x4), .long (oL x5)]) (QcI w Q) 0 0 (wA w) := by
  refine Met.ofW (cc := cX1_rename) (maxL := 14) (ret := (some .int)) (by decide) rfl ?_
  intro p e st m args below meth c s₁ B hml hv
  obtain ⟨hargs, hW, hT⟩ := hv
  have X : CallFix p m c cX1_rename 14 st _ lw_all RX1 := ⟨B.exec, B.bytes, hml, findClass_of_methodNamed B.named, fun w h => atoms_spec (ws := ws_ yX1_rename cX1_rename 14 (some .int)) B.pre w (List.mem_cons_of_mem _ h)⟩
  have hr := B.returns
  have hlk := B.notSynchronized
  have hS : va_S (wA w) st.heap st.heap [] := va_S.rf
  have vl1_0 : vl w 1 0 := hV.hv 1 rfl ⟨by omega, by show _ < (1 : Int); omega⟩
  have vl10_1 : vl w 10 1 := hV.hv 10 rfl ⟨by omega, by show _ < (4 : Int); omega⟩
  have vl10_2 : vl w 10 2 := hV.hv 10 rfl ⟨by omega, by show _ < (4 : Int); omega⟩
  have hl := lv_entry ([.ref (wad w 1 0), .int (oI x1), .long (oL x2), .int (oI x4), .long (oL x5)]) (n := 14) (Nat.le_of_ble_eq_true rfl)
  have hfr := lg_entry_eq m ([.ref (wad w 1 0), .int (oI x1), .long (oL x2), .int (oI x4), .long (oL x5)]) 14
  rw [← hargs] at hfr
  rw [hfr]
  generalize (lg_sl ([.ref (wad w 1 0), .int (oI x1), .long (oL x2), .int (oI x4), .long (oL x5)]) ++ List.replicate (14 - (lg_sl ([.ref (wad w 1 0), .int (oI x1), .long (oL x2), .int (oI x4), .long (oL x5)])).length) Slot.unset).toArray = ls at hl ⊢
  have hl : lv_has ls 14 [(0, .ref (wad w 1 0)), (1, .int (oI x1)), (2, .long (oL x2)), (4, .int (oI x4)), (5, .long (oL x5))] := hl
  unfold wp_House_rename at h
  refine lv_aload_n X.1 X.2.1 dX1_rename_0 rfl (lv_at hl 0 rfl) ?_
  refine wg (v := .int (oI (gI σ 69 0))) X hT hW 1 5 69 vl1_0 rfl rfl (by decide) rfl (by decide) in_X1 q1075 rfl dX1_rename_1 ?_
  refine w_if_ne (tgt := 10) X ((hW.r.z 69 0 rfl).i) dX1_rename_4 (by decide) (fun hc => ?_) (fun hc => ?_)
  · have h := h.1 hc
    refine lv_lload X.1 X.2.1 dX1_rename_10 (lv_at hl 4 rfl) ?_
    refine wr_Z (rS (As := [.long (oL x5)]) (rest := []) X hT hW hS (met_House_isName l (w := w) x5 _ σ rx5 h) (va_cwS 1 X.2.2.2.2 (lw_S q1169 q1170 q131 q1171) rfl rfl rfl (by decide +kernel) ⟨Nat.le_of_ble_eq_true rfl, Nat.le_of_ble_eq_true rfl⟩) rfl hl.1 rfl (by first | exact Nat.le_of_ble_eq_true rfl | simp [catK, catI, catR, catL]) dX1_rename_12 ⟨Nat.le_refl _, Nat.le_refl _⟩) hS (fun r_58 σ_59 H locs rr_58 rkσ_59 h hWσ_59 hS => ?_)
    have h := h rr_58 rkσ_59
    refine w_if_ne (tgt := 21) X rr_58.i dX1_rename_15 (by decide) (fun hc => ?_) (fun hc => ?_)
    · have h := h.1 hc
      refine lv_aload_n X.1 X.2.1 dX1_rename_21 rfl (lv_at hl 0 rfl) ?_
      refine lv_iload_n X.1 X.2.1 dX1_rename_22 rfl (lv_at hl 1 rfl) ?_
      refine lv_lload_n X.1 X.2.1 dX1_rename_23 rfl (lv_at hl 2 rfl) ?_
      refine wr_I (rV (As := [.int (oI x1), .long (oL x2)]) (rest := []) X hT hWσ_59 hS (met_House_named l (w := w) hV x1 x2 _ σ_59 rx1 rx2 h) (cwV 2 X.2.2.2.2 (lw_V q1400 q1402 qs53 q131 q1403) rfl rfl rfl (by decide +kernel) ⟨Nat.le_of_ble_eq_true rfl, Nat.le_of_ble_eq_true rfl⟩) vl1_0 (by decide) rfl rfl hl.1 rfl (by first | exact Nat.le_of_ble_eq_true rfl | simp [catK, catI, catR, catL]) dX1_rename_24 ⟨Nat.le_refl _, Nat.le_refl _⟩) hS (fun r_60 σ_61 H locs rr_60 rkσ_61 h hWσ_61 hS => ?_)
      have h := h rr_60 rkσ_61
      refine lv_istore (i := 7) (lv' := [(7, .int (oI r_60)), (0, .ref (wad w 1 0)), (1, .int (oI x1)), (2, .long (oL x2)), (4, .int (oI x4)), (5, .long (oL x5))]) X.1 X.2.1 dX1_rename_27 hl (by decide) (by first | rfl | simp [catK, catI, catR, catL]) (fun ls hl => ?_)
      refine lv_iload X.1 X.2.1 dX1_rename_29 (lv_at hl 0 rfl) ?_
      refine w_if_ge (tgt := 37) X rr_60 dX1_rename_31 (by decide) (fun hc => ?_) (fun hc => ?_)
      · have h := h.1 hc
        refine lv_aload_n X.1 X.2.1 dX1_rename_37 rfl (lv_at hl 1 rfl) ?_
        refine wg (v := .int (oI (gI σ_61 91 0))) X hT hWσ_61 1 27 91 vl1_0 rfl rfl (by decide) rfl (by decide) in_X1 q1097 rfl dX1_rename_38 ?_
        refine w_top (fun y8_62 ey8_62 => ?_)
        have h := h y8_62 ey8_62
        have ry8_62 : rI y8_62 := by rw [ey8_62]; exact (hWσ_61.r.i 91 0 rfl)
        refine lv_istore (i := 8) (lv' := [(8, .int (oI y8_62)), (7, .int (oI r_60)), (0, .ref (wad w 1 0)), (1, .int (oI x1)), (2, .long (oL x2)), (4, .int (oI x4)), (5, .long (oL x5))]) X.1 X.2.1 dX1_rename_41 hl (by decide) (by first | rfl | simp [catK, catI, catR, catL]) (fun ls hl => ?_)
        refine lv_aload_n X.1 X.2.1 dX1_rename_43 rfl (lv_at hl 2 rfl) ?_
        refine lv_iload X.1 X.2.1 dX1_rename_44 (lv_at hl 5 rfl) ?_
        refine lv_aload_n X.1 X.2.1 dX1_rename_46 rfl (lv_at hl 2 rfl) ?_
        refine wg (v := .ref (wad w 10 2)) X hT hWσ_61 1 16 80 vl1_0 rfl rfl (by decide) rfl (by decide) in_X1 q1086 rfl dX1_rename_47 ?_
        refine wr_I (rV (As := [.int (oI x4), .ref (wad w 10 2)]) (rest := []) X hT hWσ_61 hS (met_House_directory l (w := w) hV x4 2 _ σ_61 rx4 (by omega) h) (cwV 2 X.2.2.2.2 (lw_V q1173 q1175 qs31 q131 q1176) rfl rfl rfl (by decide +kernel) ⟨Nat.le_of_ble_eq_true rfl, Nat.le_of_ble_eq_true rfl⟩) vl1_0 (by decide) rfl rfl hl.1 rfl (by first | exact Nat.le_of_ble_eq_true rfl | simp [catK, catI, catR, catL]) dX1_rename_50 ⟨Nat.le_refl _, Nat.le_refl _⟩) hS (fun r_63 σ_64 H locs rr_63 rkσ_64 h hWσ_64 hS => ?_)
        have h := h rr_63 rkσ_64
        refine lv_istore (i := 7) (lv' := [(7, .int (oI r_63)), (8, .int (oI y8_62)), (0, .ref (wad w 1 0)), (1, .int (oI x1)), (2, .long (oL x2)), (4, .int (oI x4)), (5, .long (oL x5))]) X.1 X.2.1 dX1_rename_53 hl (by decide) (by first | rfl | simp [catK, catI, catR, catL]) (fun ls hl => ?_)
        refine lv_iload X.1 X.2.1 dX1_rename_55 (lv_at hl 0 rfl) ?_
        refine w_if_ge (tgt := 63) X rr_63 dX1_rename_57 (by decide) (fun hc => ?_) (fun hc => ?_)
        · have h := h.1 hc
          refine lv_aload_n X.1 X.2.1 dX1_rename_63 rfl (lv_at hl 2 rfl) ?_
          refine lv_iload X.1 X.2.1 dX1_rename_64 (lv_at hl 5 rfl) ?_
          refine lv_lload X.1 X.2.1 dX1_rename_66 (lv_at hl 6 rfl) ?_
          refine wr_I (rV (As := [.int (oI x4), .long (oL x5)]) (rest := []) X hT hWσ_64 hS (met_House_entry l (w := w) hV x4 x5 _ σ_64 rx4 rx5 h) (cwV 2 X.2.2.2.2 (lw_V q1210 q1212 qs34 q131 q1213) rfl rfl rfl (by decide +kernel) ⟨Nat.le_of_ble_eq_true rfl, Nat.le_of_ble_eq_true rfl⟩) vl1_0 (by decide) rfl rfl hl.1 rfl (by first | exact Nat.le_of_ble_eq_true rfl | simp [catK, catI, catR, catL]) dX1_rename_68 ⟨Nat.le_refl _, Nat.le_refl _⟩) hS (fun r_65 σ_66 H locs rr_65 rkσ_66 h hWσ_66 hS => ?_)
          have h := h rr_65 rkσ_66
          refine lv_istore (i := 9) (lv' := [(9, .int (oI r_65)), (7, .int (oI r_63)), (8, .int (oI y8_62)), (0, .ref (wad w 1 0)), (1, .int (oI x1)), (2, .long (oL x2)), (4, .int (oI x4)), (5, .long (oL x5))]) X.1 X.2.1 dX1_rename_71 hl (by decide) (by first | rfl | simp [catK, catI, catR, catL]) (fun ls hl => ?_)
          refine lv_aload_n X.1 X.2.1 dX1_rename_73 rfl (lv_at hl 3 rfl) ?_
          refine wg (v := .int (oI (gI σ_66 91 0))) X hT hWσ_66 1 27 91 vl1_0 rfl rfl (by decide) rfl (by decide) in_X1 q1097 rfl dX1_rename_74 ?_
          refine w_top (fun y10_67 ey10_67 => ?_)
          have h := h y10_67 ey10_67
          have ry10_67 : rI y10_67 := by rw [ey10_67]; exact (hWσ_66.r.i 91 0 rfl)
          refine lv_istore (i := 10) (lv' := [(10, .int (oI y10_67)), (9, .int (oI r_65)), (7, .int (oI r_63)), (8, .int (oI y8_62)), (0, .ref (wad w 1 0)), (1, .int (oI x1)), (2, .long (oL x2)), (4, .int (oI x4)), (5, .long (oL x5))]) X.1 X.2.1 dX1_rename_77 hl (by decide) (by first | rfl | simp [catK, catI, catR, catL]) (fun ls hl => ?_)
          refine lv_iload X.1 X.2.1 dX1_rename_79 (lv_at hl 1 rfl) ?_
          refine lv_aload_n X.1 X.2.1 dX1_rename_81 rfl (lv_at hl 4 rfl) ?_
          refine wg (v := .ref (wad w 10 1)) X hT hWσ_66 1 15 79 vl1_0 rfl rfl (by decide) rfl (by decide) in_X1 q1085 rfl dX1_rename_82 ?_
          refine wg (v := .int (oI (gI σ_66 640 1))) X hT hWσ_66 10 0 640 vl10_1 rfl rfl (by decide) rfl (by decide) in_X3 q189 rfl dX1_rename_85 ?_
          refine w_icmp_ne (tgt := 93) X rr_65 (hWσ_66.r.i 640 1 rfl) dX1_rename_88 (by decide) (fun hc => ?_) (fun hc => ?_)
          · have h := h.1 hc
            refine lv_aload_n X.1 X.2.1 dX1_rename_93 rfl (lv_at hl 4 rfl) ?_
            refine wg (v := .ref (wad w 10 1)) X hT hWσ_66 1 15 79 vl1_0 rfl rfl (by decide) rfl (by decide) in_X1 q1085 rfl dX1_rename_94 ?_
            refine wg (v := .int (oI (gI σ_66 641 1))) X hT hWσ_66 10 1 641 vl10_1 rfl rfl (by decide) rfl (by decide) in_X3 q190 rfl dX1_rename_97 ?_
            refine lv_iconst (v := oI 1) X.1 X.2.1 dX1_rename_100 rfl ?_
            refine w_cut (pc2 := 109) (st2 := [.int (oI (if (gI σ_66 641 1) = 1 then (1 : Int) else (0 : Int)))]) (fun hj => ?_) ?_
            · refine w_icmp_ne (tgt := 108) X (hWσ_66.r.i 641 1 rfl) rZ_1.i dX1_rename_101 (by decide) (fun hc => ?_) (fun hc => ?_)
              · refine lv_iconst (v := oI 0) X.1 X.2.1 dX1_rename_108 rfl ?_
                rw [if_neg hc] at hj; exact hj
              · refine lv_iconst (v := oI 1) X.1 X.2.1 dX1_rename_104 rfl ?_
                refine lv_goto (tgt := 109) X.1 X.2.1 dX1_rename_105 (by decide) ?_
                rw [if_pos hc] at hj; exact hj
            refine w_top (fun y11_68 ey11_68 => ?_)
            have h := h y11_68 ey11_68
            have ry11_68 : rZ y11_68 := by rw [ey11_68]; exact (ite_rZ rZ_1 rZ_0)
            refine lv_istore (i := 11) (lv' := [(11, .int (oI y11_68)), (10, .int (oI y10_67)), (9, .int (oI r_65)), (7, .int (oI r_63)), (8, .int (oI y8_62)), (0, .ref (wad w 1 0)), (1, .int (oI x1)), (2, .long (oL x2)), (4, .int (oI x4)), (5, .long (oL x5))]) X.1 X.2.1 dX1_rename_109 hl (by decide) (by first | rfl | simp [catK, catI, catR, catL]) (fun ls hl => ?_)
            refine lv_iload X.1 X.2.1 dX1_rename_111 (lv_at hl 0 rfl) ?_
            refine w_if_eq (tgt := 135) X ry11_68.i dX1_rename_113 (by decide) (fun hc => ?_) (fun hc => ?_)
            · have h := h.1 hc
              exact wk_House_rename_b135 X hr hlk hT hV rx1 rx2 rx4 rx5 y8_62 r_65 y10_67 y11_68 σ_66 _ _ _ ry8_62 rr_65 ry10_67 ry11_68 (lv_sub hl [5, 6, 7, 8, 9, 4, 2, 1, 0] rfl) hWσ_66 hS h
            · have h := h.2 hc
              refine lv_aload_n X.1 X.2.1 dX1_rename_116 rfl (lv_at hl 5 rfl) ?_
              refine lv_iload X.1 X.2.1 dX1_rename_117 (lv_at hl 8 rfl) ?_
              refine lv_aload_n X.1 X.2.1 dX1_rename_119 rfl (lv_at hl 5 rfl) ?_
              refine wg (v := .ref (wad w 10 1)) X hT hWσ_66 1 15 79 vl1_0 rfl rfl (by decide) rfl (by decide) in_X1 q1085 rfl dX1_rename_120 ?_
              refine wg (v := .int (oI (gI σ_66 640 1))) X hT hWσ_66 10 0 640 vl10_1 rfl rfl (by decide) rfl (by decide) in_X3 q189 rfl dX1_rename_123 ?_
              refine wr_Z (rV (As := [.int (oI x4), .int (oI (gI σ_66 640 1))]) (rest := []) X hT hWσ_66 hS (met_House_isWithin l (w := w) hV x4 (gI σ_66 640 1) _ σ_66 rx4 (hWσ_66.r.i 640 1 rfl) h) (cwV 2 X.2.2.2.2 (lw_V q1428 q1430 qs58 q131 q1431) rfl rfl rfl (by decide +kernel) ⟨Nat.le_of_ble_eq_true rfl, Nat.le_of_ble_eq_true rfl⟩) vl1_0 (by decide) rfl rfl hl.1 rfl (by first | exact Nat.le_of_ble_eq_true rfl | simp [catK, catI, catR, catL]) dX1_rename_126 ⟨Nat.le_refl _, Nat.le_refl _⟩) hS (fun r_69 σ_70 H locs rr_69 rkσ_70 h hWσ_70 hS => ?_)
              have h := h rr_69 rkσ_70
              refine w_if_eq (tgt := 135) X rr_69.i dX1_rename_129 (by decide) (fun hc => ?_) (fun hc => ?_)
              · have h := h.1 hc
                exact wk_House_rename_b135 X hr hlk hT hV rx1 rx2 rx4 rx5 y8_62 r_65 y10_67 y11_68 σ_70 _ _ _ ry8_62 rr_65 ry10_67 ry11_68 (lv_sub hl [5, 6, 7, 8, 9, 4, 2, 1, 0] rfl) hWσ_70 hS h
              · have h := h.2 hc
                refine lv_bipush (v := oI (-9)) X.1 X.2.1 dX1_rename_132 (by decide) ?_
                exact wret_I X hr hlk hWσ_70 hS ((rB_lit (-9) (by decide)).i) h dX1_rename_134
          · have h := h.2 hc
            refine lv_iconst (v := oI 0) X.1 X.2.1 dX1_rename_91 rfl ?_
            exact wret_I X hr hlk hWσ_66 hS rZ_0.i h dX1_rename_92
        · have h := h.2 hc
          refine lv_iload X.1 X.2.1 dX1_rename_60 (lv_at hl 0 rfl) ?_
          exact wret_I X hr hlk hWσ_64 hS rr_63 h dX1_rename_62
      · have h := h.2 hc
        refine lv_iload X.1 X.2.1 dX1_rename_34 (lv_at hl 0 rfl) ?_
        exact wret_I X hr hlk hWσ_61 hS rr_60 h dX1_rename_36
    · have h := h.2 hc
      refine lv_bipush (v := oI (-3)) X.1 X.2.1 dX1_rename_18 (by decide) ?_
      exact wret_I X hr hlk hWσ_59 hS ((rB_lit (-3) (by decide)).i) h dX1_rename_20
  · have h := h.2 hc
    refine lv_bipush (v := oI (-2)) X.1 X.2.1 dX1_rename_7 (by decide) ?_
    exact wret_I X hr hlk hW hS ((rB_lit (-2) (by decide)).i) h dX1_rename_9
/-! House.swap(IJIJ)I -/
set_option maxHeartbeats 4000000 in
set_option maxRecDepth 100000 in
theorem wk_House_swap_b165 {p : Program} {l : Launch} {e : Env} {st : State} {m : MethodId} {args : Array Value} {below : List Frame} {meth : Method} {c : Code} {w : Wp} {x1 : Int} {x2 : Int} {x4 : Int} {x5 : Int} {Q : Int → St → Prop} (X : CallFix p m c cX1_swap 12 st args lw_all RX1) (hr : meth.sig.returnType = (some .int)) (hlk : meth.locks = false) (hT : Tb w st) (hV : Hvl w) (rx1 : rI x1) (rx2 : rJ x2) (rx4 : rI x4) (rx5 : rJ x5) : ∀ (y8 y9 y10 y11 : Int) (σ : St) (H : Heap) (locs : List Loc) (ls : Array Slot), rI y8 → rI y9 → rI y10 → rI y11 → lv_has ls 12 [(0, .ref (wad w 1 0)), (1, .int (oI x1)), (2, .long (oL x2)), (4, .int (oI x4)), (5, .long (oL x5)), (8, .int (oI y8)), (9, .int (oI y9)), (10, .int (oI y10)), (11, .int (oI y11))] → Wo w σ H → va_S (wA w) st.heap H locs → wp_House_swap_b165 (wc w) (wtv w) x1 x2 x4 x5 Q y8 y9 y10 y11 σ → W p l e (headSpec (ws_ yX1_swap cX1_swap 12 (some .int)) rm_House_swap).room st m args below meth c H locs 0 0 (MQ below (QcI w Q) args st 0 0 (wA w)) (F0 m 165 ls []) := by
  have vl1_0 : vl w 1 0 := hV.hv 1 rfl ⟨by omega, by show _ < (1 : Int); omega⟩
  have vl8_6 : vl w 8 6 := hV.hv 8 rfl ⟨by omega, by show _ < (8 : Int); omega⟩
  intro y8 y9 y10 y11 σ H locs ls ry8 ry9 ry10 ry11 hl hW hS h
  unfold wp_House_swap_b165 at h
  refine lv_aload_n X.1 X.2.1 dX1_swap_165 rfl (lv_at hl 0 rfl) ?_
  refine wr_V (rV (As := []) (rest := []) X hT hW hS (met_House_begin l (w := w) hV _ σ h) (cwV 0 X.2.2.2.2 (lw_V q1231 q1233 qs35 q131 q1234) rfl rfl rfl (by decide +kernel) ⟨Nat.le_of_ble_eq_true rfl, Nat.le_of_ble_eq_true rfl⟩) vl1_0 (by decide) rfl rfl hl.1 rfl (by first | exact Nat.le_of_ble_eq_true rfl | simp [catK, catI, catR, catL]) dX1_swap_166 ⟨Nat.le_refl _, Nat.le_refl _⟩) hS (fun σ_37 H locs rkσ_37 h hWσ_37 hS => ?_)
  have h := h rkσ_37
  refine lv_aload_n X.1 X.2.1 dX1_swap_169 rfl (lv_at hl 0 rfl) ?_
  refine lv_iload_n X.1 X.2.1 dX1_swap_170 rfl (lv_at hl 1 rfl) ?_
  refine lv_lload_n X.1 X.2.1 dX1_swap_171 rfl (lv_at hl 2 rfl) ?_
  refine lv_iload X.1 X.2.1 dX1_swap_172 (lv_at hl 6 rfl) ?_
  refine lv_iload X.1 X.2.1 dX1_swap_174 (lv_at hl 5 rfl) ?_
  refine wr_V (rV (As := [.int (oI x1), .long (oL x2), .int (oI y9), .int (oI y8)]) (rest := []) X hT hWσ_37 hS (met_House_addEntry l (w := w) hV x1 x2 y9 y8 _ σ_37 rx1 rx2 ry9 ry8 h) (cwV 4 X.2.2.2.2 (lw_V q1236 q1238 qs36 q131 q1239) rfl rfl rfl (by decide +kernel) ⟨Nat.le_of_ble_eq_true rfl, Nat.le_of_ble_eq_true rfl⟩) vl1_0 (by decide) rfl rfl hl.1 rfl (by first | exact Nat.le_of_ble_eq_true rfl | simp [catK, catI, catR, catL]) dX1_swap_176 ⟨Nat.le_refl _, Nat.le_refl _⟩) hS (fun σ_39 H locs rkσ_39 h hWσ_39 hS => ?_)
  have h := h rkσ_39
  refine lv_aload_n X.1 X.2.1 dX1_swap_179 rfl (lv_at hl 0 rfl) ?_
  refine wg (v := .ref (wad w 8 6)) X hT hWσ_39 1 11 75 vl1_0 rfl rfl (by decide) rfl (by decide) in_X1 q1081 rfl dX1_swap_180 ?_
  refine lv_iconst (v := oI 2) X.1 X.2.1 dX1_swap_183 rfl ?_
  refine lv_bipush (v := oI 48) X.1 X.2.1 dX1_swap_184 (by decide) ?_
  refine wr_R (rV (As := [.int (oI 2), .int (oI 48)]) (rest := []) X hT hWσ_39 hS (met_Row_begin l (w := w) hV 6 2 48 _ σ_39 (by omega) ((rB_lit 2 (by decide)).i) ((rB_lit 48 (by decide)).i) h) (cwV 2 X.2.2.2.2 (lw_V q1240 q741 q742 q132 q743) rfl rfl rfl (by decide +kernel) ⟨Nat.le_of_ble_eq_true rfl, Nat.le_of_ble_eq_true rfl⟩) vl8_6 (by decide) rfl rfl hl.1 rfl (by first | exact Nat.le_of_ble_eq_true rfl | simp [catK, catI, catR, catL]) dX1_swap_186 ⟨Nat.le_refl _, Nat.le_refl _⟩) hS (fun σ_41 H locs rkσ_41 h hWσ_41 hS => ?_)
  have h := h rkσ_41
  refine lv_iconst (v := oI 0) X.1 X.2.1 dX1_swap_189 rfl ?_
  refine lv_iload X.1 X.2.1 dX1_swap_190 (lv_at hl 3 rfl) ?_
  refine wr_R (rV (As := [.int (oI 0), .int (oI x4)]) (rest := []) X hT hWσ_41 hS (met_Row_put l (w := w) hV 6 0 x4 _ σ_41 (by omega) rZ_0.i rx4 h) (cwV 2 X.2.2.2.2 (lw_V q1241 q748 q749 q132 q750) rfl rfl rfl (by decide +kernel) ⟨Nat.le_of_ble_eq_true rfl, Nat.le_of_ble_eq_true rfl⟩) vl8_6 (by decide) rfl rfl hl.1 rfl (by first | exact Nat.le_of_ble_eq_true rfl | simp [catK, catI, catR, catL]) dX1_swap_192 ⟨Nat.le_refl _, Nat.le_refl _⟩) hS (fun σ_43 H locs rkσ_43 h hWσ_43 hS => ?_)
  have h := h rkσ_43
  refine lv_iconst (v := oI 4) X.1 X.2.1 dX1_swap_195 rfl ?_
  refine lv_iload X.1 X.2.1 dX1_swap_196 (lv_at hl 8 rfl) ?_
  refine wr_R (rV (As := [.int (oI 4), .int (oI y11)]) (rest := []) X hT hWσ_43 hS (met_Row_put l (w := w) hV 6 4 y11 _ σ_43 (by omega) ((rB_lit 4 (by decide)).i) ry11 h) (cwV 2 X.2.2.2.2 (lw_V q1241 q748 q749 q132 q750) rfl rfl rfl (by decide +kernel) ⟨Nat.le_of_ble_eq_true rfl, Nat.le_of_ble_eq_true rfl⟩) vl8_6 (by decide) rfl rfl hl.1 rfl (by first | exact Nat.le_of_ble_eq_true rfl | simp [catK, catI, catR, catL]) dX1_swap_198 ⟨Nat.le_refl _, Nat.le_refl _⟩) hS (fun σ_45 H locs rkσ_45 h hWσ_45 hS => ?_)
  have h := h rkσ_45
  refine lv_bipush (v := oI 8) X.1 X.2.1 dX1_swap_201 (by decide) ?_
  refine lv_lload X.1 X.2.1 dX1_swap_203 (lv_at hl 4 rfl) ?_
  refine wr_R (rV (As := [.int (oI 8), .long (oL x5)]) (rest := []) X hT hWσ_45 hS (met_Row_putLongAt l (w := w) hV 6 8 x5 _ σ_45 (by omega) ((rB_lit 8 (by decide)).i) rx5 h) (cwV 2 X.2.2.2.2 (lw_V q1242 q980 q981 q132 q982) rfl rfl rfl (by decide +kernel) ⟨Nat.le_of_ble_eq_true rfl, Nat.le_of_ble_eq_true rfl⟩) vl8_6 (by decide) rfl rfl hl.1 rfl (by first | exact Nat.le_of_ble_eq_true rfl | simp [catK, catI, catR, catL]) dX1_swap_205 ⟨Nat.le_refl _, Nat.le_refl _⟩) hS (fun σ_47 H locs rkσ_47 h hWσ_47 hS => ?_)
  have h := h rkσ_47
  refine lv_bipush (v := oI 16) X.1 X.2.1 dX1_swap_208 (by decide) ?_
  refine lv_iload X.1 X.2.1 dX1_swap_210 (lv_at hl 7 rfl) ?_
  refine wr_R (rV (As := [.int (oI 16), .int (oI y10)]) (rest := []) X hT hWσ_47 hS (met_Row_put l (w := w) hV 6 16 y10 _ σ_47 (by omega) ((rB_lit 16 (by decide)).i) ry10 h) (cwV 2 X.2.2.2.2 (lw_V q1241 q748 q749 q132 q750) rfl rfl rfl (by decide +kernel) ⟨Nat.le_of_ble_eq_true rfl, Nat.le_of_ble_eq_true rfl⟩) vl8_6 (by decide) rfl rfl hl.1 rfl (by first | exact Nat.le_of_ble_eq_true rfl | simp [catK, catI, catR, catL]) dX1_swap_212 ⟨Nat.le_refl _, Nat.le_refl _⟩) hS (fun σ_49 H locs rkσ_49 h hWσ_49 hS => ?_)
  have h := h rkσ_49
  refine lv_pop X.1 X.2.1 dX1_swap_215 rfl ?_
  refine lv_aload_n X.1 X.2.1 dX1_swap_216 rfl (lv_at hl 0 rfl) ?_
  refine wg (v := .ref (wad w 8 6)) X hT hWσ_49 1 11 75 vl1_0 rfl rfl (by decide) rfl (by decide) in_X1 q1081 rfl dX1_swap_217 ?_
  refine lv_lconst (v := oL 0) X.1 X.2.1 dX1_swap_220 (by decide) ?_
  refine lv_iconst (v := oI 1) X.1 X.2.1 dX1_swap_221 rfl ?_
  refine wr_V (rV (As := [.long (oL 0), .int (oI 1)]) (rest := []) X hT hWσ_49 hS (met_Row_close l (w := w) hV 6 0 1 _ σ_49 (by omega) (rJ_lit 0 (by decide)) rZ_1 h) (cwV 2 X.2.2.2.2 (lw_V q1243 q756 q757 q132 q758) rfl rfl rfl (by decide +kernel) ⟨Nat.le_of_ble_eq_true rfl, Nat.le_of_ble_eq_true rfl⟩) vl8_6 (by decide) rfl rfl hl.1 rfl (by first | exact Nat.le_of_ble_eq_true rfl | simp [catK, catI, catR, catL]) dX1_swap_222 ⟨Nat.le_refl _, Nat.le_refl _⟩) hS (fun σ_51 H locs rkσ_51 h hWσ_51 hS => ?_)
  have h := h rkσ_51
  refine lv_aload_n X.1 X.2.1 dX1_swap_225 rfl (lv_at hl 0 rfl) ?_
  refine wr_V (rV (As := []) (rest := []) X hT hWσ_51 hS (met_House_hand l (w := w) hV _ σ_51 h) (cwV 0 X.2.2.2.2 (lw_V q1253 q1255 qs39 q131 q1256) rfl rfl rfl (by decide +kernel) ⟨Nat.le_of_ble_eq_true rfl, Nat.le_of_ble_eq_true rfl⟩) vl1_0 (by decide) rfl rfl hl.1 rfl (by first | exact Nat.le_of_ble_eq_true rfl | simp [catK, catI, catR, catL]) dX1_swap_226 ⟨Nat.le_refl _, Nat.le_refl _⟩) hS (fun σ_53 H locs rkσ_53 h hWσ_53 hS => ?_)
  have h := h rkσ_53
  refine lv_iconst (v := oI 1) X.1 X.2.1 dX1_swap_229 rfl ?_
  exact wret_I X hr hlk hWσ_53 hS rZ_1.i h dX1_swap_230
set_option maxHeartbeats 4000000 in
set_option maxRecDepth 100000 in
theorem wk_House_swap_b130 {p : Program} {l : Launch} {e : Env} {st : State} {m : MethodId} {args : Array Value} {below : List Frame} {meth : Method} {c : Code} {w : Wp} {x1 : Int} {x2 : Int} {x4 : Int} {x5 : Int} {Q : Int → St → Prop} (X : CallFix p m c cX1_swap 12 st args lw_all RX1) (hr : meth.sig.returnType = (some .int)) (hlk : meth.locks = false) (hT : Tb w st) (hV : Hvl w) (rx1 : rI x1) (rx2 : rJ x2) (rx4 : rI x4) (rx5 : rJ x5) : ∀ (y8 y9 y10 y11 : Int) (σ : St) (H : Heap) (locs : List Loc) (ls : Array Slot), rI y8 → rI y9 → rI y10 → rI y11 → lv_has ls 12 [(0, .ref (wad w 1 0)), (1, .int (oI x1)), (2, .long (oL x2)), (4, .int (oI x4)), (5, .long (oL x5)), (8, .int (oI y8)), (9, .int (oI y9)), (10, .int (oI y10)), (11, .int (oI y11))] → Wo w σ H → va_S (wA w) st.heap H locs → wp_House_swap_b130 (wc w) (wtv w) x1 x2 x4 x5 Q y8 y9 y10 y11 σ → W p l e (headSpec (ws_ yX1_swap cX1_swap 12 (some .int)) rm_House_swap).room st m args below meth c H locs 0 0 (MQ below (QcI w Q) args st 0 0 (wA w)) (F0 m 130 ls []) := by
  have vl1_0 : vl w 1 0 := hV.hv 1 rfl ⟨by omega, by show _ < (1 : Int); omega⟩
  have vl10_1 : vl w 10 1 := hV.hv 10 rfl ⟨by omega, by show _ < (4 : Int); omega⟩
  intro y8 y9 y10 y11 σ H locs ls ry8 ry9 ry10 ry11 hl hW hS h
  unfold wp_House_swap_b130 at h
  refine lv_aload_n X.1 X.2.1 dX1_swap_130 rfl (lv_at hl 0 rfl) ?_
  refine lv_iload X.1 X.2.1 dX1_swap_131 (lv_at hl 6 rfl) ?_
  refine lv_aload_n X.1 X.2.1 dX1_swap_133 rfl (lv_at hl 0 rfl) ?_
  refine wg (v := .ref (wad w 10 1)) X hT hW 1 15 79 vl1_0 rfl rfl (by decide) rfl (by decide) in_X1 q1085 rfl dX1_swap_134 ?_
  refine wr_Z (rV (As := [.int (oI y9), .ref (wad w 10 1)]) (rest := []) X hT hW hS (met_House_read l (w := w) hV y9 1 _ σ ry9 (by omega) h) (cwV 2 X.2.2.2.2 (lw_V q1177 q1179 qs32 q131 q1180) rfl rfl rfl (by decide +kernel) ⟨Nat.le_of_ble_eq_true rfl, Nat.le_of_ble_eq_true rfl⟩) vl1_0 (by decide) rfl rfl hl.1 rfl (by first | exact Nat.le_of_ble_eq_true rfl | simp [catK, catI, catR, catL]) dX1_swap_137 ⟨Nat.le_refl _, Nat.le_refl _⟩) hS (fun r_54 σ_55 H locs rr_54 rkσ_55 h hWσ_55 hS => ?_)
  have h := h rr_54 rkσ_55
  refine lv_pop X.1 X.2.1 dX1_swap_140 rfl ?_
  refine lv_aload_n X.1 X.2.1 dX1_swap_141 rfl (lv_at hl 0 rfl) ?_
  refine wg (v := .ref (wad w 10 1)) X hT hWσ_55 1 15 79 vl1_0 rfl rfl (by decide) rfl (by decide) in_X1 q1085 rfl dX1_swap_142 ?_
  refine wg (v := .int (oI (gI σ_55 641 1))) X hT hWσ_55 10 1 641 vl10_1 rfl rfl (by decide) rfl (by decide) in_X3 q190 rfl dX1_swap_145 ?_
  refine lv_iconst (v := oI 1) X.1 X.2.1 dX1_swap_148 rfl ?_
  refine w_icmp_ne (tgt := 165) X (hWσ_55.r.i 641 1 rfl) rZ_1.i dX1_swap_149 (by decide) (fun hc => ?_) (fun hc => ?_)
  · have h := h.1 hc
    exact wk_House_swap_b165 X hr hlk hT hV rx1 rx2 rx4 rx5 y8 y9 y10 y11 σ_55 _ _ _ ry8 ry9 ry10 ry11 (lv_sub hl [0, 1, 2, 3, 4, 5, 6, 7, 8] rfl) hWσ_55 hS h
  · have h := h.2 hc
    refine lv_aload_n X.1 X.2.1 dX1_swap_152 rfl (lv_at hl 0 rfl) ?_
    refine lv_iload_n X.1 X.2.1 dX1_swap_153 rfl (lv_at hl 1 rfl) ?_
    refine lv_iload X.1 X.2.1 dX1_swap_154 (lv_at hl 6 rfl) ?_
    refine wr_Z (rV (As := [.int (oI x1), .int (oI y9)]) (rest := []) X hT hWσ_55 hS (met_House_isWithin l (w := w) hV x1 y9 _ σ_55 rx1 ry9 h) (cwV 2 X.2.2.2.2 (lw_V q1428 q1430 qs58 q131 q1431) rfl rfl rfl (by decide +kernel) ⟨Nat.le_of_ble_eq_true rfl, Nat.le_of_ble_eq_true rfl⟩) vl1_0 (by decide) rfl rfl hl.1 rfl (by first | exact Nat.le_of_ble_eq_true rfl | simp [catK, catI, catR, catL]) dX1_swap_156 ⟨Nat.le_refl _, Nat.le_refl _⟩) hS (fun r_56 σ_57 H locs rr_56 rkσ_57 h hWσ_57 hS => ?_)
    have h := h rr_56 rkσ_57
    refine w_if_eq (tgt := 165) X rr_56.i dX1_swap_159 (by decide) (fun hc => ?_) (fun hc => ?_)
    · have h := h.1 hc
      exact wk_House_swap_b165 X hr hlk hT hV rx1 rx2 rx4 rx5 y8 y9 y10 y11 σ_57 _ _ _ ry8 ry9 ry10 ry11 (lv_sub hl [0, 1, 2, 3, 4, 5, 6, 7, 8] rfl) hWσ_57 hS h
    · have h := h.2 hc
      refine lv_bipush (v := oI (-9)) X.1 X.2.1 dX1_swap_162 (by decide) ?_
      exact wret_I X hr hlk hWσ_57 hS ((rB_lit (-9) (by decide)).i) h dX1_swap_164
set_option maxHeartbeats 4000000 in
set_option maxRecDepth 100000 in
theorem met_House_swap (l : Launch) {w : Wp} (hV : Hvl w) (x1 : Int) (x2 : Int) (x4 : Int) (x5 : Int) (Q : Int → St → Prop) (σ : St) (rx1 : rI x1) (rx2 : rJ x2) (rx4 : rI x4) (rx5 : rJ x5) (h : wp_House_swap (wc w) (wtv w) x1 x2 x4 x5 Q σ) : Met l yX1_swap (ws_ yX1_swap cX1_swap 12 (some .int)) rm_House_swap (PcW w σ [.ref (wad w 1 0), .int (oI x1), .long (oL x2), .int (oI x4), .long (oL x5)]) (QcI w Q) 0 0 (wA w) := by
  refine Met.ofW (cc := cX1_swap) (maxL := 12) (ret := (some .int)) (by decide) rfl ?_
  intro p e st m args below meth c s₁ B hml hv
  obtain ⟨hargs, hW, hT⟩ := hv
  have X : CallFix p m c cX1_swap 12 st _ lw_all RX1 := ⟨B.exec, B.bytes, hml, findClass_of_methodNamed B.named, fun w h => atoms_spec (ws := ws_ yX1_swap cX1_swap 12 (some .int)) B.pre w (List.mem_cons_of_mem _ h)⟩
  have hr := B.returns
  have hlk := B.notSynchronized
  have hS : va_S (wA w) st.heap st.heap [] := va_S.rf
  have vl1_0 : vl w 1 0 := hV.hv 1 rfl ⟨by omega, by show _ < (1 : Int); omega⟩
  have vl10_1 : vl w 10 1 := hV.hv 10 rfl ⟨by omega, by show _ < (4 : Int); omega⟩
  have vl10_2 : vl w 10 2 := hV.hv 10 rfl ⟨by omega, by show _ < (4 : Int); omega⟩
  have hl := lv_entry ([.ref (wad w 1 0), .int (oI x1), .long (oL x2), .int (oI x4), .long (oL x5)]) (n := 12) (Nat.le_of_ble_eq_true rfl)
  have hfr := lg_entry_eq m ([.ref (wad w 1 0), .int (oI x1), .long (oL x2), .int (oI x4), .long (oL x5)]) 12
  rw [← hargs] at hfr
  rw [hfr]
  generalize (lg_sl ([.ref (wad w 1 0), .int (oI x1), .long (oL x2), .int (oI x4), .long (oL x5)]) ++ List.replicate (12 - (lg_sl ([.ref (wad w 1 0), .int (oI x1), .long (oL x2), .int (oI x4), .long (oL x5)])).length) Slot.unset).toArray = ls at hl ⊢
  have hl : lv_has ls 12 [(0, .ref (wad w 1 0)), (1, .int (oI x1)), (2, .long (oL x2)), (4, .int (oI x4)), (5, .long (oL x5))] := hl
  unfold wp_House_swap at h
  refine lv_aload_n X.1 X.2.1 dX1_swap_0 rfl (lv_at hl 0 rfl) ?_
  refine wg (v := .int (oI (gI σ 69 0))) X hT hW 1 5 69 vl1_0 rfl rfl (by decide) rfl (by decide) in_X1 q1075 rfl dX1_swap_1 ?_
  refine w_if_ne (tgt := 10) X ((hW.r.z 69 0 rfl).i) dX1_swap_4 (by decide) (fun hc => ?_) (fun hc => ?_)
  · have h := h.1 hc
    refine lv_lload X.1 X.2.1 dX1_swap_10 (lv_at hl 4 rfl) ?_
    refine wr_Z (rS (As := [.long (oL x5)]) (rest := []) X hT hW hS (met_House_isName l (w := w) x5 _ σ rx5 h) (va_cwS 1 X.2.2.2.2 (lw_S q1169 q1170 q131 q1171) rfl rfl rfl (by decide +kernel) ⟨Nat.le_of_ble_eq_true rfl, Nat.le_of_ble_eq_true rfl⟩) rfl hl.1 rfl (by first | exact Nat.le_of_ble_eq_true rfl | simp [catK, catI, catR, catL]) dX1_swap_12 ⟨Nat.le_refl _, Nat.le_refl _⟩) hS (fun r_58 σ_59 H locs rr_58 rkσ_59 h hWσ_59 hS => ?_)
    have h := h rr_58 rkσ_59
    refine w_if_ne (tgt := 21) X rr_58.i dX1_swap_15 (by decide) (fun hc => ?_) (fun hc => ?_)
    · have h := h.1 hc
      refine lv_aload_n X.1 X.2.1 dX1_swap_21 rfl (lv_at hl 0 rfl) ?_
      refine lv_iload_n X.1 X.2.1 dX1_swap_22 rfl (lv_at hl 1 rfl) ?_
      refine lv_lload_n X.1 X.2.1 dX1_swap_23 rfl (lv_at hl 2 rfl) ?_
      refine wr_I (rV (As := [.int (oI x1), .long (oL x2)]) (rest := []) X hT hWσ_59 hS (met_House_named l (w := w) hV x1 x2 _ σ_59 rx1 rx2 h) (cwV 2 X.2.2.2.2 (lw_V q1400 q1402 qs53 q131 q1403) rfl rfl rfl (by decide +kernel) ⟨Nat.le_of_ble_eq_true rfl, Nat.le_of_ble_eq_true rfl⟩) vl1_0 (by decide) rfl rfl hl.1 rfl (by first | exact Nat.le_of_ble_eq_true rfl | simp [catK, catI, catR, catL]) dX1_swap_24 ⟨Nat.le_refl _, Nat.le_refl _⟩) hS (fun r_60 σ_61 H locs rr_60 rkσ_61 h hWσ_61 hS => ?_)
      have h := h rr_60 rkσ_61
      refine lv_istore (i := 7) (lv' := [(7, .int (oI r_60)), (0, .ref (wad w 1 0)), (1, .int (oI x1)), (2, .long (oL x2)), (4, .int (oI x4)), (5, .long (oL x5))]) X.1 X.2.1 dX1_swap_27 hl (by decide) (by first | rfl | simp [catK, catI, catR, catL]) (fun ls hl => ?_)
      refine lv_iload X.1 X.2.1 dX1_swap_29 (lv_at hl 0 rfl) ?_
      refine w_if_ge (tgt := 37) X rr_60 dX1_swap_31 (by decide) (fun hc => ?_) (fun hc => ?_)
      · have h := h.1 hc
        refine lv_aload_n X.1 X.2.1 dX1_swap_37 rfl (lv_at hl 1 rfl) ?_
        refine wg (v := .int (oI (gI σ_61 91 0))) X hT hWσ_61 1 27 91 vl1_0 rfl rfl (by decide) rfl (by decide) in_X1 q1097 rfl dX1_swap_38 ?_
        refine w_top (fun y8_62 ey8_62 => ?_)
        have h := h y8_62 ey8_62
        have ry8_62 : rI y8_62 := by rw [ey8_62]; exact (hWσ_61.r.i 91 0 rfl)
        refine lv_istore (i := 8) (lv' := [(8, .int (oI y8_62)), (7, .int (oI r_60)), (0, .ref (wad w 1 0)), (1, .int (oI x1)), (2, .long (oL x2)), (4, .int (oI x4)), (5, .long (oL x5))]) X.1 X.2.1 dX1_swap_41 hl (by decide) (by first | rfl | simp [catK, catI, catR, catL]) (fun ls hl => ?_)
        refine lv_aload_n X.1 X.2.1 dX1_swap_43 rfl (lv_at hl 2 rfl) ?_
        refine lv_iload X.1 X.2.1 dX1_swap_44 (lv_at hl 5 rfl) ?_
        refine lv_aload_n X.1 X.2.1 dX1_swap_46 rfl (lv_at hl 2 rfl) ?_
        refine wg (v := .ref (wad w 10 2)) X hT hWσ_61 1 16 80 vl1_0 rfl rfl (by decide) rfl (by decide) in_X1 q1086 rfl dX1_swap_47 ?_
        refine wr_I (rV (As := [.int (oI x4), .ref (wad w 10 2)]) (rest := []) X hT hWσ_61 hS (met_House_directory l (w := w) hV x4 2 _ σ_61 rx4 (by omega) h) (cwV 2 X.2.2.2.2 (lw_V q1173 q1175 qs31 q131 q1176) rfl rfl rfl (by decide +kernel) ⟨Nat.le_of_ble_eq_true rfl, Nat.le_of_ble_eq_true rfl⟩) vl1_0 (by decide) rfl rfl hl.1 rfl (by first | exact Nat.le_of_ble_eq_true rfl | simp [catK, catI, catR, catL]) dX1_swap_50 ⟨Nat.le_refl _, Nat.le_refl _⟩) hS (fun r_63 σ_64 H locs rr_63 rkσ_64 h hWσ_64 hS => ?_)
        have h := h rr_63 rkσ_64
        refine lv_istore (i := 7) (lv' := [(7, .int (oI r_63)), (8, .int (oI y8_62)), (0, .ref (wad w 1 0)), (1, .int (oI x1)), (2, .long (oL x2)), (4, .int (oI x4)), (5, .long (oL x5))]) X.1 X.2.1 dX1_swap_53 hl (by decide) (by first | rfl | simp [catK, catI, catR, catL]) (fun ls hl => ?_)
        refine lv_iload X.1 X.2.1 dX1_swap_55 (lv_at hl 0 rfl) ?_
        refine w_if_ge (tgt := 63) X rr_63 dX1_swap_57 (by decide) (fun hc => ?_) (fun hc => ?_)
        · have h := h.1 hc
          refine lv_aload_n X.1 X.2.1 dX1_swap_63 rfl (lv_at hl 2 rfl) ?_
          refine lv_iload X.1 X.2.1 dX1_swap_64 (lv_at hl 5 rfl) ?_
          refine lv_lload X.1 X.2.1 dX1_swap_66 (lv_at hl 6 rfl) ?_
          refine wr_I (rV (As := [.int (oI x4), .long (oL x5)]) (rest := []) X hT hWσ_64 hS (met_House_entry l (w := w) hV x4 x5 _ σ_64 rx4 rx5 h) (cwV 2 X.2.2.2.2 (lw_V q1210 q1212 qs34 q131 q1213) rfl rfl rfl (by decide +kernel) ⟨Nat.le_of_ble_eq_true rfl, Nat.le_of_ble_eq_true rfl⟩) vl1_0 (by decide) rfl rfl hl.1 rfl (by first | exact Nat.le_of_ble_eq_true rfl | simp [catK, catI, catR, catL]) dX1_swap_68 ⟨Nat.le_refl _, Nat.le_refl _⟩) hS (fun r_65 σ_66 H locs rr_65 rkσ_66 h hWσ_66 hS => ?_)
          have h := h rr_65 rkσ_66
          refine lv_istore (i := 9) (lv' := [(9, .int (oI r_65)), (7, .int (oI r_63)), (8, .int (oI y8_62)), (0, .ref (wad w 1 0)), (1, .int (oI x1)), (2, .long (oL x2)), (4, .int (oI x4)), (5, .long (oL x5))]) X.1 X.2.1 dX1_swap_71 hl (by decide) (by first | rfl | simp [catK, catI, catR, catL]) (fun ls hl => ?_)
          refine lv_aload_n X.1 X.2.1 dX1_swap_73 rfl (lv_at hl 3 rfl) ?_
          refine wg (v := .int (oI (gI σ_66 91 0))) X hT hWσ_66 1 27 91 vl1_0 rfl rfl (by decide) rfl (by decide) in_X1 q1097 rfl dX1_swap_74 ?_
          refine w_top (fun y10_67 ey10_67 => ?_)
          have h := h y10_67 ey10_67
          have ry10_67 : rI y10_67 := by rw [ey10_67]; exact (hWσ_66.r.i 91 0 rfl)
          refine lv_istore (i := 10) (lv' := [(10, .int (oI y10_67)), (9, .int (oI r_65)), (7, .int (oI r_63)), (8, .int (oI y8_62)), (0, .ref (wad w 1 0)), (1, .int (oI x1)), (2, .long (oL x2)), (4, .int (oI x4)), (5, .long (oL x5))]) X.1 X.2.1 dX1_swap_77 hl (by decide) (by first | rfl | simp [catK, catI, catR, catL]) (fun ls hl => ?_)
          refine lv_iload X.1 X.2.1 dX1_swap_79 (lv_at hl 1 rfl) ?_
          refine w_if_ne (tgt := 87) X rr_65 dX1_swap_81 (by decide) (fun hc => ?_) (fun hc => ?_)
          · have h := h.1 hc
            refine lv_aload_n X.1 X.2.1 dX1_swap_87 rfl (lv_at hl 4 rfl) ?_
            refine wg (v := .ref (wad w 10 1)) X hT hWσ_66 1 15 79 vl1_0 rfl rfl (by decide) rfl (by decide) in_X1 q1085 rfl dX1_swap_88 ?_
            refine wg (v := .int (oI (gI σ_66 640 1))) X hT hWσ_66 10 0 640 vl10_1 rfl rfl (by decide) rfl (by decide) in_X3 q189 rfl dX1_swap_91 ?_
            refine w_top (fun y11_68 ey11_68 => ?_)
            have h := h y11_68 ey11_68
            have ry11_68 : rI y11_68 := by rw [ey11_68]; exact (hWσ_66.r.i 640 1 rfl)
            refine lv_istore (i := 11) (lv' := [(11, .int (oI y11_68)), (10, .int (oI y10_67)), (9, .int (oI r_65)), (7, .int (oI r_63)), (8, .int (oI y8_62)), (0, .ref (wad w 1 0)), (1, .int (oI x1)), (2, .long (oL x2)), (4, .int (oI x4)), (5, .long (oL x5))]) X.1 X.2.1 dX1_swap_94 hl (by decide) (by first | rfl | simp [catK, catI, catR, catL]) (fun ls hl => ?_)
            refine lv_iload X.1 X.2.1 dX1_swap_96 (lv_at hl 2 rfl) ?_
            refine lv_iload X.1 X.2.1 dX1_swap_98 (lv_at hl 0 rfl) ?_
            refine w_icmp_ne (tgt := 105) X rr_65 ry11_68 dX1_swap_100 (by decide) (fun hc => ?_) (fun hc => ?_)
            · have h := h.1 hc
              refine lv_aload_n X.1 X.2.1 dX1_swap_105 rfl (lv_at hl 5 rfl) ?_
              refine wg (v := .ref (wad w 10 1)) X hT hWσ_66 1 15 79 vl1_0 rfl rfl (by decide) rfl (by decide) in_X1 q1085 rfl dX1_swap_106 ?_
              refine wg (v := .int (oI (gI σ_66 641 1))) X hT hWσ_66 10 1 641 vl10_1 rfl rfl (by decide) rfl (by decide) in_X3 q190 rfl dX1_swap_109 ?_
              refine lv_iconst (v := oI 1) X.1 X.2.1 dX1_swap_112 rfl ?_
              refine w_icmp_ne (tgt := 130) X (hWσ_66.r.i 641 1 rfl) rZ_1.i dX1_swap_113 (by decide) (fun hc => ?_) (fun hc => ?_)
              · have h := h.1 hc
                exact wk_House_swap_b130 X hr hlk hT hV rx1 rx2 rx4 rx5 y8_62 r_65 y10_67 y11_68 σ_66 _ _ _ ry8_62 rr_65 ry10_67 ry11_68 (lv_sub hl [5, 6, 7, 8, 9, 4, 2, 1, 0] rfl) hWσ_66 hS h
              · have h := h.2 hc
                refine lv_aload_n X.1 X.2.1 dX1_swap_116 rfl (lv_at hl 5 rfl) ?_
                refine lv_iload X.1 X.2.1 dX1_swap_117 (lv_at hl 8 rfl) ?_
                refine lv_iload X.1 X.2.1 dX1_swap_119 (lv_at hl 0 rfl) ?_
                refine wr_Z (rV (As := [.int (oI x4), .int (oI y11_68)]) (rest := []) X hT hWσ_66 hS (met_House_isWithin l (w := w) hV x4 y11_68 _ σ_66 rx4 ry11_68 h) (cwV 2 X.2.2.2.2 (lw_V q1428 q1430 qs58 q131 q1431) rfl rfl rfl (by decide +kernel) ⟨Nat.le_of_ble_eq_true rfl, Nat.le_of_ble_eq_true rfl⟩) vl1_0 (by decide) rfl rfl hl.1 rfl (by first | exact Nat.le_of_ble_eq_true rfl | simp [catK, catI, catR, catL]) dX1_swap_121 ⟨Nat.le_refl _, Nat.le_refl _⟩) hS (fun r_69 σ_70 H locs rr_69 rkσ_70 h hWσ_70 hS => ?_)
                have h := h rr_69 rkσ_70
                refine w_if_eq (tgt := 130) X rr_69.i dX1_swap_124 (by decide) (fun hc => ?_) (fun hc => ?_)
                · have h := h.1 hc
                  exact wk_House_swap_b130 X hr hlk hT hV rx1 rx2 rx4 rx5 y8_62 r_65 y10_67 y11_68 σ_70 _ _ _ ry8_62 rr_65 ry10_67 ry11_68 (lv_sub hl [5, 6, 7, 8, 9, 4, 2, 1, 0] rfl) hWσ_70 hS h
                · have h := h.2 hc
                  refine lv_bipush (v := oI (-9)) X.1 X.2.1 dX1_swap_127 (by decide) ?_
                  exact wret_I X hr hlk hWσ_70 hS ((rB_lit (-9) (by decide)).i) h dX1_swap_129
            · have h := h.2 hc
              refine lv_iconst (v := oI 0) X.1 X.2.1 dX1_swap_103 rfl ?_
              exact wret_I X hr hlk hWσ_66 hS rZ_0.i h dX1_swap_104
          · have h := h.2 hc
            refine lv_bipush (v := oI (-4)) X.1 X.2.1 dX1_swap_84 (by decide) ?_
            exact wret_I X hr hlk hWσ_66 hS ((rB_lit (-4) (by decide)).i) h dX1_swap_86
        · have h := h.2 hc
          refine lv_iload X.1 X.2.1 dX1_swap_60 (lv_at hl 0 rfl) ?_
          exact wret_I X hr hlk hWσ_64 hS rr_63 h dX1_swap_62
      · have h := h.2 hc
        refine lv_iload X.1 X.2.1 dX1_swap_34 (lv_at hl 0 rfl) ?_
        exact wret_I X hr hlk hWσ_61 hS rr_60 h dX1_swap_36
    · have h := h.2 hc
      refine lv_bipush (v := oI (-3)) X.1 X.2.1 dX1_swap_18 (by decide) ?_
      exact wret_I X hr hlk hWσ_59 hS ((rB_lit (-3) (by decide)).i) h dX1_swap_20
  · have h := h.2 hc
    refine lv_bipush (v := oI (-2)) X.1 X.2.1 dX1_swap_7 (by decide) ?_
    exact wret_I X hr hlk hW hS ((rB_lit (-2) (by decide)).i) h dX1_swap_9
/-! House.look(IJ)I -/
set_option maxHeartbeats 4000000 in
set_option maxRecDepth 100000 in
theorem met_House_look (l : Launch) {w : Wp} (hV : Hvl w) (x1 : Int) (x2 : Int) (Q : Int → St → Prop) (σ : St) (rx1 : rI x1) (rx2 : rJ x2) (h : wp_House_look (wc w) (wtv w) x1 x2 Q σ) : Met l yX1_look (ws_ yX1_look cX1_look 5 (some .int)) rm_House_look (PcW w σ [.ref (wad w 1 0), .int (oI x1), .long (oL x2)]) (QcI w Q) 0 0 (wA w) := by
  refine Met.ofW (cc := cX1_look) (maxL := 5) (ret := (some .int)) (by decide) rfl ?_
  intro p e st m args below meth c s₁ B hml hv
  obtain ⟨hargs, hW, hT⟩ := hv
  have X : CallFix p m c cX1_look 5 st _ lw_all RX1 := ⟨B.exec, B.bytes, hml, findClass_of_methodNamed B.named, fun w h => atoms_spec (ws := ws_ yX1_look cX1_look 5 (some .int)) B.pre w (List.mem_cons_of_mem _ h)⟩
  have hr := B.returns
  have hlk := B.notSynchronized
  have hS : va_S (wA w) st.heap st.heap [] := va_S.rf
  have vl1_0 : vl w 1 0 := hV.hv 1 rfl ⟨by omega, by show _ < (1 : Int); omega⟩
  have vl10_1 : vl w 10 1 := hV.hv 10 rfl ⟨by omega, by show _ < (4 : Int); omega⟩
  have hl := lv_entry ([.ref (wad w 1 0), .int (oI x1), .long (oL x2)]) (n := 5) (Nat.le_of_ble_eq_true rfl)
  have hfr := lg_entry_eq m ([.ref (wad w 1 0), .int (oI x1), .long (oL x2)]) 5
  rw [← hargs] at hfr
  rw [hfr]
  generalize (lg_sl ([.ref (wad w 1 0), .int (oI x1), .long (oL x2)]) ++ List.replicate (5 - (lg_sl ([.ref (wad w 1 0), .int (oI x1), .long (oL x2)])).length) Slot.unset).toArray = ls at hl ⊢
  have hl : lv_has ls 5 [(0, .ref (wad w 1 0)), (1, .int (oI x1)), (2, .long (oL x2))] := hl
  unfold wp_House_look at h
  refine lv_aload_n X.1 X.2.1 dX1_look_0 rfl (lv_at hl 0 rfl) ?_
  refine wg (v := .int (oI (gI σ 69 0))) X hT hW 1 5 69 vl1_0 rfl rfl (by decide) rfl (by decide) in_X1 q1075 rfl dX1_look_1 ?_
  refine w_if_ne (tgt := 10) X ((hW.r.z 69 0 rfl).i) dX1_look_4 (by decide) (fun hc => ?_) (fun hc => ?_)
  · have h := h.1 hc
    refine lv_aload_n X.1 X.2.1 dX1_look_10 rfl (lv_at hl 0 rfl) ?_
    refine lv_iload_n X.1 X.2.1 dX1_look_11 rfl (lv_at hl 1 rfl) ?_
    refine lv_lload_n X.1 X.2.1 dX1_look_12 rfl (lv_at hl 2 rfl) ?_
    refine wr_I (rV (As := [.int (oI x1), .long (oL x2)]) (rest := []) X hT hW hS (met_House_named l (w := w) hV x1 x2 _ σ rx1 rx2 h) (cwV 2 X.2.2.2.2 (lw_V q1400 q1402 qs53 q131 q1403) rfl rfl rfl (by decide +kernel) ⟨Nat.le_of_ble_eq_true rfl, Nat.le_of_ble_eq_true rfl⟩) vl1_0 (by decide) rfl rfl hl.1 rfl (by first | exact Nat.le_of_ble_eq_true rfl | simp [catK, catI, catR, catL]) dX1_look_13 ⟨Nat.le_refl _, Nat.le_refl _⟩) hS (fun r_3 σ_4 H locs rr_3 rkσ_4 h hWσ_4 hS => ?_)
    have h := h rr_3 rkσ_4
    refine lv_istore (i := 4) (lv' := [(4, .int (oI r_3)), (0, .ref (wad w 1 0)), (1, .int (oI x1)), (2, .long (oL x2))]) X.1 X.2.1 dX1_look_16 hl (by decide) (by first | rfl | simp [catK, catI, catR, catL]) (fun ls hl => ?_)
    refine lv_iload X.1 X.2.1 dX1_look_18 (lv_at hl 0 rfl) ?_
    refine w_if_ge (tgt := 28) X rr_3 dX1_look_20 (by decide) (fun hc => ?_) (fun hc => ?_)
    · have h := h.1 hc
      refine lv_aload_n X.1 X.2.1 dX1_look_28 rfl (lv_at hl 1 rfl) ?_
      refine wg (v := .ref (wad w 10 1)) X hT hWσ_4 1 15 79 vl1_0 rfl rfl (by decide) rfl (by decide) in_X1 q1085 rfl dX1_look_29 ?_
      refine wg (v := .int (oI (gI σ_4 640 1))) X hT hWσ_4 10 0 640 vl10_1 rfl rfl (by decide) rfl (by decide) in_X3 q189 rfl dX1_look_32 ?_
      exact wret_I X hr hlk hWσ_4 hS (hWσ_4.r.i 640 1 rfl) h dX1_look_35
    · have h := h.2 hc
      refine lv_iload X.1 X.2.1 dX1_look_23 (lv_at hl 0 rfl) ?_
      refine lv_goto (tgt := 35) X.1 X.2.1 dX1_look_25 (by decide) ?_
      exact wret_I X hr hlk hWσ_4 hS rr_3 h dX1_look_35
  · have h := h.2 hc
    refine lv_bipush (v := oI (-2)) X.1 X.2.1 dX1_look_7 (by decide) ?_
    exact wret_I X hr hlk hW hS ((rB_lit (-2) (by decide)).i) h dX1_look_9
/-! House.gather(I)I -/
set_option maxHeartbeats 4000000 in
set_option maxRecDepth 100000 in
theorem wk_House_gather_b137 {p : Program} {l : Launch} {e : Env} {st : State} {m : MethodId} {args : Array Value} {below : List Frame} {meth : Method} {c : Code} {w : Wp} {x1 : Int} {Q : Int → St → Prop} (X : CallFix p m c cX1_gather 5 st args lw_all RX1) (hr : meth.sig.returnType = (some .int)) (hlk : meth.locks = false) (hT : Tb w st) (hV : Hvl w) (rx1 : rI x1) (K30 : Int → Int → St → Prop) (hK30 : ∀ (y3 y4 : Int) (σ : St) (H : Heap) (locs : List Loc) (ls : Array Slot), rI y3 → rZ y4 → lv_has ls 5 [(0, .ref (wad w 1 0)), (1, .int (oI x1)), (2, .ref (wad w 6 0)), (3, .int (oI y3)), (4, .int (oI y4))] → Wo w σ H → va_S (wA w) st.heap H locs → K30 y3 y4 σ → W p l e (headSpec (ws_ yX1_gather cX1_gather 5 (some .int)) rm_House_gather).room st m args below meth c H locs 0 0 (MQ below (QcI w Q) args st 0 0 (wA w)) (F0 m 30 ls [])) : ∀ (y3 : Int) (σ : St) (H : Heap) (locs : List Loc) (ls : Array Slot), rI y3 → lv_has ls 5 [(0, .ref (wad w 1 0)), (1, .int (oI x1)), (2, .ref (wad w 6 0)), (3, .int (oI y3))] → Wo w σ H → va_S (wA w) st.heap H locs → wp_House_gather_b137 (wc w) (wtv w) x1 Q K30 y3 σ → W p l e (headSpec (ws_ yX1_gather cX1_gather 5 (some .int)) rm_House_gather).room st m args below meth c H locs 0 0 (MQ below (QcI w Q) args st 0 0 (wA w)) (F0 m 137 ls []) := by
  have vl6_0 : vl w 6 0 := hV.hv 6 rfl ⟨by omega, by show _ < (2 : Int); omega⟩
  intro y3 σ H locs ls ry3 hl hW hS h
  unfold wp_House_gather_b137 at h
  refine lv_aload_n X.1 X.2.1 dX1_gather_137 rfl (lv_at hl 2 rfl) ?_
  refine wr_Z (rV (As := []) (rest := []) X hT hW hS (met_Index_next l (w := w) hV 0 _ σ (by omega) h) (cwV 0 X.2.2.2.2 (lw_V q1065 q1066 q1067 q139 q1068) rfl rfl rfl (by decide +kernel) ⟨Nat.le_of_ble_eq_true rfl, Nat.le_of_ble_eq_true rfl⟩) vl6_0 (by decide) rfl rfl hl.1 rfl (by first | exact Nat.le_of_ble_eq_true rfl | simp [catK, catI, catR, catL]) dX1_gather_138 ⟨Nat.le_refl _, Nat.le_refl _⟩) hS (fun r_58 σ_59 H locs rr_58 rkσ_59 h hWσ_59 hS => ?_)
  have h := h rr_58 rkσ_59
  refine lv_istore (i := 4) (lv' := [(4, .int (oI r_58)), (0, .ref (wad w 1 0)), (1, .int (oI x1)), (2, .ref (wad w 6 0)), (3, .int (oI y3))]) X.1 X.2.1 dX1_gather_141 hl (by decide) (by first | rfl | simp [catK, catI, catR, catL]) (fun ls hl => ?_)
  refine lv_goto (tgt := 30) X.1 X.2.1 dX1_gather_143 (by decide) ?_
  exact hK30 y3 r_58 σ_59 _ _ _ ry3 rr_58 (lv_sub hl [1, 2, 3, 4, 0] rfl) hWσ_59 hS h
set_option maxHeartbeats 4000000 in
set_option maxRecDepth 100000 in
theorem wk_House_gather_b52 {p : Program} {l : Launch} {e : Env} {st : State} {m : MethodId} {args : Array Value} {below : List Frame} {meth : Method} {c : Code} {w : Wp} {x1 : Int} {Q : Int → St → Prop} (X : CallFix p m c cX1_gather 5 st args lw_all RX1) (hr : meth.sig.returnType = (some .int)) (hlk : meth.locks = false) (hT : Tb w st) (hV : Hvl w) (rx1 : rI x1) (K30 : Int → Int → St → Prop) (hK30 : ∀ (y3 y4 : Int) (σ : St) (H : Heap) (locs : List Loc) (ls : Array Slot), rI y3 → rZ y4 → lv_has ls 5 [(0, .ref (wad w 1 0)), (1, .int (oI x1)), (2, .ref (wad w 6 0)), (3, .int (oI y3)), (4, .int (oI y4))] → Wo w σ H → va_S (wA w) st.heap H locs → K30 y3 y4 σ → W p l e (headSpec (ws_ yX1_gather cX1_gather 5 (some .int)) rm_House_gather).room st m args below meth c H locs 0 0 (MQ below (QcI w Q) args st 0 0 (wA w)) (F0 m 30 ls [])) : ∀ (y3 : Int) (σ : St) (H : Heap) (locs : List Loc) (ls : Array Slot), rI y3 → lv_has ls 5 [(0, .ref (wad w 1 0)), (1, .int (oI x1)), (2, .ref (wad w 6 0)), (3, .int (oI y3))] → Wo w σ H → va_S (wA w) st.heap H locs → wp_House_gather_b52 (wc w) (wtv w) x1 Q K30 y3 σ → W p l e (headSpec (ws_ yX1_gather cX1_gather 5 (some .int)) rm_House_gather).room st m args below meth c H locs 0 0 (MQ below (QcI w Q) args st 0 0 (wA w)) (F0 m 52 ls []) := by
  have vl1_0 : vl w 1 0 := hV.hv 1 rfl ⟨by omega, by show _ < (1 : Int); omega⟩
  have vl3_0 : vl w 3 0 := hV.hv 3 rfl ⟨by omega, by show _ < (2 : Int); omega⟩
  have vl6_0 : vl w 6 0 := hV.hv 6 rfl ⟨by omega, by show _ < (2 : Int); omega⟩
  have vl8_0 : vl w 8 0 := hV.hv 8 rfl ⟨by omega, by show _ < (8 : Int); omega⟩
  have vl83_0 : vl w 83 0 := hV.hv 83 rfl ⟨by omega, by show _ < (1 : Int); omega⟩
  have vl84_0 : vl w 84 0 := hV.hv 84 rfl ⟨by omega, by show _ < (1 : Int); omega⟩
  intro y3 σ H locs ls ry3 hl hW hS h
  unfold wp_House_gather_b52 at h
  refine lv_aload_n X.1 X.2.1 dX1_gather_52 rfl (lv_at hl 2 rfl) ?_
  refine wg (v := .long (oL (gI σ 391 0))) X hT hW 6 7 391 vl6_0 rfl rfl (by decide) rfl (by decide) in_X8 q454 rfl dX1_gather_53 ?_
  refine w_ldc2 X (z := 4) q896 (by decide) dX1_gather_56 ?_
  refine w_lrem X (hW.r.j 391 0 rfl) (rJ_lit 4 (by decide)) (by decide) dX1_gather_59 ?_
  refine w_ldc2 X (z := 2) q1448 (by decide) dX1_gather_60 ?_
  refine w_lcmp_eq (tgt := 70) X (jrl_r _ _) (rJ_lit 2 (by decide)) dX1_gather_63 dX1_gather_64 (by decide) (fun hc => ?_) (fun hc => ?_)
  · have h := h.1 hc
    refine lv_aload_n X.1 X.2.1 dX1_gather_70 rfl (lv_at hl 0 rfl) ?_
    refine wg (v := .ref (wad w 3 0)) X hT hW 1 1 65 vl1_0 rfl rfl (by decide) rfl (by decide) in_X1 q1071 rfl dX1_gather_71 ?_
    refine lv_aload_n X.1 X.2.1 dX1_gather_74 rfl (lv_at hl 2 rfl) ?_
    refine wg (v := .int (oI (gI σ 393 0))) X hT hW 6 9 393 vl6_0 rfl rfl (by decide) rfl (by decide) in_X8 q460 rfl dX1_gather_75 ?_
    refine lv_aload_n X.1 X.2.1 dX1_gather_78 rfl (lv_at hl 2 rfl) ?_
    refine wg (v := .int (oI (gI σ 394 0))) X hT hW 6 10 394 vl6_0 rfl rfl (by decide) rfl (by decide) in_X8 q463 rfl dX1_gather_79 ?_
    refine lv_aload_n X.1 X.2.1 dX1_gather_82 rfl (lv_at hl 2 rfl) ?_
    refine wg (v := .int (oI (gI σ 395 0))) X hT hW 6 11 395 vl6_0 rfl rfl (by decide) rfl (by decide) in_X8 q466 rfl dX1_gather_83 ?_
    refine lv_aload_n X.1 X.2.1 dX1_gather_86 rfl (lv_at hl 0 rfl) ?_
    refine wg (v := .ref (wad w 3 0)) X hT hW 1 1 65 vl1_0 rfl rfl (by decide) rfl (by decide) in_X1 q1071 rfl dX1_gather_87 ?_
    refine wg (v := .ref (wad w 8 0)) X hT hW 3 6 198 vl3_0 rfl rfl (by decide) rfl (by decide) in_X5 q532 rfl dX1_gather_90 ?_
    refine wr_V (rV (As := [.int (oI (gI σ 393 0)), .int (oI (gI σ 394 0)), .int (oI (gI σ 395 0)), .ref (wad w 8 0)]) (rest := []) X hT hW hS (met_Store_read l (w := w) hV 0 (gI σ 393 0) (gI σ 394 0) (gI σ 395 0) 0 _ σ (by omega) (hW.r.i 393 0 rfl) (hW.r.i 394 0 rfl) (hW.r.i 395 0 rfl) (by omega) h) (cwV 4 X.2.2.2.2 (lw_V q1183 q1184 q1185 q136 q1186) rfl rfl rfl (by decide +kernel) ⟨Nat.le_of_ble_eq_true rfl, Nat.le_of_ble_eq_true rfl⟩) vl3_0 (by decide) rfl rfl hl.1 rfl (by first | exact Nat.le_of_ble_eq_true rfl | simp [catK, catI, catR, catL]) dX1_gather_93 ⟨Nat.le_refl _, Nat.le_refl _⟩) hS (fun σ_61 H locs rkσ_61 h hWσ_61 hS => ?_)
    have h := h rkσ_61
    refine lv_aload_n X.1 X.2.1 dX1_gather_96 rfl (lv_at hl 0 rfl) ?_
    refine wg (v := .ref (wad w 83 0)) X hT hWσ_61 1 19 83 vl1_0 rfl rfl (by decide) rfl (by decide) in_X1 q1089 rfl dX1_gather_97 ?_
    refine lv_iload_n X.1 X.2.1 dX1_gather_100 rfl (lv_at hl 3 rfl) ?_
    refine lv_aload_n X.1 X.2.1 dX1_gather_101 rfl (lv_at hl 0 rfl) ?_
    refine wg (v := .ref (wad w 3 0)) X hT hWσ_61 1 1 65 vl1_0 rfl rfl (by decide) rfl (by decide) in_X1 q1071 rfl dX1_gather_102 ?_
    refine wg (v := .ref (wad w 8 0)) X hT hWσ_61 3 6 198 vl3_0 rfl rfl (by decide) rfl (by decide) in_X5 q532 rfl dX1_gather_105 ?_
    refine lv_bipush (v := oI 8) X.1 X.2.1 dX1_gather_108 (by decide) ?_
    refine wr_J (rV (As := [.int (oI 8)]) (rest := [.int (oI y3), .ref (wad w 83 0)]) X hT hWσ_61 hS (met_Row_getLongAt l (w := w) hV 0 8 _ σ_61 (by omega) ((rB_lit 8 (by decide)).i) h) (cwV 1 X.2.2.2.2 (lw_V q1218 q1219 q1220 q132 q1221) rfl rfl rfl (by decide +kernel) ⟨Nat.le_of_ble_eq_true rfl, Nat.le_of_ble_eq_true rfl⟩) vl8_0 (by decide) rfl rfl hl.1 rfl (by first | exact Nat.le_of_ble_eq_true rfl | simp [catK, catI, catR, catL]) dX1_gather_110 ⟨Nat.le_refl _, Nat.le_refl _⟩) hS (fun r_62 σ_63 H locs rr_62 rkσ_63 h hWσ_63 hS => ?_)
    have h := h rr_62 rkσ_63
    refine wr_J (rS (As := [.long (oL r_62)]) (rest := [.int (oI y3), .ref (wad w 83 0)]) X hT hWσ_63 hS (met_Long_reverseBytes l (w := w) r_62 _ σ_63 rr_62 h) (va_cwS 1 X.2.2.2.2 (lw_S q1449 q1324 q148 q1325) rfl rfl rfl (by decide +kernel) ⟨Nat.le_of_ble_eq_true rfl, Nat.le_of_ble_eq_true rfl⟩) rfl hl.1 rfl (by first | exact Nat.le_of_ble_eq_true rfl | simp [catK, catI, catR, catL]) dX1_gather_113 ⟨Nat.le_refl _, Nat.le_refl _⟩) hS (fun r_64 σ_65 H locs rr_64 rkσ_65 h hWσ_65 hS => ?_)
    have h := h rr_64 rkσ_65
    obtain ⟨bi, h⟩ := h
    refine w_last (n := 768) X hT hWσ_65 hS 83 vl83_0 (by decide) rfl rfl bi rr_64 dX1_gather_116 (fun H locs hN hS => ?_)
    obtain ⟨σ_66, eσ_66⟩ : ∃ x, x = sA σ_65 83 0 y3 r_64 := ⟨_, rfl⟩
    have hWσ_66 : Wo w σ_66 H := eσ_66 ▸ hN
    have h := h σ_66 eσ_66
    clear hN
    refine lv_aload_n X.1 X.2.1 dX1_gather_117 rfl (lv_at hl 0 rfl) ?_
    refine wg (v := .ref (wad w 84 0)) X hT hWσ_66 1 20 84 vl1_0 rfl rfl (by decide) rfl (by decide) in_X1 q1090 rfl dX1_gather_118 ?_
    refine lv_iload_n X.1 X.2.1 dX1_gather_121 rfl (lv_at hl 3 rfl) ?_
    obtain ⟨y3_67, ey3_67⟩ : ∃ y : Int, y = w32 (y3 + 1) := ⟨_, rfl⟩
    have h := h y3_67 ey3_67
    have ry3_67 : rI y3_67 := by rw [ey3_67]; exact w32_r _
    refine lv_iinc (v := oI y3_67) (lv' := [(3, .int (oI y3_67)), (0, .ref (wad w 1 0)), (1, .int (oI x1)), (2, .ref (wad w 6 0))]) X.1 X.2.1 dX1_gather_122 hl (k := 3) rfl (by rw [ey3_67]; exact oI_add _ _) (by decide) (by first | rfl | simp [catK, catI, catR, catL]) (fun ls hl => ?_)
    refine lv_aload_n X.1 X.2.1 dX1_gather_125 rfl (lv_at hl 1 rfl) ?_
    refine wg (v := .ref (wad w 3 0)) X hT hWσ_66 1 1 65 vl1_0 rfl rfl (by decide) rfl (by decide) in_X1 q1071 rfl dX1_gather_126 ?_
    refine wg (v := .ref (wad w 8 0)) X hT hWσ_66 3 6 198 vl3_0 rfl rfl (by decide) rfl (by decide) in_X5 q532 rfl dX1_gather_129 ?_
    refine lv_iconst (v := oI 4) X.1 X.2.1 dX1_gather_132 rfl ?_
    refine wr_I (rV (As := [.int (oI 4)]) (rest := [.int (oI y3), .ref (wad w 84 0)]) X hT hWσ_66 hS (met_Row_get l (w := w) hV 0 4 _ σ_66 (by omega) ((rB_lit 4 (by decide)).i) h) (cwV 1 X.2.2.2.2 (lw_V q1206 q1207 q1208 q132 q1209) rfl rfl rfl (by decide +kernel) ⟨Nat.le_of_ble_eq_true rfl, Nat.le_of_ble_eq_true rfl⟩) vl8_0 (by decide) rfl rfl hl.1 rfl (by first | exact Nat.le_of_ble_eq_true rfl | simp [catK, catI, catR, catL]) dX1_gather_133 ⟨Nat.le_refl _, Nat.le_refl _⟩) hS (fun r_68 σ_69 H locs rr_68 rkσ_69 h hWσ_69 hS => ?_)
    have h := h rr_68 rkσ_69
    obtain ⟨bi, h⟩ := h
    refine w_iast (n := 768) X hT hWσ_69 hS 84 vl84_0 (by decide) rfl rfl bi rr_68 dX1_gather_136 (fun H locs hN hS => ?_)
    obtain ⟨σ_70, eσ_70⟩ : ∃ x, x = sA σ_69 84 0 y3 r_68 := ⟨_, rfl⟩
    have hWσ_70 : Wo w σ_70 H := eσ_70 ▸ hN
    have h := h σ_70 eσ_70
    clear hN
    exact wk_House_gather_b137 X hr hlk hT hV rx1 K30 hK30 y3_67 σ_70 _ _ _ ry3_67 (lv_sub hl [1, 2, 3, 0] rfl) hWσ_70 hS h
  · have h := h.2 hc
    refine lv_goto (tgt := 137) X.1 X.2.1 dX1_gather_67 (by decide) ?_
    exact wk_House_gather_b137 X hr hlk hT hV rx1 K30 hK30 y3 σ _ _ _ ry3 (lv_sub hl [0, 1, 2, 3] rfl) hW hS h
set_option maxHeartbeats 4000000 in
set_option maxRecDepth 100000 in
theorem wk_House_gather_L30B {p : Program} {l : Launch} {e : Env} {st : State} {m : MethodId} {args : Array Value} {below : List Frame} {meth : Method} {c : Code} {w : Wp} {x1 : Int} {Q : Int → St → Prop} (X : CallFix p m c cX1_gather 5 st args lw_all RX1) (hr : meth.sig.returnType = (some .int)) (hlk : meth.locks = false) (hT : Tb w st) (hV : Hvl w) (rx1 : rI x1) (K30 : Int → Int → St → Prop) (hK30 : ∀ (y3 y4 : Int) (σ : St) (H : Heap) (locs : List Loc) (ls : Array Slot), rI y3 → rZ y4 → lv_has ls 5 [(0, .ref (wad w 1 0)), (1, .int (oI x1)), (2, .ref (wad w 6 0)), (3, .int (oI y3)), (4, .int (oI y4))] → Wo w σ H → va_S (wA w) st.heap H locs → K30 y3 y4 σ → W p l e (headSpec (ws_ yX1_gather cX1_gather 5 (some .int)) rm_House_gather).room st m args below meth c H locs 0 0 (MQ below (QcI w Q) args st 0 0 (wA w)) (F0 m 30 ls [])) : ∀ (y3 y4 : Int) (σ : St) (H : Heap) (locs : List Loc) (ls : Array Slot), rI y3 → rZ y4 → lv_has ls 5 [(0, .ref (wad w 1 0)), (1, .int (oI x1)), (2, .ref (wad w 6 0)), (3, .int (oI y3)), (4, .int (oI y4))] → Wo w σ H → va_S (wA w) st.heap H locs → wp_House_gather_L30 (wc w) (wtv w) x1 Q K30 y3 y4 σ → W p l e (headSpec (ws_ yX1_gather cX1_gather 5 (some .int)) rm_House_gather).room st m args below meth c H locs 0 0 (MQ below (QcI w Q) args st 0 0 (wA w)) (F0 m 30 ls []) := by
  have vl6_0 : vl w 6 0 := hV.hv 6 rfl ⟨by omega, by show _ < (2 : Int); omega⟩
  intro y3 y4 σ H locs ls ry3 ry4 hl hW hS h
  unfold wp_House_gather_L30 at h
  refine lv_iload X.1 X.2.1 dX1_gather_30 (lv_at hl 4 rfl) ?_
  refine w_if_eq (tgt := 146) X ry4.i dX1_gather_32 (by decide) (fun hc => ?_) (fun hc => ?_)
  · have h := h.1 hc
    refine lv_iload_n X.1 X.2.1 dX1_gather_146 rfl (lv_at hl 3 rfl) ?_
    exact wret_I X hr hlk hW hS ry3 h dX1_gather_147
  · have h := h.2 hc
    refine lv_iload_n X.1 X.2.1 dX1_gather_35 rfl (lv_at hl 1 rfl) ?_
    refine w_if_eq (tgt := 52) X rx1 dX1_gather_36 (by decide) (fun hc => ?_) (fun hc => ?_)
    · have h := h.1 hc
      exact wk_House_gather_b52 X hr hlk hT hV rx1 K30 hK30 y3 σ _ _ _ ry3 (lv_sub hl [0, 1, 2, 3] rfl) hW hS h
    · have h := h.2 hc
      refine lv_aload_n X.1 X.2.1 dX1_gather_39 rfl (lv_at hl 2 rfl) ?_
      refine wg (v := .long (oL (gI σ 391 0))) X hT hW 6 7 391 vl6_0 rfl rfl (by decide) rfl (by decide) in_X8 q454 rfl dX1_gather_40 ?_
      refine lv_iload_n X.1 X.2.1 dX1_gather_43 rfl (lv_at hl 1 rfl) ?_
      refine lv_iconst (v := oI 2) X.1 X.2.1 dX1_gather_44 rfl ?_
      refine wr_J (rS (As := [.int (oI x1), .int (oI 2)]) (rest := [.long (oL (gI σ 391 0))]) X hT hW hS (met_House_keyOf l (w := w) x1 2 _ σ rx1 ((rB_lit 2 (by decide)).i) h) (va_cwS 2 X.2.2.2.2 (lw_S q1181 q894 q131 q895) rfl rfl rfl (by decide +kernel) ⟨Nat.le_of_ble_eq_true rfl, Nat.le_of_ble_eq_true rfl⟩) rfl hl.1 rfl (by first | exact Nat.le_of_ble_eq_true rfl | simp [catK, catI, catR, catL]) dX1_gather_45 ⟨Nat.le_refl _, Nat.le_refl _⟩) hS (fun r_71 σ_72 H locs rr_71 rkσ_72 h hWσ_72 hS => ?_)
      have h := h rr_71 rkσ_72
      refine w_lcmp_ne (tgt := 146) X (hW.r.j 391 0 rfl) rr_71 dX1_gather_48 dX1_gather_49 (by decide) (fun hc => ?_) (fun hc => ?_)
      · have h := h.1 hc
        refine lv_iload_n X.1 X.2.1 dX1_gather_146 rfl (lv_at hl 3 rfl) ?_
        exact wret_I X hr hlk hWσ_72 hS ry3 h dX1_gather_147
      · have h := h.2 hc
        exact wk_House_gather_b52 X hr hlk hT hV rx1 K30 hK30 y3 σ_72 _ _ _ ry3 (lv_sub hl [0, 1, 2, 3] rfl) hWσ_72 hS h
theorem wk_House_gather_L30 {p : Program} {l : Launch} {e : Env} {st : State} {m : MethodId} {args : Array Value} {below : List Frame} {meth : Method} {c : Code} {w : Wp} {x1 : Int} {Q : Int → St → Prop} (X : CallFix p m c cX1_gather 5 st args lw_all RX1) (hr : meth.sig.returnType = (some .int)) (hlk : meth.locks = false) (hT : Tb w st) (hV : Hvl w) (rx1 : rI x1) : ∀ (y3 y4 : Int) (σ : St) (H : Heap) (locs : List Loc) (ls : Array Slot), rI y3 → rZ y4 → lv_has ls 5 [(0, .ref (wad w 1 0)), (1, .int (oI x1)), (2, .ref (wad w 6 0)), (3, .int (oI y3)), (4, .int (oI y4))] → Wo w σ H → va_S (wA w) st.heap H locs → lQ2 (wp_House_gather_L30 (wc w) (wtv w) x1 Q) y3 y4 σ → W p l e (headSpec (ws_ yX1_gather cX1_gather 5 (some .int)) rm_House_gather).room st m args below meth c H locs 0 0 (MQ below (QcI w Q) args st 0 0 (wA w)) (F0 m 30 ls []) := by
  intro y3 y4 σ H locs ls ry3 ry4 hl hW hS h
  obtain ⟨fu, h⟩ := h
  induction fu generalizing y3 y4 σ H locs ls with
  | zero => exact h.elim
  | succ fu ih =>
    exact wk_House_gather_L30B X hr hlk hT hV rx1 (lq2 (wp_House_gather_L30 (wc w) (wtv w) x1 Q) fu) (fun y3 y4 σ H locs ls ry3 ry4 hl hW hS h => ih y3 y4 σ H locs ls ry3 ry4 hl hW hS h) y3 y4 σ H locs ls ry3 ry4 hl hW hS h
set_option maxHeartbeats 4000000 in
set_option maxRecDepth 100000 in
theorem wk_House_gather_b24 {p : Program} {l : Launch} {e : Env} {st : State} {m : MethodId} {args : Array Value} {below : List Frame} {meth : Method} {c : Code} {w : Wp} {x1 : Int} {Q : Int → St → Prop} (X : CallFix p m c cX1_gather 5 st args lw_all RX1) (hr : meth.sig.returnType = (some .int)) (hlk : meth.locks = false) (hT : Tb w st) (hV : Hvl w) (rx1 : rI x1) : ∀ (y3 t0 : Int) (σ : St) (H : Heap) (locs : List Loc) (ls : Array Slot), rZ y3 → rJ t0 → lv_has ls 5 [(0, .ref (wad w 1 0)), (1, .int (oI x1)), (2, .ref (wad w 6 0)), (3, .int (oI y3))] → Wo w σ H → va_S (wA w) st.heap H locs → wp_House_gather_b24 (wc w) (wtv w) x1 Q y3 t0 σ → W p l e (headSpec (ws_ yX1_gather cX1_gather 5 (some .int)) rm_House_gather).room st m args below meth c H locs 0 0 (MQ below (QcI w Q) args st 0 0 (wA w)) (F0 m 24 ls [.long (oL t0), .ref (wad w 6 0)]) := by
  have vl6_0 : vl w 6 0 := hV.hv 6 rfl ⟨by omega, by show _ < (2 : Int); omega⟩
  intro y3 t0 σ H locs ls ry3 rt0 hl hW hS h
  unfold wp_House_gather_b24 at h
  refine lv_lconst (v := oL 0) X.1 X.2.1 dX1_gather_24 (by decide) ?_
  refine wr_Z (rV (As := [.long (oL t0), .long (oL 0)]) (rest := []) X hT hW hS (met_Index_seek l (w := w) hV 0 t0 0 _ σ (by omega) rt0 (rJ_lit 0 (by decide)) h) (cwV 2 X.2.2.2.2 (lw_V q1064 q906 q907 q139 q908) rfl rfl rfl (by decide +kernel) ⟨Nat.le_of_ble_eq_true rfl, Nat.le_of_ble_eq_true rfl⟩) vl6_0 (by decide) rfl rfl hl.1 rfl (by first | exact Nat.le_of_ble_eq_true rfl | simp [catK, catI, catR, catL]) dX1_gather_25 ⟨Nat.le_refl _, Nat.le_refl _⟩) hS (fun r_73 σ_74 H locs rr_73 rkσ_74 h hWσ_74 hS => ?_)
  have h := h rr_73 rkσ_74
  refine lv_istore (i := 4) (lv' := [(4, .int (oI r_73)), (0, .ref (wad w 1 0)), (1, .int (oI x1)), (2, .ref (wad w 6 0)), (3, .int (oI y3))]) X.1 X.2.1 dX1_gather_28 hl (by decide) (by first | rfl | simp [catK, catI, catR, catL]) (fun ls hl => ?_)
  exact wk_House_gather_L30 X hr hlk hT hV rx1 y3 r_73 σ_74 _ _ _ ry3.i rr_73 (lv_sub hl [1, 2, 3, 4, 0] rfl) hWσ_74 hS h
set_option maxHeartbeats 4000000 in
set_option maxRecDepth 100000 in
theorem met_House_gather (l : Launch) {w : Wp} (hV : Hvl w) (x1 : Int) (Q : Int → St → Prop) (σ : St) (rx1 : rI x1) (h : wp_House_gather (wc w) (wtv w) x1 Q σ) : Met l yX1_gather (ws_ yX1_gather cX1_gather 5 (some .int)) rm_House_gather (PcW w σ [.ref (wad w 1 0), .int (oI x1)]) (QcI w Q) 0 0 (wA w) := by
  refine Met.ofW (cc := cX1_gather) (maxL := 5) (ret := (some .int)) (by decide) rfl ?_
  intro p e st m args below meth c s₁ B hml hv
  obtain ⟨hargs, hW, hT⟩ := hv
  have X : CallFix p m c cX1_gather 5 st _ lw_all RX1 := ⟨B.exec, B.bytes, hml, findClass_of_methodNamed B.named, fun w h => atoms_spec (ws := ws_ yX1_gather cX1_gather 5 (some .int)) B.pre w (List.mem_cons_of_mem _ h)⟩
  have hr := B.returns
  have hlk := B.notSynchronized
  have hS : va_S (wA w) st.heap st.heap [] := va_S.rf
  have vl1_0 : vl w 1 0 := hV.hv 1 rfl ⟨by omega, by show _ < (1 : Int); omega⟩
  have vl3_0 : vl w 3 0 := hV.hv 3 rfl ⟨by omega, by show _ < (2 : Int); omega⟩
  have vl6_0 : vl w 6 0 := hV.hv 6 rfl ⟨by omega, by show _ < (2 : Int); omega⟩
  have hl := lv_entry ([.ref (wad w 1 0), .int (oI x1)]) (n := 5) (Nat.le_of_ble_eq_true rfl)
  have hfr := lg_entry_eq m ([.ref (wad w 1 0), .int (oI x1)]) 5
  rw [← hargs] at hfr
  rw [hfr]
  generalize (lg_sl ([.ref (wad w 1 0), .int (oI x1)]) ++ List.replicate (5 - (lg_sl ([.ref (wad w 1 0), .int (oI x1)])).length) Slot.unset).toArray = ls at hl ⊢
  have hl : lv_has ls 5 [(0, .ref (wad w 1 0)), (1, .int (oI x1))] := hl
  unfold wp_House_gather at h
  refine lv_aload_n X.1 X.2.1 dX1_gather_0 rfl (lv_at hl 0 rfl) ?_
  refine wg (v := .ref (wad w 3 0)) X hT hW 1 1 65 vl1_0 rfl rfl (by decide) rfl (by decide) in_X1 q1071 rfl dX1_gather_1 ?_
  refine wg (v := .ref (wad w 6 0)) X hT hW 3 2 194 vl3_0 rfl rfl (by decide) rfl (by decide) in_X5 q527 rfl dX1_gather_4 ?_
  refine lv_astore_n (i := 2) (lv' := [(2, .ref (wad w 6 0)), (0, .ref (wad w 1 0)), (1, .int (oI x1))]) X.1 X.2.1 dX1_gather_7 rfl hl (by decide) (by first | rfl | simp [catK, catI, catR, catL]) (fun ls hl => ?_)
  refine lv_iconst (v := oI 0) X.1 X.2.1 dX1_gather_8 rfl ?_
  refine lv_istore_n (i := 3) (lv' := [(3, .int (oI 0)), (2, .ref (wad w 6 0)), (0, .ref (wad w 1 0)), (1, .int (oI x1))]) X.1 X.2.1 dX1_gather_9 rfl hl (by decide) (by first | rfl | simp [catK, catI, catR, catL]) (fun ls hl => ?_)
  refine lv_aload_n X.1 X.2.1 dX1_gather_10 rfl (lv_at hl 1 rfl) ?_
  refine lv_iload_n X.1 X.2.1 dX1_gather_11 rfl (lv_at hl 3 rfl) ?_
  refine w_if_ne (tgt := 19) X rx1 dX1_gather_12 (by decide) (fun hc => ?_) (fun hc => ?_)
  · have h := h.1 hc
    refine lv_iload_n X.1 X.2.1 dX1_gather_19 rfl (lv_at hl 3 rfl) ?_
    refine lv_iconst (v := oI 2) X.1 X.2.1 dX1_gather_20 rfl ?_
    refine wr_J (rS (As := [.int (oI x1), .int (oI 2)]) (rest := [.ref (wad w 6 0)]) X hT hW hS (met_House_keyOf l (w := w) x1 2 _ σ rx1 ((rB_lit 2 (by decide)).i) h) (va_cwS 2 X.2.2.2.2 (lw_S q1181 q894 q131 q895) rfl rfl rfl (by decide +kernel) ⟨Nat.le_of_ble_eq_true rfl, Nat.le_of_ble_eq_true rfl⟩) rfl hl.1 rfl (by first | exact Nat.le_of_ble_eq_true rfl | simp [catK, catI, catR, catL]) dX1_gather_21 ⟨Nat.le_refl _, Nat.le_refl _⟩) hS (fun r_75 σ_76 H locs rr_75 rkσ_76 h hWσ_76 hS => ?_)
    have h := h rr_75 rkσ_76
    exact wk_House_gather_b24 X hr hlk hT hV rx1 0 r_75 σ_76 _ _ _ rZ_0 rr_75 (lv_sub hl [2, 3, 1, 0] rfl) hWσ_76 hS h
  · have h := h.2 hc
    refine lv_lconst (v := oL 0) X.1 X.2.1 dX1_gather_15 (by decide) ?_
    refine lv_goto (tgt := 24) X.1 X.2.1 dX1_gather_16 (by decide) ?_
    exact wk_House_gather_b24 X hr hlk hT hV rx1 0 0 σ _ _ _ rZ_0 (rJ_lit 0 (by decide)) (lv_sub hl [2, 3, 1, 0] rfl) hW hS h
/-! House.list(II)J -/
set_option maxHeartbeats 4000000 in
set_option maxRecDepth 100000 in
theorem wk_House_list_L57B {p : Program} {l : Launch} {e : Env} {st : State} {m : MethodId} {args : Array Value} {below : List Frame} {meth : Method} {c : Code} {w : Wp} {x1 : Int} {x2 : Int} {Q : Int → St → Prop} (X : CallFix p m c cX1_list 7 st args lw_all RX1) (hr : meth.sig.returnType = (some .long)) (hlk : meth.locks = false) (hT : Tb w st) (hV : Hvl w) (rx1 : rI x1) (rx2 : rI x2) (K45 : Int → Int → St → Prop) (K57 : Int → Int → Int → Int → St → Prop) (hK45 : ∀ (y3 y4 : Int) (σ : St) (H : Heap) (locs : List Loc) (ls : Array Slot), rI y3 → rI y4 → lv_has ls 7 [(0, .ref (wad w 1 0)), (2, .int (oI x2)), (3, .int (oI y3)), (4, .int (oI y4))] → Wo w σ H → va_S (wA w) st.heap H locs → K45 y3 y4 σ → W p l e (headSpec (ws_ yX1_list cX1_list 7 (some .long)) rm_House_list).room st m args below meth c H locs 0 0 (MQ below (QcJ w Q) args st 0 0 (wA w)) (F0 m 45 ls [])) (hK57 : ∀ (y3 y4 y5 y6 : Int) (σ : St) (H : Heap) (locs : List Loc) (ls : Array Slot), rI y3 → rI y4 → rI y5 → rI y6 → lv_has ls 7 [(0, .ref (wad w 1 0)), (2, .int (oI x2)), (3, .int (oI y3)), (4, .int (oI y4)), (5, .int (oI y5)), (6, .int (oI y6))] → Wo w σ H → va_S (wA w) st.heap H locs → K57 y3 y4 y5 y6 σ → W p l e (headSpec (ws_ yX1_list cX1_list 7 (some .long)) rm_House_list).room st m args below meth c H locs 0 0 (MQ below (QcJ w Q) args st 0 0 (wA w)) (F0 m 57 ls [])) : ∀ (y3 y4 y5 y6 : Int) (σ : St) (H : Heap) (locs : List Loc) (ls : Array Slot), rI y3 → rI y4 → rI y5 → rI y6 → lv_has ls 7 [(0, .ref (wad w 1 0)), (2, .int (oI x2)), (3, .int (oI y3)), (4, .int (oI y4)), (5, .int (oI y5)), (6, .int (oI y6))] → Wo w σ H → va_S (wA w) st.heap H locs → wp_House_list_L57 (wc w) (wtv w) x1 x2 Q K45 K57 y3 y4 y5 y6 σ → W p l e (headSpec (ws_ yX1_list cX1_list 7 (some .long)) rm_House_list).room st m args below meth c H locs 0 0 (MQ below (QcJ w Q) args st 0 0 (wA w)) (F0 m 57 ls []) := by
  have vl1_0 : vl w 1 0 := hV.hv 1 rfl ⟨by omega, by show _ < (1 : Int); omega⟩
  have vl83_0 : vl w 83 0 := hV.hv 83 rfl ⟨by omega, by show _ < (1 : Int); omega⟩
  intro y3 y4 y5 y6 σ H locs ls ry3 ry4 ry5 ry6 hl hW hS h
  unfold wp_House_list_L57 at h
  refine lv_iload X.1 X.2.1 dX1_list_57 (lv_at hl 5 rfl) ?_
  refine lv_iload_n X.1 X.2.1 dX1_list_59 rfl (lv_at hl 2 rfl) ?_
  refine w_icmp_ge (tgt := 99) X ry6 ry3 dX1_list_60 (by decide) (fun hc => ?_) (fun hc => ?_)
  · have h := h.1 hc
    refine lv_iload X.1 X.2.1 dX1_list_99 (lv_at hl 4 rfl) ?_
    refine lv_iload_n X.1 X.2.1 dX1_list_101 rfl (lv_at hl 1 rfl) ?_
    refine w_icmp_ne (tgt := 116) X ry5 rx2 dX1_list_102 (by decide) (fun hc => ?_) (fun hc => ?_)
    · have h := h.1 hc
      obtain ⟨y4_34, ey4_34⟩ : ∃ y : Int, y = w32 (y4 + 1) := ⟨_, rfl⟩
      have h := h y4_34 ey4_34
      have ry4_34 : rI y4_34 := by rw [ey4_34]; exact w32_r _
      refine lv_iinc (v := oI y4_34) (lv' := [(4, .int (oI y4_34)), (0, .ref (wad w 1 0)), (2, .int (oI x2)), (3, .int (oI y3)), (5, .int (oI y5)), (6, .int (oI y6))]) X.1 X.2.1 dX1_list_116 hl (k := 3) rfl (by rw [ey4_34]; exact oI_add _ _) (by decide) (by first | rfl | simp [catK, catI, catR, catL]) (fun ls hl => ?_)
      refine lv_goto (tgt := 45) X.1 X.2.1 dX1_list_119 (by decide) ?_
      exact hK45 y3 y4_34 σ _ _ _ ry3 ry4_34 (lv_sub hl [1, 2, 3, 0] rfl) hW hS h
    · have h := h.2 hc
      refine lv_aload_n X.1 X.2.1 dX1_list_105 rfl (lv_at hl 0 rfl) ?_
      refine wg (v := .ref (wad w 83 0)) X hT hW 1 19 83 vl1_0 rfl rfl (by decide) rfl (by decide) in_X1 q1089 rfl dX1_list_106 ?_
      refine lv_iload X.1 X.2.1 dX1_list_109 (lv_at hl 3 rfl) ?_
      obtain ⟨bi, h⟩ := h
      refine w_lald (n := 768) X hT hW 83 vl83_0 (by decide) rfl rfl bi dX1_list_111 ?_
      refine wr_J (rS (As := [.long (oL (gA σ 83 0 y4))]) (rest := []) X hT hW hS (met_Long_reverseBytes l (w := w) (gA σ 83 0 y4) _ σ (hW.r.aj 83 0 y4 rfl) h) (va_cwS 1 X.2.2.2.2 (lw_S q1449 q1324 q148 q1325) rfl rfl rfl (by decide +kernel) ⟨Nat.le_of_ble_eq_true rfl, Nat.le_of_ble_eq_true rfl⟩) rfl hl.1 rfl (by first | exact Nat.le_of_ble_eq_true rfl | simp [catK, catI, catR, catL]) dX1_list_112 ⟨Nat.le_refl _, Nat.le_refl _⟩) hS (fun r_35 σ_36 H locs rr_35 rkσ_36 h hWσ_36 hS => ?_)
      have h := h rr_35 rkσ_36
      exact wret_J X hr hlk hWσ_36 hS rr_35 h dX1_list_115
  · have h := h.2 hc
    refine lv_iload X.1 X.2.1 dX1_list_63 (lv_at hl 4 rfl) ?_
    refine lv_aload_n X.1 X.2.1 dX1_list_65 rfl (lv_at hl 0 rfl) ?_
    refine wg (v := .ref (wad w 83 0)) X hT hW 1 19 83 vl1_0 rfl rfl (by decide) rfl (by decide) in_X1 q1089 rfl dX1_list_66 ?_
    refine lv_iload X.1 X.2.1 dX1_list_69 (lv_at hl 5 rfl) ?_
    obtain ⟨bi, h⟩ := h
    refine w_lald (n := 768) X hT hW 83 vl83_0 (by decide) rfl rfl bi dX1_list_71 ?_
    refine lv_aload_n X.1 X.2.1 dX1_list_72 rfl (lv_at hl 0 rfl) ?_
    refine wg (v := .ref (wad w 83 0)) X hT hW 1 19 83 vl1_0 rfl rfl (by decide) rfl (by decide) in_X1 q1089 rfl dX1_list_73 ?_
    refine lv_iload X.1 X.2.1 dX1_list_76 (lv_at hl 3 rfl) ?_
    obtain ⟨bi, h⟩ := h
    refine w_lald (n := 768) X hT hW 83 vl83_0 (by decide) rfl rfl bi dX1_list_78 ?_
    refine wr_I (rS (As := [.long (oL (gA σ 83 0 y6)), .long (oL (gA σ 83 0 y4))]) (rest := [.int (oI y5)]) X hT hW hS (met_Long_compareUnsigned l (w := w) (gA σ 83 0 y6) (gA σ 83 0 y4) _ σ (hW.r.aj 83 0 y6 rfl) (hW.r.aj 83 0 y4 rfl) h) (va_cwS 2 X.2.2.2.2 (lw_S q1450 q917 q148 q918) rfl rfl rfl (by decide +kernel) ⟨Nat.le_of_ble_eq_true rfl, Nat.le_of_ble_eq_true rfl⟩) rfl hl.1 rfl (by first | exact Nat.le_of_ble_eq_true rfl | simp [catK, catI, catR, catL]) dX1_list_79 ⟨Nat.le_refl _, Nat.le_refl _⟩) hS (fun r_37 σ_38 H locs rr_37 rkσ_38 h hWσ_38 hS => ?_)
    have h := h rr_37 rkσ_38
    refine w_cut (pc2 := 90) (st2 := [.int (oI (if 0 ≤ r_37 then (0 : Int) else (1 : Int))), .int (oI y5)]) (fun hj => ?_) ?_
    · refine w_if_ge (tgt := 89) X rr_37 dX1_list_82 (by decide) (fun hc => ?_) (fun hc => ?_)
      · refine lv_iconst (v := oI 0) X.1 X.2.1 dX1_list_89 rfl ?_
        rw [if_pos hc] at hj; exact hj
      · refine lv_iconst (v := oI 1) X.1 X.2.1 dX1_list_85 rfl ?_
        refine lv_goto (tgt := 90) X.1 X.2.1 dX1_list_86 (by decide) ?_
        rw [if_neg hc] at hj; exact hj
    refine w_iadd X dX1_list_90 ?_
    refine w_top (fun y5_39 ey5_39 => ?_)
    have h := h y5_39 ey5_39
    have ry5_39 : rI y5_39 := by rw [ey5_39]; exact (w32_r _)
    refine lv_istore (i := 5) (lv' := [(5, .int (oI y5_39)), (0, .ref (wad w 1 0)), (2, .int (oI x2)), (3, .int (oI y3)), (4, .int (oI y4)), (6, .int (oI y6))]) X.1 X.2.1 dX1_list_91 hl (by decide) (by first | rfl | simp [catK, catI, catR, catL]) (fun ls hl => ?_)
    obtain ⟨y6_40, ey6_40⟩ : ∃ y : Int, y = w32 (y6 + 1) := ⟨_, rfl⟩
    have h := h y6_40 ey6_40
    have ry6_40 : rI y6_40 := by rw [ey6_40]; exact w32_r _
    refine lv_iinc (v := oI y6_40) (lv' := [(6, .int (oI y6_40)), (5, .int (oI y5_39)), (0, .ref (wad w 1 0)), (2, .int (oI x2)), (3, .int (oI y3)), (4, .int (oI y4))]) X.1 X.2.1 dX1_list_93 hl (k := 5) rfl (by rw [ey6_40]; exact oI_add _ _) (by decide) (by first | rfl | simp [catK, catI, catR, catL]) (fun ls hl => ?_)
    refine lv_goto (tgt := 57) X.1 X.2.1 dX1_list_96 (by decide) ?_
    exact hK57 y3 y4 y5_39 y6_40 σ_38 _ _ _ ry3 ry4 ry5_39 ry6_40 (lv_sub hl [2, 3, 4, 5, 1, 0] rfl) hWσ_38 hS h
theorem wk_House_list_L57 {p : Program} {l : Launch} {e : Env} {st : State} {m : MethodId} {args : Array Value} {below : List Frame} {meth : Method} {c : Code} {w : Wp} {x1 : Int} {x2 : Int} {Q : Int → St → Prop} (X : CallFix p m c cX1_list 7 st args lw_all RX1) (hr : meth.sig.returnType = (some .long)) (hlk : meth.locks = false) (hT : Tb w st) (hV : Hvl w) (rx1 : rI x1) (rx2 : rI x2) (K45 : Int → Int → St → Prop) (hK45 : ∀ (y3 y4 : Int) (σ : St) (H : Heap) (locs : List Loc) (ls : Array Slot), rI y3 → rI y4 → lv_has ls 7 [(0, .ref (wad w 1 0)), (2, .int (oI x2)), (3, .int (oI y3)), (4, .int (oI y4))] → Wo w σ H → va_S (wA w) st.heap H locs → K45 y3 y4 σ → W p l e (headSpec (ws_ yX1_list cX1_list 7 (some .long)) rm_House_list).room st m args below meth c H locs 0 0 (MQ below (QcJ w Q) args st 0 0 (wA w)) (F0 m 45 ls [])) : ∀ (y3 y4 y5 y6 : Int) (σ : St) (H : Heap) (locs : List Loc) (ls : Array Slot), rI y3 → rI y4 → rI y5 → rI y6 → lv_has ls 7 [(0, .ref (wad w 1 0)), (2, .int (oI x2)), (3, .int (oI y3)), (4, .int (oI y4)), (5, .int (oI y5)), (6, .int (oI y6))] → Wo w σ H → va_S (wA w) st.heap H locs → lQ4 (wp_House_list_L57 (wc w) (wtv w) x1 x2 Q K45) y3 y4 y5 y6 σ → W p l e (headSpec (ws_ yX1_list cX1_list 7 (some .long)) rm_House_list).room st m args below meth c H locs 0 0 (MQ below (QcJ w Q) args st 0 0 (wA w)) (F0 m 57 ls []) := by
  intro y3 y4 y5 y6 σ H locs ls ry3 ry4 ry5 ry6 hl hW hS h
  obtain ⟨fu, h⟩ := h
  induction fu generalizing y3 y4 y5 y6 σ H locs ls with
  | zero => exact h.elim
  | succ fu ih =>
    exact wk_House_list_L57B X hr hlk hT hV rx1 rx2 K45 (lq4 (wp_House_list_L57 (wc w) (wtv w) x1 x2 Q K45) fu) hK45 (fun y3 y4 y5 y6 σ H locs ls ry3 ry4 ry5 ry6 hl hW hS h => ih y3 y4 y5 y6 σ H locs ls ry3 ry4 ry5 ry6 hl hW hS h) y3 y4 y5 y6 σ H locs ls ry3 ry4 ry5 ry6 hl hW hS h
set_option maxHeartbeats 4000000 in
set_option maxRecDepth 100000 in
theorem wk_House_list_L45B {p : Program} {l : Launch} {e : Env} {st : State} {m : MethodId} {args : Array Value} {below : List Frame} {meth : Method} {c : Code} {w : Wp} {x1 : Int} {x2 : Int} {Q : Int → St → Prop} (X : CallFix p m c cX1_list 7 st args lw_all RX1) (hr : meth.sig.returnType = (some .long)) (hlk : meth.locks = false) (hT : Tb w st) (hV : Hvl w) (rx1 : rI x1) (rx2 : rI x2) (K45 : Int → Int → St → Prop) (hK45 : ∀ (y3 y4 : Int) (σ : St) (H : Heap) (locs : List Loc) (ls : Array Slot), rI y3 → rI y4 → lv_has ls 7 [(0, .ref (wad w 1 0)), (2, .int (oI x2)), (3, .int (oI y3)), (4, .int (oI y4))] → Wo w σ H → va_S (wA w) st.heap H locs → K45 y3 y4 σ → W p l e (headSpec (ws_ yX1_list cX1_list 7 (some .long)) rm_House_list).room st m args below meth c H locs 0 0 (MQ below (QcJ w Q) args st 0 0 (wA w)) (F0 m 45 ls [])) : ∀ (y3 y4 : Int) (σ : St) (H : Heap) (locs : List Loc) (ls : Array Slot), rI y3 → rI y4 → lv_has ls 7 [(0, .ref (wad w 1 0)), (2, .int (oI x2)), (3, .int (oI y3)), (4, .int (oI y4))] → Wo w σ H → va_S (wA w) st.heap H locs → wp_House_list_L45 (wc w) (wtv w) x1 x2 Q K45 y3 y4 σ → W p l e (headSpec (ws_ yX1_list cX1_list 7 (some .long)) rm_House_list).room st m args below meth c H locs 0 0 (MQ below (QcJ w Q) args st 0 0 (wA w)) (F0 m 45 ls []) := by

  intro y3 y4 σ H locs ls ry3 ry4 hl hW hS h
  unfold wp_House_list_L45 at h
  refine lv_iload X.1 X.2.1 dX1_list_45 (lv_at hl 3 rfl) ?_
  refine lv_iload_n X.1 X.2.1 dX1_list_47 rfl (lv_at hl 2 rfl) ?_
  refine w_icmp_ge (tgt := 122) X ry4 ry3 dX1_list_48 (by decide) (fun hc => ?_) (fun hc => ?_)
  · have h := h.1 hc
    refine lv_lconst (v := oL 0) X.1 X.2.1 dX1_list_122 (by decide) ?_
    exact wret_J X hr hlk hW hS (rJ_lit 0 (by decide)) h dX1_list_123
  · have h := h.2 hc
    refine lv_iconst (v := oI 0) X.1 X.2.1 dX1_list_51 rfl ?_
    refine lv_istore (i := 5) (lv' := [(5, .int (oI 0)), (0, .ref (wad w 1 0)), (2, .int (oI x2)), (3, .int (oI y3)), (4, .int (oI y4))]) X.1 X.2.1 dX1_list_52 hl (by decide) (by first | rfl | simp [catK, catI, catR, catL]) (fun ls hl => ?_)
    refine lv_iconst (v := oI 0) X.1 X.2.1 dX1_list_54 rfl ?_
    refine lv_istore (i := 6) (lv' := [(6, .int (oI 0)), (5, .int (oI 0)), (0, .ref (wad w 1 0)), (2, .int (oI x2)), (3, .int (oI y3)), (4, .int (oI y4))]) X.1 X.2.1 dX1_list_55 hl (by decide) (by first | rfl | simp [catK, catI, catR, catL]) (fun ls hl => ?_)
    exact wk_House_list_L57 X hr hlk hT hV rx1 rx2 K45 hK45 y3 y4 0 0 σ _ _ _ ry3 ry4 rZ_0.i rZ_0.i (lv_sub hl [2, 3, 4, 5, 1, 0] rfl) hW hS h
theorem wk_House_list_L45 {p : Program} {l : Launch} {e : Env} {st : State} {m : MethodId} {args : Array Value} {below : List Frame} {meth : Method} {c : Code} {w : Wp} {x1 : Int} {x2 : Int} {Q : Int → St → Prop} (X : CallFix p m c cX1_list 7 st args lw_all RX1) (hr : meth.sig.returnType = (some .long)) (hlk : meth.locks = false) (hT : Tb w st) (hV : Hvl w) (rx1 : rI x1) (rx2 : rI x2) : ∀ (y3 y4 : Int) (σ : St) (H : Heap) (locs : List Loc) (ls : Array Slot), rI y3 → rI y4 → lv_has ls 7 [(0, .ref (wad w 1 0)), (2, .int (oI x2)), (3, .int (oI y3)), (4, .int (oI y4))] → Wo w σ H → va_S (wA w) st.heap H locs → lQ2 (wp_House_list_L45 (wc w) (wtv w) x1 x2 Q) y3 y4 σ → W p l e (headSpec (ws_ yX1_list cX1_list 7 (some .long)) rm_House_list).room st m args below meth c H locs 0 0 (MQ below (QcJ w Q) args st 0 0 (wA w)) (F0 m 45 ls []) := by
  intro y3 y4 σ H locs ls ry3 ry4 hl hW hS h
  obtain ⟨fu, h⟩ := h
  induction fu generalizing y3 y4 σ H locs ls with
  | zero => exact h.elim
  | succ fu ih =>
    exact wk_House_list_L45B X hr hlk hT hV rx1 rx2 (lq2 (wp_House_list_L45 (wc w) (wtv w) x1 x2 Q) fu) (fun y3 y4 σ H locs ls ry3 ry4 hl hW hS h => ih y3 y4 σ H locs ls ry3 ry4 hl hW hS h) y3 y4 σ H locs ls ry3 ry4 hl hW hS h
set_option maxHeartbeats 4000000 in
set_option maxRecDepth 100000 in
theorem met_House_list (l : Launch) {w : Wp} (hV : Hvl w) (x1 : Int) (x2 : Int) (Q : Int → St → Prop) (σ : St) (rx1 : rI x1) (rx2 : rI x2) (h : wp_House_list (wc w) (wtv w) x1 x2 Q σ) : Met l yX1_list (ws_ yX1_list cX1_list 7 (some .long)) rm_House_list (PcW w σ [.ref (wad w 1 0), .int (oI x1), .int (oI x2)]) (QcJ w Q) 0 0 (wA w) := by
  refine Met.ofW (cc := cX1_list) (maxL := 7) (ret := (some .long)) (by decide) rfl ?_
  intro p e st m args below meth c s₁ B hml hv
  obtain ⟨hargs, hW, hT⟩ := hv
  have X : CallFix p m c cX1_list 7 st _ lw_all RX1 := ⟨B.exec, B.bytes, hml, findClass_of_methodNamed B.named, fun w h => atoms_spec (ws := ws_ yX1_list cX1_list 7 (some .long)) B.pre w (List.mem_cons_of_mem _ h)⟩
  have hr := B.returns
  have hlk := B.notSynchronized
  have hS : va_S (wA w) st.heap st.heap [] := va_S.rf
  have vl1_0 : vl w 1 0 := hV.hv 1 rfl ⟨by omega, by show _ < (1 : Int); omega⟩
  have vl10_0 : vl w 10 0 := hV.hv 10 rfl ⟨by omega, by show _ < (4 : Int); omega⟩
  have hl := lv_entry ([.ref (wad w 1 0), .int (oI x1), .int (oI x2)]) (n := 7) (Nat.le_of_ble_eq_true rfl)
  have hfr := lg_entry_eq m ([.ref (wad w 1 0), .int (oI x1), .int (oI x2)]) 7
  rw [← hargs] at hfr
  rw [hfr]
  generalize (lg_sl ([.ref (wad w 1 0), .int (oI x1), .int (oI x2)]) ++ List.replicate (7 - (lg_sl ([.ref (wad w 1 0), .int (oI x1), .int (oI x2)])).length) Slot.unset).toArray = ls at hl ⊢
  have hl : lv_has ls 7 [(0, .ref (wad w 1 0)), (1, .int (oI x1)), (2, .int (oI x2))] := hl
  unfold wp_House_list at h
  refine lv_aload_n X.1 X.2.1 dX1_list_0 rfl (lv_at hl 0 rfl) ?_
  refine wg (v := .int (oI (gI σ 69 0))) X hT hW 1 5 69 vl1_0 rfl rfl (by decide) rfl (by decide) in_X1 q1075 rfl dX1_list_1 ?_
  refine w_if_eq (tgt := 34) X ((hW.r.z 69 0 rfl).i) dX1_list_4 (by decide) (fun hc => ?_) (fun hc => ?_)
  · have h := h.1 hc
    refine lv_lconst (v := oL 0) X.1 X.2.1 dX1_list_34 (by decide) ?_
    exact wret_J X hr hlk hW hS (rJ_lit 0 (by decide)) h dX1_list_35
  · have h := h.2 hc
    refine lv_iload_n X.1 X.2.1 dX1_list_7 rfl (lv_at hl 2 rfl) ?_
    refine w_if_lt (tgt := 34) X rx2 dX1_list_8 (by decide) (fun hc => ?_) (fun hc => ?_)
    · have h := h.1 hc
      refine lv_lconst (v := oL 0) X.1 X.2.1 dX1_list_34 (by decide) ?_
      exact wret_J X hr hlk hW hS (rJ_lit 0 (by decide)) h dX1_list_35
    · have h := h.2 hc
      refine lv_aload_n X.1 X.2.1 dX1_list_11 rfl (lv_at hl 0 rfl) ?_
      refine lv_iload_n X.1 X.2.1 dX1_list_12 rfl (lv_at hl 1 rfl) ?_
      refine lv_aload_n X.1 X.2.1 dX1_list_13 rfl (lv_at hl 0 rfl) ?_
      refine wg (v := .ref (wad w 10 0)) X hT hW 1 14 78 vl1_0 rfl rfl (by decide) rfl (by decide) in_X1 q1084 rfl dX1_list_14 ?_
      refine wr_I (rV (As := [.int (oI x1), .ref (wad w 10 0)]) (rest := []) X hT hW hS (met_House_directory l (w := w) hV x1 0 _ σ rx1 (by omega) h) (cwV 2 X.2.2.2.2 (lw_V q1173 q1175 qs31 q131 q1176) rfl rfl rfl (by decide +kernel) ⟨Nat.le_of_ble_eq_true rfl, Nat.le_of_ble_eq_true rfl⟩) vl1_0 (by decide) rfl rfl hl.1 rfl (by first | exact Nat.le_of_ble_eq_true rfl | simp [catK, catI, catR, catL]) dX1_list_17 ⟨Nat.le_refl _, Nat.le_refl _⟩) hS (fun r_41 σ_42 H locs rr_41 rkσ_42 h hWσ_42 hS => ?_)
      have h := h rr_41 rkσ_42
      refine w_if_lt (tgt := 34) X rr_41 dX1_list_20 (by decide) (fun hc => ?_) (fun hc => ?_)
      · have h := h.1 hc
        refine lv_lconst (v := oL 0) X.1 X.2.1 dX1_list_34 (by decide) ?_
        exact wret_J X hr hlk hWσ_42 hS (rJ_lit 0 (by decide)) h dX1_list_35
      · have h := h.2 hc
        refine lv_iload_n X.1 X.2.1 dX1_list_23 rfl (lv_at hl 2 rfl) ?_
        refine lv_aload_n X.1 X.2.1 dX1_list_24 rfl (lv_at hl 0 rfl) ?_
        refine wg (v := .ref (wad w 10 0)) X hT hWσ_42 1 14 78 vl1_0 rfl rfl (by decide) rfl (by decide) in_X1 q1084 rfl dX1_list_25 ?_
        refine wg (v := .int (oI (gI σ_42 644 0))) X hT hWσ_42 10 4 644 vl10_0 rfl rfl (by decide) rfl (by decide) in_X3 q193 rfl dX1_list_28 ?_
        refine w_icmp_lt (tgt := 36) X rx2 (hWσ_42.r.i 644 0 rfl) dX1_list_31 (by decide) (fun hc => ?_) (fun hc => ?_)
        · have h := h.1 hc
          refine lv_aload_n X.1 X.2.1 dX1_list_36 rfl (lv_at hl 0 rfl) ?_
          refine lv_iload_n X.1 X.2.1 dX1_list_37 rfl (lv_at hl 1 rfl) ?_
          refine wr_I (rV (As := [.int (oI x1)]) (rest := []) X hT hWσ_42 hS (met_House_gather l (w := w) hV x1 _ σ_42 rx1 h) (cwV 1 X.2.2.2.2 (lw_V q1444 q1446 qs59 q131 q1447) rfl rfl rfl (by decide +kernel) ⟨Nat.le_of_ble_eq_true rfl, Nat.le_of_ble_eq_true rfl⟩) vl1_0 (by decide) rfl rfl hl.1 rfl (by first | exact Nat.le_of_ble_eq_true rfl | simp [catK, catI, catR, catL]) dX1_list_38 ⟨Nat.le_refl _, Nat.le_refl _⟩) hS (fun r_43 σ_44 H locs rr_43 rkσ_44 h hWσ_44 hS => ?_)
          have h := h rr_43 rkσ_44
          refine lv_istore_n (i := 3) (lv' := [(3, .int (oI r_43)), (0, .ref (wad w 1 0)), (1, .int (oI x1)), (2, .int (oI x2))]) X.1 X.2.1 dX1_list_41 rfl hl (by decide) (by first | rfl | simp [catK, catI, catR, catL]) (fun ls hl => ?_)
          refine lv_iconst (v := oI 0) X.1 X.2.1 dX1_list_42 rfl ?_
          refine lv_istore (i := 4) (lv' := [(4, .int (oI 0)), (3, .int (oI r_43)), (0, .ref (wad w 1 0)), (1, .int (oI x1)), (2, .int (oI x2))]) X.1 X.2.1 dX1_list_43 hl (by decide) (by first | rfl | simp [catK, catI, catR, catL]) (fun ls hl => ?_)
          exact wk_House_list_L45 X hr hlk hT hV rx1 rx2 r_43 0 σ_44 _ _ _ rr_43 rZ_0.i (lv_sub hl [2, 4, 1, 0] rfl) hWσ_44 hS h
        · have h := h.2 hc
          refine lv_lconst (v := oL 0) X.1 X.2.1 dX1_list_34 (by decide) ?_
          exact wret_J X hr hlk hWσ_42 hS (rJ_lit 0 (by decide)) h dX1_list_35
/-! House.following(IJ)J -/
set_option maxHeartbeats 4000000 in
set_option maxRecDepth 100000 in
theorem wk_House_following_b136 {p : Program} {l : Launch} {e : Env} {st : State} {m : MethodId} {args : Array Value} {below : List Frame} {meth : Method} {c : Code} {w : Wp} {x1 : Int} {x2 : Int} {Q : Int → St → Prop} (X : CallFix p m c cX1_following 15 st args lw_all RX1) (hr : meth.sig.returnType = (some .long)) (hlk : meth.locks = false) (hT : Tb w st) (hV : Hvl w) (rx1 : rI x1) (rx2 : rJ x2) (K140 : Int → Int → Int → St → Prop) (hK140 : ∀ (y5 y7 y9 : Int) (σ : St) (H : Heap) (locs : List Loc) (ls : Array Slot), rJ y5 → rJ y7 → rJ y9 → lv_has ls 15 [(0, .ref (wad w 1 0)), (4, .ref (wad w 6 0)), (5, .long (oL y5)), (7, .long (oL y7)), (9, .long (oL y9))] → Wo w σ H → va_S (wA w) st.heap H locs → K140 y5 y7 y9 σ → W p l e (headSpec (ws_ yX1_following cX1_following 15 (some .long)) rm_House_following).room st m args below meth c H locs 0 0 (MQ below (QcJ w Q) args st 0 0 (wA w)) (F0 m 140 ls [])) : ∀ (y5 y7 y12 : Int) (σ : St) (H : Heap) (locs : List Loc) (ls : Array Slot), rJ y5 → rJ y7 → rJ y12 → lv_has ls 15 [(0, .ref (wad w 1 0)), (4, .ref (wad w 6 0)), (5, .long (oL y5)), (7, .long (oL y7)), (12, .long (oL y12))] → Wo w σ H → va_S (wA w) st.heap H locs → wp_House_following_b136 (wc w) (wtv w) x1 x2 Q K140 y5 y7 y12 σ → W p l e (headSpec (ws_ yX1_following cX1_following 15 (some .long)) rm_House_following).room st m args below meth c H locs 0 0 (MQ below (QcJ w Q) args st 0 0 (wA w)) (F0 m 136 ls []) := by

  intro y5 y7 y12 σ H locs ls ry5 ry7 ry12 hl hW hS h
  unfold wp_House_following_b136 at h
  refine lv_lload X.1 X.2.1 dX1_following_136 (lv_at hl 4 rfl) ?_
  refine lv_lstore (i := 9) (lv' := [(9, .long (oL y12)), (0, .ref (wad w 1 0)), (4, .ref (wad w 6 0)), (5, .long (oL y5)), (7, .long (oL y7)), (12, .long (oL y12))]) X.1 X.2.1 dX1_following_138 hl (by decide) (by first | rfl | simp [catK, catI, catR, catL]) (fun ls hl => ?_)
  exact hK140 y5 y7 y12 σ _ _ _ ry5 ry7 ry12 (lv_sub hl [1, 2, 3, 4, 0] rfl) hW hS h
set_option maxHeartbeats 4000000 in
set_option maxRecDepth 100000 in
theorem wk_House_following_b140 {p : Program} {l : Launch} {e : Env} {st : State} {m : MethodId} {args : Array Value} {below : List Frame} {meth : Method} {c : Code} {w : Wp} {x1 : Int} {x2 : Int} {Q : Int → St → Prop} (X : CallFix p m c cX1_following 15 st args lw_all RX1) (hr : meth.sig.returnType = (some .long)) (hlk : meth.locks = false) (hT : Tb w st) (hV : Hvl w) (rx1 : rI x1) (rx2 : rJ x2) (K35 : Int → Int → Int → Int → St → Prop) (hK35 : ∀ (y5 y7 y9 y11 : Int) (σ : St) (H : Heap) (locs : List Loc) (ls : Array Slot), rJ y5 → rJ y7 → rJ y9 → rZ y11 → lv_has ls 15 [(0, .ref (wad w 1 0)), (4, .ref (wad w 6 0)), (5, .long (oL y5)), (7, .long (oL y7)), (9, .long (oL y9)), (11, .int (oI y11))] → Wo w σ H → va_S (wA w) st.heap H locs → K35 y5 y7 y9 y11 σ → W p l e (headSpec (ws_ yX1_following cX1_following 15 (some .long)) rm_House_following).room st m args below meth c H locs 0 0 (MQ below (QcJ w Q) args st 0 0 (wA w)) (F0 m 35 ls [])) : ∀ (y5 y7 y9 : Int) (σ : St) (H : Heap) (locs : List Loc) (ls : Array Slot), rJ y5 → rJ y7 → rJ y9 → lv_has ls 15 [(0, .ref (wad w 1 0)), (4, .ref (wad w 6 0)), (5, .long (oL y5)), (7, .long (oL y7)), (9, .long (oL y9))] → Wo w σ H → va_S (wA w) st.heap H locs → wp_House_following_b140 (wc w) (wtv w) x1 x2 Q K35 y5 y7 y9 σ → W p l e (headSpec (ws_ yX1_following cX1_following 15 (some .long)) rm_House_following).room st m args below meth c H locs 0 0 (MQ below (QcJ w Q) args st 0 0 (wA w)) (F0 m 140 ls []) := by
  have vl6_0 : vl w 6 0 := hV.hv 6 rfl ⟨by omega, by show _ < (2 : Int); omega⟩
  intro y5 y7 y9 σ H locs ls ry5 ry7 ry9 hl hW hS h
  unfold wp_House_following_b140 at h
  refine lv_aload X.1 X.2.1 dX1_following_140 (lv_at hl 1 rfl) ?_
  refine wr_Z (rV (As := []) (rest := []) X hT hW hS (met_Index_next l (w := w) hV 0 _ σ (by omega) h) (cwV 0 X.2.2.2.2 (lw_V q1065 q1066 q1067 q139 q1068) rfl rfl rfl (by decide +kernel) ⟨Nat.le_of_ble_eq_true rfl, Nat.le_of_ble_eq_true rfl⟩) vl6_0 (by decide) rfl rfl hl.1 rfl (by first | exact Nat.le_of_ble_eq_true rfl | simp [catK, catI, catR, catL]) dX1_following_142 ⟨Nat.le_refl _, Nat.le_refl _⟩) hS (fun r_22 σ_23 H locs rr_22 rkσ_23 h hWσ_23 hS => ?_)
  have h := h rr_22 rkσ_23
  refine lv_istore (i := 11) (lv' := [(11, .int (oI r_22)), (0, .ref (wad w 1 0)), (4, .ref (wad w 6 0)), (5, .long (oL y5)), (7, .long (oL y7)), (9, .long (oL y9))]) X.1 X.2.1 dX1_following_145 hl (by decide) (by first | rfl | simp [catK, catI, catR, catL]) (fun ls hl => ?_)
  refine lv_goto (tgt := 35) X.1 X.2.1 dX1_following_147 (by decide) ?_
  exact hK35 y5 y7 y9 r_22 σ_23 _ _ _ ry5 ry7 ry9 rr_22 (lv_sub hl [1, 2, 3, 4, 5, 0] rfl) hWσ_23 hS h
set_option maxHeartbeats 4000000 in
set_option maxRecDepth 100000 in
theorem wk_House_following_b150 {p : Program} {l : Launch} {e : Env} {st : State} {m : MethodId} {args : Array Value} {below : List Frame} {meth : Method} {c : Code} {w : Wp} {x1 : Int} {x2 : Int} {Q : Int → St → Prop} (X : CallFix p m c cX1_following 15 st args lw_all RX1) (hr : meth.sig.returnType = (some .long)) (hlk : meth.locks = false) (hT : Tb w st) (hV : Hvl w) (rx1 : rI x1) (rx2 : rJ x2) : ∀ (y9 : Int) (σ : St) (H : Heap) (locs : List Loc) (ls : Array Slot), rJ y9 → lv_has ls 15 [(9, .long (oL y9))] → Wo w σ H → va_S (wA w) st.heap H locs → wp_House_following_b150 (wc w) (wtv w) x1 x2 Q y9 σ → W p l e (headSpec (ws_ yX1_following cX1_following 15 (some .long)) rm_House_following).room st m args below meth c H locs 0 0 (MQ below (QcJ w Q) args st 0 0 (wA w)) (F0 m 150 ls []) := by

  intro y9 σ H locs ls ry9 hl hW hS h
  unfold wp_House_following_b150 at h
  refine lv_lload X.1 X.2.1 dX1_following_150 (lv_at hl 0 rfl) ?_
  refine wr_J (rS (As := [.long (oL y9)]) (rest := []) X hT hW hS (met_Long_reverseBytes l (w := w) y9 _ σ ry9 h) (va_cwS 1 X.2.2.2.2 (lw_S q1449 q1324 q148 q1325) rfl rfl rfl (by decide +kernel) ⟨Nat.le_of_ble_eq_true rfl, Nat.le_of_ble_eq_true rfl⟩) rfl hl.1 rfl (by first | exact Nat.le_of_ble_eq_true rfl | simp [catK, catI, catR, catL]) dX1_following_152 ⟨Nat.le_refl _, Nat.le_refl _⟩) hS (fun r_24 σ_25 H locs rr_24 rkσ_25 h hWσ_25 hS => ?_)
  have h := h rr_24 rkσ_25
  exact wret_J X hr hlk hWσ_25 hS rr_24 h dX1_following_155
set_option maxHeartbeats 4000000 in
set_option maxRecDepth 100000 in
theorem wk_House_following_L35B {p : Program} {l : Launch} {e : Env} {st : State} {m : MethodId} {args : Array Value} {below : List Frame} {meth : Method} {c : Code} {w : Wp} {x1 : Int} {x2 : Int} {Q : Int → St → Prop} (X : CallFix p m c cX1_following 15 st args lw_all RX1) (hr : meth.sig.returnType = (some .long)) (hlk : meth.locks = false) (hT : Tb w st) (hV : Hvl w) (rx1 : rI x1) (rx2 : rJ x2) (K35 : Int → Int → Int → Int → St → Prop) (hK35 : ∀ (y5 y7 y9 y11 : Int) (σ : St) (H : Heap) (locs : List Loc) (ls : Array Slot), rJ y5 → rJ y7 → rJ y9 → rZ y11 → lv_has ls 15 [(0, .ref (wad w 1 0)), (4, .ref (wad w 6 0)), (5, .long (oL y5)), (7, .long (oL y7)), (9, .long (oL y9)), (11, .int (oI y11))] → Wo w σ H → va_S (wA w) st.heap H locs → K35 y5 y7 y9 y11 σ → W p l e (headSpec (ws_ yX1_following cX1_following 15 (some .long)) rm_House_following).room st m args below meth c H locs 0 0 (MQ below (QcJ w Q) args st 0 0 (wA w)) (F0 m 35 ls [])) : ∀ (y5 y7 y9 y11 : Int) (σ : St) (H : Heap) (locs : List Loc) (ls : Array Slot), rJ y5 → rJ y7 → rJ y9 → rZ y11 → lv_has ls 15 [(0, .ref (wad w 1 0)), (4, .ref (wad w 6 0)), (5, .long (oL y5)), (7, .long (oL y7)), (9, .long (oL y9)), (11, .int (oI y11))] → Wo w σ H → va_S (wA w) st.heap H locs → wp_House_following_L35 (wc w) (wtv w) x1 x2 Q K35 y5 y7 y9 y11 σ → W p l e (headSpec (ws_ yX1_following cX1_following 15 (some .long)) rm_House_following).room st m args below meth c H locs 0 0 (MQ below (QcJ w Q) args st 0 0 (wA w)) (F0 m 35 ls []) := by
  have vl1_0 : vl w 1 0 := hV.hv 1 rfl ⟨by omega, by show _ < (1 : Int); omega⟩
  have vl3_0 : vl w 3 0 := hV.hv 3 rfl ⟨by omega, by show _ < (2 : Int); omega⟩
  have vl6_0 : vl w 6 0 := hV.hv 6 rfl ⟨by omega, by show _ < (2 : Int); omega⟩
  have vl8_0 : vl w 8 0 := hV.hv 8 rfl ⟨by omega, by show _ < (8 : Int); omega⟩
  intro y5 y7 y9 y11 σ H locs ls ry5 ry7 ry9 ry11 hl hW hS h
  unfold wp_House_following_L35 at h
  refine lv_iload X.1 X.2.1 dX1_following_35 (lv_at hl 5 rfl) ?_
  refine w_if_eq (tgt := 150) X ry11.i dX1_following_37 (by decide) (fun hc => ?_) (fun hc => ?_)
  · have h := h.1 hc
    exact wk_House_following_b150 X hr hlk hT hV rx1 rx2 y9 σ _ _ _ ry9 (lv_sub hl [4] rfl) hW hS h
  · have h := h.2 hc
    refine lv_aload X.1 X.2.1 dX1_following_40 (lv_at hl 1 rfl) ?_
    refine wg (v := .long (oL (gI σ 391 0))) X hT hW 6 7 391 vl6_0 rfl rfl (by decide) rfl (by decide) in_X8 q454 rfl dX1_following_42 ?_
    refine lv_lload X.1 X.2.1 dX1_following_45 (lv_at hl 2 rfl) ?_
    refine w_lcmp_ne (tgt := 150) X (hW.r.j 391 0 rfl) ry5 dX1_following_47 dX1_following_48 (by decide) (fun hc => ?_) (fun hc => ?_)
    · have h := h.1 hc
      exact wk_House_following_b150 X hr hlk hT hV rx1 rx2 y9 σ _ _ _ ry9 (lv_sub hl [4] rfl) hW hS h
    · have h := h.2 hc
      refine lv_aload_n X.1 X.2.1 dX1_following_51 rfl (lv_at hl 0 rfl) ?_
      refine wg (v := .ref (wad w 3 0)) X hT hW 1 1 65 vl1_0 rfl rfl (by decide) rfl (by decide) in_X1 q1071 rfl dX1_following_52 ?_
      refine lv_aload X.1 X.2.1 dX1_following_55 (lv_at hl 1 rfl) ?_
      refine wg (v := .int (oI (gI σ 393 0))) X hT hW 6 9 393 vl6_0 rfl rfl (by decide) rfl (by decide) in_X8 q460 rfl dX1_following_57 ?_
      refine lv_aload X.1 X.2.1 dX1_following_60 (lv_at hl 1 rfl) ?_
      refine wg (v := .int (oI (gI σ 394 0))) X hT hW 6 10 394 vl6_0 rfl rfl (by decide) rfl (by decide) in_X8 q463 rfl dX1_following_62 ?_
      refine lv_aload X.1 X.2.1 dX1_following_65 (lv_at hl 1 rfl) ?_
      refine wg (v := .int (oI (gI σ 395 0))) X hT hW 6 11 395 vl6_0 rfl rfl (by decide) rfl (by decide) in_X8 q466 rfl dX1_following_67 ?_
      refine lv_aload_n X.1 X.2.1 dX1_following_70 rfl (lv_at hl 0 rfl) ?_
      refine wg (v := .ref (wad w 3 0)) X hT hW 1 1 65 vl1_0 rfl rfl (by decide) rfl (by decide) in_X1 q1071 rfl dX1_following_71 ?_
      refine wg (v := .ref (wad w 8 0)) X hT hW 3 6 198 vl3_0 rfl rfl (by decide) rfl (by decide) in_X5 q532 rfl dX1_following_74 ?_
      refine wr_V (rV (As := [.int (oI (gI σ 393 0)), .int (oI (gI σ 394 0)), .int (oI (gI σ 395 0)), .ref (wad w 8 0)]) (rest := []) X hT hW hS (met_Store_read l (w := w) hV 0 (gI σ 393 0) (gI σ 394 0) (gI σ 395 0) 0 _ σ (by omega) (hW.r.i 393 0 rfl) (hW.r.i 394 0 rfl) (hW.r.i 395 0 rfl) (by omega) h) (cwV 4 X.2.2.2.2 (lw_V q1183 q1184 q1185 q136 q1186) rfl rfl rfl (by decide +kernel) ⟨Nat.le_of_ble_eq_true rfl, Nat.le_of_ble_eq_true rfl⟩) vl3_0 (by decide) rfl rfl hl.1 rfl (by first | exact Nat.le_of_ble_eq_true rfl | simp [catK, catI, catR, catL]) dX1_following_77 ⟨Nat.le_refl _, Nat.le_refl _⟩) hS (fun σ_27 H locs rkσ_27 h hWσ_27 hS => ?_)
      have h := h rkσ_27
      refine lv_aload_n X.1 X.2.1 dX1_following_80 rfl (lv_at hl 0 rfl) ?_
      refine wg (v := .ref (wad w 3 0)) X hT hWσ_27 1 1 65 vl1_0 rfl rfl (by decide) rfl (by decide) in_X1 q1071 rfl dX1_following_81 ?_
      refine wg (v := .ref (wad w 8 0)) X hT hWσ_27 3 6 198 vl3_0 rfl rfl (by decide) rfl (by decide) in_X5 q532 rfl dX1_following_84 ?_
      refine lv_bipush (v := oI 8) X.1 X.2.1 dX1_following_87 (by decide) ?_
      refine wr_J (rV (As := [.int (oI 8)]) (rest := []) X hT hWσ_27 hS (met_Row_getLongAt l (w := w) hV 0 8 _ σ_27 (by omega) ((rB_lit 8 (by decide)).i) h) (cwV 1 X.2.2.2.2 (lw_V q1218 q1219 q1220 q132 q1221) rfl rfl rfl (by decide +kernel) ⟨Nat.le_of_ble_eq_true rfl, Nat.le_of_ble_eq_true rfl⟩) vl8_0 (by decide) rfl rfl hl.1 rfl (by first | exact Nat.le_of_ble_eq_true rfl | simp [catK, catI, catR, catL]) dX1_following_89 ⟨Nat.le_refl _, Nat.le_refl _⟩) hS (fun r_28 σ_29 H locs rr_28 rkσ_29 h hWσ_29 hS => ?_)
      have h := h rr_28 rkσ_29
      refine wr_J (rS (As := [.long (oL r_28)]) (rest := []) X hT hWσ_29 hS (met_Long_reverseBytes l (w := w) r_28 _ σ_29 rr_28 h) (va_cwS 1 X.2.2.2.2 (lw_S q1449 q1324 q148 q1325) rfl rfl rfl (by decide +kernel) ⟨Nat.le_of_ble_eq_true rfl, Nat.le_of_ble_eq_true rfl⟩) rfl hl.1 rfl (by first | exact Nat.le_of_ble_eq_true rfl | simp [catK, catI, catR, catL]) dX1_following_92 ⟨Nat.le_refl _, Nat.le_refl _⟩) hS (fun r_30 σ_31 H locs rr_30 rkσ_31 h hWσ_31 hS => ?_)
      have h := h rr_30 rkσ_31
      refine lv_lstore (i := 12) (lv' := [(12, .long (oL r_30)), (0, .ref (wad w 1 0)), (4, .ref (wad w 6 0)), (5, .long (oL y5)), (7, .long (oL y7)), (9, .long (oL y9)), (11, .int (oI y11))]) X.1 X.2.1 dX1_following_95 hl (by decide) (by first | rfl | simp [catK, catI, catR, catL]) (fun ls hl => ?_)
      refine lv_lload X.1 X.2.1 dX1_following_97 (lv_at hl 0 rfl) ?_
      refine lv_lload X.1 X.2.1 dX1_following_99 (lv_at hl 4 rfl) ?_
      refine wr_I (rS (As := [.long (oL r_30), .long (oL y7)]) (rest := []) X hT hWσ_31 hS (met_Long_compareUnsigned l (w := w) r_30 y7 _ σ_31 rr_30 ry7 h) (va_cwS 2 X.2.2.2.2 (lw_S q1450 q917 q148 q918) rfl rfl rfl (by decide +kernel) ⟨Nat.le_of_ble_eq_true rfl, Nat.le_of_ble_eq_true rfl⟩) rfl hl.1 rfl (by first | exact Nat.le_of_ble_eq_true rfl | simp [catK, catI, catR, catL]) dX1_following_101 ⟨Nat.le_refl _, Nat.le_refl _⟩) hS (fun r_32 σ_33 H locs rr_32 rkσ_33 h hWσ_33 hS => ?_)
      have h := h rr_32 rkσ_33
      refine w_cut (pc2 := 112) (st2 := [.int (oI (if r_32 ≤ 0 then (0 : Int) else (1 : Int)))]) (fun hj => ?_) ?_
      · refine w_if_le (tgt := 111) X rr_32 dX1_following_104 (by decide) (fun hc => ?_) (fun hc => ?_)
        · refine lv_iconst (v := oI 0) X.1 X.2.1 dX1_following_111 rfl ?_
          rw [if_pos hc] at hj; exact hj
        · refine lv_iconst (v := oI 1) X.1 X.2.1 dX1_following_107 rfl ?_
          refine lv_goto (tgt := 112) X.1 X.2.1 dX1_following_108 (by decide) ?_
          rw [if_neg hc] at hj; exact hj
      refine w_top (fun y14_34 ey14_34 => ?_)
      have h := h y14_34 ey14_34
      have ry14_34 : rZ y14_34 := by rw [ey14_34]; exact (ite_rZ rZ_0 rZ_1)
      refine lv_istore (i := 14) (lv' := [(14, .int (oI y14_34)), (12, .long (oL r_30)), (0, .ref (wad w 1 0)), (4, .ref (wad w 6 0)), (5, .long (oL y5)), (7, .long (oL y7)), (9, .long (oL y9)), (11, .int (oI y11))]) X.1 X.2.1 dX1_following_112 hl (by decide) (by first | rfl | simp [catK, catI, catR, catL]) (fun ls hl => ?_)
      refine lv_iload X.1 X.2.1 dX1_following_114 (lv_at hl 0 rfl) ?_
      refine w_if_eq (tgt := 140) X ry14_34.i dX1_following_116 (by decide) (fun hc => ?_) (fun hc => ?_)
      · have h := h.1 hc
        exact wk_House_following_b140 X hr hlk hT hV rx1 rx2 K35 hK35 y5 y7 y9 σ_33 _ _ _ ry5 ry7 ry9 (lv_sub hl [2, 3, 4, 5, 6] rfl) hWσ_33 hS h
      · have h := h.2 hc
        refine lv_lload X.1 X.2.1 dX1_following_119 (lv_at hl 6 rfl) ?_
        refine lv_lconst (v := oL 0) X.1 X.2.1 dX1_following_121 (by decide) ?_
        refine w_lcmp_eq (tgt := 136) X ry9 (rJ_lit 0 (by decide)) dX1_following_122 dX1_following_123 (by decide) (fun hc => ?_) (fun hc => ?_)
        · have h := h.1 hc
          exact wk_House_following_b136 X hr hlk hT hV rx1 rx2 (wp_House_following_b140 (wc w) (wtv w) x1 x2 Q K35) (wk_House_following_b140 X hr hlk hT hV rx1 rx2 K35 hK35) y5 y7 r_30 σ_33 _ _ _ ry5 ry7 rr_30 (lv_sub hl [2, 3, 4, 5, 1] rfl) hWσ_33 hS h
        · have h := h.2 hc
          refine lv_lload X.1 X.2.1 dX1_following_126 (lv_at hl 1 rfl) ?_
          refine lv_lload X.1 X.2.1 dX1_following_128 (lv_at hl 6 rfl) ?_
          refine wr_I (rS (As := [.long (oL r_30), .long (oL y9)]) (rest := []) X hT hWσ_33 hS (met_Long_compareUnsigned l (w := w) r_30 y9 _ σ_33 rr_30 ry9 h) (va_cwS 2 X.2.2.2.2 (lw_S q1450 q917 q148 q918) rfl rfl rfl (by decide +kernel) ⟨Nat.le_of_ble_eq_true rfl, Nat.le_of_ble_eq_true rfl⟩) rfl hl.1 rfl (by first | exact Nat.le_of_ble_eq_true rfl | simp [catK, catI, catR, catL]) dX1_following_130 ⟨Nat.le_refl _, Nat.le_refl _⟩) hS (fun r_35 σ_36 H locs rr_35 rkσ_36 h hWσ_36 hS => ?_)
          have h := h rr_35 rkσ_36
          refine w_if_ge (tgt := 140) X rr_35 dX1_following_133 (by decide) (fun hc => ?_) (fun hc => ?_)
          · have h := h.1 hc
            exact wk_House_following_b140 X hr hlk hT hV rx1 rx2 K35 hK35 y5 y7 y9 σ_36 _ _ _ ry5 ry7 ry9 (lv_sub hl [2, 3, 4, 5, 6] rfl) hWσ_36 hS h
          · have h := h.2 hc
            exact wk_House_following_b136 X hr hlk hT hV rx1 rx2 (wp_House_following_b140 (wc w) (wtv w) x1 x2 Q K35) (wk_House_following_b140 X hr hlk hT hV rx1 rx2 K35 hK35) y5 y7 r_30 σ_36 _ _ _ ry5 ry7 rr_30 (lv_sub hl [2, 3, 4, 5, 1] rfl) hWσ_36 hS h
theorem wk_House_following_L35 {p : Program} {l : Launch} {e : Env} {st : State} {m : MethodId} {args : Array Value} {below : List Frame} {meth : Method} {c : Code} {w : Wp} {x1 : Int} {x2 : Int} {Q : Int → St → Prop} (X : CallFix p m c cX1_following 15 st args lw_all RX1) (hr : meth.sig.returnType = (some .long)) (hlk : meth.locks = false) (hT : Tb w st) (hV : Hvl w) (rx1 : rI x1) (rx2 : rJ x2) : ∀ (y5 y7 y9 y11 : Int) (σ : St) (H : Heap) (locs : List Loc) (ls : Array Slot), rJ y5 → rJ y7 → rJ y9 → rZ y11 → lv_has ls 15 [(0, .ref (wad w 1 0)), (4, .ref (wad w 6 0)), (5, .long (oL y5)), (7, .long (oL y7)), (9, .long (oL y9)), (11, .int (oI y11))] → Wo w σ H → va_S (wA w) st.heap H locs → lQ4 (wp_House_following_L35 (wc w) (wtv w) x1 x2 Q) y5 y7 y9 y11 σ → W p l e (headSpec (ws_ yX1_following cX1_following 15 (some .long)) rm_House_following).room st m args below meth c H locs 0 0 (MQ below (QcJ w Q) args st 0 0 (wA w)) (F0 m 35 ls []) := by
  intro y5 y7 y9 y11 σ H locs ls ry5 ry7 ry9 ry11 hl hW hS h
  obtain ⟨fu, h⟩ := h
  induction fu generalizing y5 y7 y9 y11 σ H locs ls with
  | zero => exact h.elim
  | succ fu ih =>
    exact wk_House_following_L35B X hr hlk hT hV rx1 rx2 (lq4 (wp_House_following_L35 (wc w) (wtv w) x1 x2 Q) fu) (fun y5 y7 y9 y11 σ H locs ls ry5 ry7 ry9 ry11 hl hW hS h => ih y5 y7 y9 y11 σ H locs ls ry5 ry7 ry9 ry11 hl hW hS h) y5 y7 y9 y11 σ H locs ls ry5 ry7 ry9 ry11 hl hW hS h
set_option maxHeartbeats 4000000 in
set_option maxRecDepth 100000 in
theorem met_House_following (l : Launch) {w : Wp} (hV : Hvl w) (x1 : Int) (x2 : Int) (Q : Int → St → Prop) (σ : St) (rx1 : rI x1) (rx2 : rJ x2) (h : wp_House_following (wc w) (wtv w) x1 x2 Q σ) : Met l yX1_following (ws_ yX1_following cX1_following 15 (some .long)) rm_House_following (PcW w σ [.ref (wad w 1 0), .int (oI x1), .long (oL x2)]) (QcJ w Q) 0 0 (wA w) := by
  refine Met.ofW (cc := cX1_following) (maxL := 15) (ret := (some .long)) (by decide) rfl ?_
  intro p e st m args below meth c s₁ B hml hv
  obtain ⟨hargs, hW, hT⟩ := hv
  have X : CallFix p m c cX1_following 15 st _ lw_all RX1 := ⟨B.exec, B.bytes, hml, findClass_of_methodNamed B.named, fun w h => atoms_spec (ws := ws_ yX1_following cX1_following 15 (some .long)) B.pre w (List.mem_cons_of_mem _ h)⟩
  have hr := B.returns
  have hlk := B.notSynchronized
  have hS : va_S (wA w) st.heap st.heap [] := va_S.rf
  have vl1_0 : vl w 1 0 := hV.hv 1 rfl ⟨by omega, by show _ < (1 : Int); omega⟩
  have vl3_0 : vl w 3 0 := hV.hv 3 rfl ⟨by omega, by show _ < (2 : Int); omega⟩
  have vl6_0 : vl w 6 0 := hV.hv 6 rfl ⟨by omega, by show _ < (2 : Int); omega⟩
  have hl := lv_entry ([.ref (wad w 1 0), .int (oI x1), .long (oL x2)]) (n := 15) (Nat.le_of_ble_eq_true rfl)
  have hfr := lg_entry_eq m ([.ref (wad w 1 0), .int (oI x1), .long (oL x2)]) 15
  rw [← hargs] at hfr
  rw [hfr]
  generalize (lg_sl ([.ref (wad w 1 0), .int (oI x1), .long (oL x2)]) ++ List.replicate (15 - (lg_sl ([.ref (wad w 1 0), .int (oI x1), .long (oL x2)])).length) Slot.unset).toArray = ls at hl ⊢
  have hl : lv_has ls 15 [(0, .ref (wad w 1 0)), (1, .int (oI x1)), (2, .long (oL x2))] := hl
  unfold wp_House_following at h
  refine lv_aload_n X.1 X.2.1 dX1_following_0 rfl (lv_at hl 0 rfl) ?_
  refine wg (v := .ref (wad w 3 0)) X hT hW 1 1 65 vl1_0 rfl rfl (by decide) rfl (by decide) in_X1 q1071 rfl dX1_following_1 ?_
  refine wg (v := .ref (wad w 6 0)) X hT hW 3 2 194 vl3_0 rfl rfl (by decide) rfl (by decide) in_X5 q527 rfl dX1_following_4 ?_
  refine lv_astore (i := 4) (lv' := [(4, .ref (wad w 6 0)), (0, .ref (wad w 1 0)), (1, .int (oI x1)), (2, .long (oL x2))]) X.1 X.2.1 dX1_following_7 hl (by decide) (by first | rfl | simp [catK, catI, catR, catL]) (fun ls hl => ?_)
  refine lv_iload_n X.1 X.2.1 dX1_following_9 rfl (lv_at hl 2 rfl) ?_
  refine lv_iconst (v := oI 2) X.1 X.2.1 dX1_following_10 rfl ?_
  refine wr_J (rS (As := [.int (oI x1), .int (oI 2)]) (rest := []) X hT hW hS (met_House_keyOf l (w := w) x1 2 _ σ rx1 ((rB_lit 2 (by decide)).i) h) (va_cwS 2 X.2.2.2.2 (lw_S q1181 q894 q131 q895) rfl rfl rfl (by decide +kernel) ⟨Nat.le_of_ble_eq_true rfl, Nat.le_of_ble_eq_true rfl⟩) rfl hl.1 rfl (by first | exact Nat.le_of_ble_eq_true rfl | simp [catK, catI, catR, catL]) dX1_following_11 ⟨Nat.le_refl _, Nat.le_refl _⟩) hS (fun r_37 σ_38 H locs rr_37 rkσ_38 h hWσ_38 hS => ?_)
  have h := h rr_37 rkσ_38
  refine lv_lstore (i := 5) (lv' := [(5, .long (oL r_37)), (4, .ref (wad w 6 0)), (0, .ref (wad w 1 0)), (1, .int (oI x1)), (2, .long (oL x2))]) X.1 X.2.1 dX1_following_14 hl (by decide) (by first | rfl | simp [catK, catI, catR, catL]) (fun ls hl => ?_)
  refine lv_lload_n X.1 X.2.1 dX1_following_16 rfl (lv_at hl 4 rfl) ?_
  refine wr_J (rS (As := [.long (oL x2)]) (rest := []) X hT hWσ_38 hS (met_Long_reverseBytes l (w := w) x2 _ σ_38 rx2 h) (va_cwS 1 X.2.2.2.2 (lw_S q1449 q1324 q148 q1325) rfl rfl rfl (by decide +kernel) ⟨Nat.le_of_ble_eq_true rfl, Nat.le_of_ble_eq_true rfl⟩) rfl hl.1 rfl (by first | exact Nat.le_of_ble_eq_true rfl | simp [catK, catI, catR, catL]) dX1_following_17 ⟨Nat.le_refl _, Nat.le_refl _⟩) hS (fun r_39 σ_40 H locs rr_39 rkσ_40 h hWσ_40 hS => ?_)
  have h := h rr_39 rkσ_40
  refine lv_lstore (i := 7) (lv' := [(7, .long (oL r_39)), (5, .long (oL r_37)), (4, .ref (wad w 6 0)), (0, .ref (wad w 1 0)), (1, .int (oI x1)), (2, .long (oL x2))]) X.1 X.2.1 dX1_following_20 hl (by decide) (by first | rfl | simp [catK, catI, catR, catL]) (fun ls hl => ?_)
  refine lv_lconst (v := oL 0) X.1 X.2.1 dX1_following_22 (by decide) ?_
  refine lv_lstore (i := 9) (lv' := [(9, .long (oL 0)), (7, .long (oL r_39)), (5, .long (oL r_37)), (4, .ref (wad w 6 0)), (0, .ref (wad w 1 0)), (1, .int (oI x1)), (2, .long (oL x2))]) X.1 X.2.1 dX1_following_23 hl (by decide) (by first | rfl | simp [catK, catI, catR, catL]) (fun ls hl => ?_)
  refine lv_aload X.1 X.2.1 dX1_following_25 (lv_at hl 3 rfl) ?_
  refine lv_lload X.1 X.2.1 dX1_following_27 (lv_at hl 2 rfl) ?_
  refine lv_lconst (v := oL 0) X.1 X.2.1 dX1_following_29 (by decide) ?_
  refine wr_Z (rV (As := [.long (oL r_37), .long (oL 0)]) (rest := []) X hT hWσ_40 hS (met_Index_seek l (w := w) hV 0 r_37 0 _ σ_40 (by omega) rr_37 (rJ_lit 0 (by decide)) h) (cwV 2 X.2.2.2.2 (lw_V q1064 q906 q907 q139 q908) rfl rfl rfl (by decide +kernel) ⟨Nat.le_of_ble_eq_true rfl, Nat.le_of_ble_eq_true rfl⟩) vl6_0 (by decide) rfl rfl hl.1 rfl (by first | exact Nat.le_of_ble_eq_true rfl | simp [catK, catI, catR, catL]) dX1_following_30 ⟨Nat.le_refl _, Nat.le_refl _⟩) hS (fun r_41 σ_42 H locs rr_41 rkσ_42 h hWσ_42 hS => ?_)
  have h := h rr_41 rkσ_42
  refine lv_istore (i := 11) (lv' := [(11, .int (oI r_41)), (9, .long (oL 0)), (7, .long (oL r_39)), (5, .long (oL r_37)), (4, .ref (wad w 6 0)), (0, .ref (wad w 1 0)), (1, .int (oI x1)), (2, .long (oL x2))]) X.1 X.2.1 dX1_following_33 hl (by decide) (by first | rfl | simp [catK, catI, catR, catL]) (fun ls hl => ?_)
  exact wk_House_following_L35 X hr hlk hT hV rx1 rx2 r_37 r_39 0 r_41 σ_42 _ _ _ rr_37 rr_39 (rJ_lit 0 (by decide)) rr_41 (lv_sub hl [5, 4, 3, 2, 1, 0] rfl) hWσ_42 hS h
/-! House.after(IJ)J -/
set_option maxHeartbeats 4000000 in
set_option maxRecDepth 100000 in
theorem wk_House_after_b32 {p : Program} {l : Launch} {e : Env} {st : State} {m : MethodId} {args : Array Value} {below : List Frame} {meth : Method} {c : Code} {w : Wp} {x1 : Int} {x2 : Int} {Q : Int → St → Prop} (X : CallFix p m c cX1_after 4 st args lw_all RX1) (hr : meth.sig.returnType = (some .long)) (hlk : meth.locks = false) (hT : Tb w st) (hV : Hvl w) (rx1 : rI x1) (rx2 : rJ x2) : ∀ (σ : St) (H : Heap) (locs : List Loc) (ls : Array Slot), lv_has ls 4 [] → Wo w σ H → va_S (wA w) st.heap H locs → wp_House_after_b32 (wc w) (wtv w) x1 x2 Q σ → W p l e (headSpec (ws_ yX1_after cX1_after 4 (some .long)) rm_House_after).room st m args below meth c H locs 0 0 (MQ below (QcJ w Q) args st 0 0 (wA w)) (F0 m 32 ls []) := by

  intro σ H locs ls hl hW hS h
  unfold wp_House_after_b32 at h
  refine lv_lconst (v := oL 0) X.1 X.2.1 dX1_after_32 (by decide) ?_
  refine lv_goto (tgt := 42) X.1 X.2.1 dX1_after_33 (by decide) ?_
  exact wret_J X hr hlk hW hS (rJ_lit 0 (by decide)) h dX1_after_42
set_option maxHeartbeats 4000000 in
set_option maxRecDepth 100000 in
theorem wk_House_after_b36 {p : Program} {l : Launch} {e : Env} {st : State} {m : MethodId} {args : Array Value} {below : List Frame} {meth : Method} {c : Code} {w : Wp} {x1 : Int} {x2 : Int} {Q : Int → St → Prop} (X : CallFix p m c cX1_after 4 st args lw_all RX1) (hr : meth.sig.returnType = (some .long)) (hlk : meth.locks = false) (hT : Tb w st) (hV : Hvl w) (rx1 : rI x1) (rx2 : rJ x2) : ∀ (σ : St) (H : Heap) (locs : List Loc) (ls : Array Slot), lv_has ls 4 [(0, .ref (wad w 1 0)), (1, .int (oI x1)), (2, .long (oL x2))] → Wo w σ H → va_S (wA w) st.heap H locs → wp_House_after_b36 (wc w) (wtv w) x1 x2 Q σ → W p l e (headSpec (ws_ yX1_after cX1_after 4 (some .long)) rm_House_after).room st m args below meth c H locs 0 0 (MQ below (QcJ w Q) args st 0 0 (wA w)) (F0 m 36 ls []) := by
  have vl1_0 : vl w 1 0 := hV.hv 1 rfl ⟨by omega, by show _ < (1 : Int); omega⟩
  intro σ H locs ls hl hW hS h
  unfold wp_House_after_b36 at h
  refine lv_aload_n X.1 X.2.1 dX1_after_36 rfl (lv_at hl 0 rfl) ?_
  refine lv_iload_n X.1 X.2.1 dX1_after_37 rfl (lv_at hl 1 rfl) ?_
  refine lv_lload_n X.1 X.2.1 dX1_after_38 rfl (lv_at hl 2 rfl) ?_
  refine wr_J (rV (As := [.int (oI x1), .long (oL x2)]) (rest := []) X hT hW hS (met_House_following l (w := w) hV x1 x2 _ σ rx1 rx2 h) (cwV 2 X.2.2.2.2 (lw_V q1455 q1457 qs60 q131 q1458) rfl rfl rfl (by decide +kernel) ⟨Nat.le_of_ble_eq_true rfl, Nat.le_of_ble_eq_true rfl⟩) vl1_0 (by decide) rfl rfl hl.1 rfl (by first | exact Nat.le_of_ble_eq_true rfl | simp [catK, catI, catR, catL]) dX1_after_39 ⟨Nat.le_refl _, Nat.le_refl _⟩) hS (fun r_7 σ_8 H locs rr_7 rkσ_8 h hWσ_8 hS => ?_)
  have h := h rr_7 rkσ_8
  exact wret_J X hr hlk hWσ_8 hS rr_7 h dX1_after_42
set_option maxHeartbeats 4000000 in
set_option maxRecDepth 100000 in
theorem met_House_after (l : Launch) {w : Wp} (hV : Hvl w) (x1 : Int) (x2 : Int) (Q : Int → St → Prop) (σ : St) (rx1 : rI x1) (rx2 : rJ x2) (h : wp_House_after (wc w) (wtv w) x1 x2 Q σ) : Met l yX1_after (ws_ yX1_after cX1_after 4 (some .long)) rm_House_after (PcW w σ [.ref (wad w 1 0), .int (oI x1), .long (oL x2)]) (QcJ w Q) 0 0 (wA w) := by
  refine Met.ofW (cc := cX1_after) (maxL := 4) (ret := (some .long)) (by decide) rfl ?_
  intro p e st m args below meth c s₁ B hml hv
  obtain ⟨hargs, hW, hT⟩ := hv
  have X : CallFix p m c cX1_after 4 st _ lw_all RX1 := ⟨B.exec, B.bytes, hml, findClass_of_methodNamed B.named, fun w h => atoms_spec (ws := ws_ yX1_after cX1_after 4 (some .long)) B.pre w (List.mem_cons_of_mem _ h)⟩
  have hr := B.returns
  have hlk := B.notSynchronized
  have hS : va_S (wA w) st.heap st.heap [] := va_S.rf
  have vl1_0 : vl w 1 0 := hV.hv 1 rfl ⟨by omega, by show _ < (1 : Int); omega⟩
  have vl10_0 : vl w 10 0 := hV.hv 10 rfl ⟨by omega, by show _ < (4 : Int); omega⟩
  have hl := lv_entry ([.ref (wad w 1 0), .int (oI x1), .long (oL x2)]) (n := 4) (Nat.le_of_ble_eq_true rfl)
  have hfr := lg_entry_eq m ([.ref (wad w 1 0), .int (oI x1), .long (oL x2)]) 4
  rw [← hargs] at hfr
  rw [hfr]
  generalize (lg_sl ([.ref (wad w 1 0), .int (oI x1), .long (oL x2)]) ++ List.replicate (4 - (lg_sl ([.ref (wad w 1 0), .int (oI x1), .long (oL x2)])).length) Slot.unset).toArray = ls at hl ⊢
  have hl : lv_has ls 4 [(0, .ref (wad w 1 0)), (1, .int (oI x1)), (2, .long (oL x2))] := hl
  unfold wp_House_after at h
  refine lv_aload_n X.1 X.2.1 dX1_after_0 rfl (lv_at hl 0 rfl) ?_
  refine wg (v := .int (oI (gI σ 69 0))) X hT hW 1 5 69 vl1_0 rfl rfl (by decide) rfl (by decide) in_X1 q1075 rfl dX1_after_1 ?_
  refine w_if_eq (tgt := 32) X ((hW.r.z 69 0 rfl).i) dX1_after_4 (by decide) (fun hc => ?_) (fun hc => ?_)
  · have h := h.1 hc
    exact wk_House_after_b32 X hr hlk hT hV rx1 rx2 σ _ _ _ (lv_sub hl [] rfl) hW hS h
  · have h := h.2 hc
    refine lv_aload_n X.1 X.2.1 dX1_after_7 rfl (lv_at hl 0 rfl) ?_
    refine lv_iload_n X.1 X.2.1 dX1_after_8 rfl (lv_at hl 1 rfl) ?_
    refine lv_aload_n X.1 X.2.1 dX1_after_9 rfl (lv_at hl 0 rfl) ?_
    refine wg (v := .ref (wad w 10 0)) X hT hW 1 14 78 vl1_0 rfl rfl (by decide) rfl (by decide) in_X1 q1084 rfl dX1_after_10 ?_
    refine wr_I (rV (As := [.int (oI x1), .ref (wad w 10 0)]) (rest := []) X hT hW hS (met_House_directory l (w := w) hV x1 0 _ σ rx1 (by omega) h) (cwV 2 X.2.2.2.2 (lw_V q1173 q1175 qs31 q131 q1176) rfl rfl rfl (by decide +kernel) ⟨Nat.le_of_ble_eq_true rfl, Nat.le_of_ble_eq_true rfl⟩) vl1_0 (by decide) rfl rfl hl.1 rfl (by first | exact Nat.le_of_ble_eq_true rfl | simp [catK, catI, catR, catL]) dX1_after_13 ⟨Nat.le_refl _, Nat.le_refl _⟩) hS (fun r_9 σ_10 H locs rr_9 rkσ_10 h hWσ_10 hS => ?_)
    have h := h rr_9 rkσ_10
    refine w_if_lt (tgt := 32) X rr_9 dX1_after_16 (by decide) (fun hc => ?_) (fun hc => ?_)
    · have h := h.1 hc
      exact wk_House_after_b32 X hr hlk hT hV rx1 rx2 σ_10 _ _ _ (lv_sub hl [] rfl) hWσ_10 hS h
    · have h := h.2 hc
      refine lv_lload_n X.1 X.2.1 dX1_after_19 rfl (lv_at hl 2 rfl) ?_
      refine lv_lconst (v := oL 0) X.1 X.2.1 dX1_after_20 (by decide) ?_
      refine w_lcmp_eq (tgt := 36) X rx2 (rJ_lit 0 (by decide)) dX1_after_21 dX1_after_22 (by decide) (fun hc => ?_) (fun hc => ?_)
      · have h := h.1 hc
        exact wk_House_after_b36 X hr hlk hT hV rx1 rx2 σ_10 _ _ _ (lv_sub hl [0, 1, 2] rfl) hWσ_10 hS h
      · have h := h.2 hc
        refine lv_lload_n X.1 X.2.1 dX1_after_25 rfl (lv_at hl 2 rfl) ?_
        refine wr_Z (rS (As := [.long (oL x2)]) (rest := []) X hT hWσ_10 hS (met_House_isName l (w := w) x2 _ σ_10 rx2 h) (va_cwS 1 X.2.2.2.2 (lw_S q1169 q1170 q131 q1171) rfl rfl rfl (by decide +kernel) ⟨Nat.le_of_ble_eq_true rfl, Nat.le_of_ble_eq_true rfl⟩) rfl hl.1 rfl (by first | exact Nat.le_of_ble_eq_true rfl | simp [catK, catI, catR, catL]) dX1_after_26 ⟨Nat.le_refl _, Nat.le_refl _⟩) hS (fun r_11 σ_12 H locs rr_11 rkσ_12 h hWσ_12 hS => ?_)
        have h := h rr_11 rkσ_12
        refine w_if_ne (tgt := 36) X rr_11.i dX1_after_29 (by decide) (fun hc => ?_) (fun hc => ?_)
        · have h := h.1 hc
          exact wk_House_after_b36 X hr hlk hT hV rx1 rx2 σ_12 _ _ _ (lv_sub hl [0, 1, 2] rfl) hWσ_12 hS h
        · have h := h.2 hc
          exact wk_House_after_b32 X hr hlk hT hV rx1 rx2 σ_12 _ _ _ (lv_sub hl [] rfl) hWσ_12 hS h
/-! House.feed(JI)I -/
set_option maxHeartbeats 4000000 in
set_option maxRecDepth 100000 in
theorem wk_House_feed_L75B {p : Program} {l : Launch} {e : Env} {st : State} {m : MethodId} {args : Array Value} {below : List Frame} {meth : Method} {c : Code} {w : Wp} {x1 : Int} {x3 : Int} {Q : Int → St → Prop} (X : CallFix p m c cX1_feed 5 st args lw_all RX1) (hr : meth.sig.returnType = (some .int)) (hlk : meth.locks = false) (hT : Tb w st) (hV : Hvl w) (rx1 : rJ x1) (rx3 : rI x3) (K75 : Int → St → Prop) (hK75 : ∀ (y4 : Int) (σ : St) (H : Heap) (locs : List Loc) (ls : Array Slot), rI y4 → lv_has ls 5 [(0, .ref (wad w 1 0)), (1, .long (oL x1)), (3, .int (oI x3)), (4, .int (oI y4))] → Wo w σ H → va_S (wA w) st.heap H locs → K75 y4 σ → W p l e (headSpec (ws_ yX1_feed cX1_feed 5 (some .int)) rm_House_feed).room st m args below meth c H locs 0 0 (MQ below (QcI w Q) args st 0 0 (wA w)) (F0 m 75 ls [])) : ∀ (y4 : Int) (σ : St) (H : Heap) (locs : List Loc) (ls : Array Slot), rI y4 → lv_has ls 5 [(0, .ref (wad w 1 0)), (1, .long (oL x1)), (3, .int (oI x3)), (4, .int (oI y4))] → Wo w σ H → va_S (wA w) st.heap H locs → wp_House_feed_L75 (wc w) (wtv w) x1 x3 Q K75 y4 σ → W p l e (headSpec (ws_ yX1_feed cX1_feed 5 (some .int)) rm_House_feed).room st m args below meth c H locs 0 0 (MQ below (QcI w Q) args st 0 0 (wA w)) (F0 m 75 ls []) := by
  have vl1_0 : vl w 1 0 := hV.hv 1 rfl ⟨by omega, by show _ < (1 : Int); omega⟩
  have vl87_0 : vl w 87 0 := hV.hv 87 rfl ⟨by omega, by show _ < (1 : Int); omega⟩
  intro y4 σ H locs ls ry4 hl hW hS h
  unfold wp_House_feed_L75 at h
  refine lv_iload X.1 X.2.1 dX1_feed_75 (lv_at hl 3 rfl) ?_
  refine lv_iload_n X.1 X.2.1 dX1_feed_77 rfl (lv_at hl 2 rfl) ?_
  refine w_icmp_ge (tgt := 112) X ry4 rx3 dX1_feed_78 (by decide) (fun hc => ?_) (fun hc => ?_)
  · have h := h.1 hc
    refine lv_aload_n X.1 X.2.1 dX1_feed_112 rfl (lv_at hl 0 rfl) ?_
    refine wg (v := .int (oI (gI σ 88 0))) X hT hW 1 24 88 vl1_0 rfl rfl (by decide) rfl (by decide) in_X1 q1094 rfl dX1_feed_113 ?_
    exact wret_I X hr hlk hW hS (hW.r.i 88 0 rfl) h dX1_feed_116
  · have h := h.2 hc
    refine lv_aload_n X.1 X.2.1 dX1_feed_81 rfl (lv_at hl 0 rfl) ?_
    refine wg (v := .ref (wad w 87 0)) X hT hW 1 23 87 vl1_0 rfl rfl (by decide) rfl (by decide) in_X1 q1093 rfl dX1_feed_82 ?_
    refine lv_aload_n X.1 X.2.1 dX1_feed_85 rfl (lv_at hl 0 rfl) ?_
    refine lv_dup X.1 X.2.1 dX1_feed_86 rfl ?_
    refine wg (v := .int (oI (gI σ 88 0))) X hT hW 1 24 88 vl1_0 rfl rfl (by decide) rfl (by decide) in_X1 q1094 rfl dX1_feed_87 ?_
    refine lv_dup_x1 X.1 X.2.1 dX1_feed_90 rfl rfl ?_
    refine lv_iconst (v := oI 1) X.1 X.2.1 dX1_feed_91 rfl ?_
    refine w_iadd X dX1_feed_92 ?_
    refine wput (z := w32 ((gI σ 88 0) + 1)) X hT hW hS 1 24 88 vl1_0 rfl rfl (by decide) rfl (by decide) in_X1 tyX1 tyX1_ok nmX1 q1094 rfl rfl (w32_r _) (fv0 w rfl) rfl rfl dX1_feed_93 (fun H locs hN hS => ?_)
    obtain ⟨σ_13, eσ_13⟩ : ∃ x, x = sI σ 88 0 (w32 ((gI σ 88 0) + 1)) := ⟨_, rfl⟩
    have hWσ_13 : Wo w σ_13 H := eσ_13 ▸ hN
    have h := h σ_13 eσ_13
    clear hN
    refine lv_lload_n X.1 X.2.1 dX1_feed_96 rfl (lv_at hl 1 rfl) ?_
    refine lv_bipush (v := oI 8) X.1 X.2.1 dX1_feed_97 (by decide) ?_
    refine lv_iload X.1 X.2.1 dX1_feed_99 (lv_at hl 3 rfl) ?_
    refine w_imul X dX1_feed_101 ?_
    refine w_lushr X dX1_feed_102 ?_
    refine w_l2i X dX1_feed_103 ?_
    refine w_i2b X dX1_feed_104 ?_
    obtain ⟨bi, h⟩ := h
    refine w_bast (n := 200) X hT hWσ_13 hS 87 vl87_0 (by decide) rfl rfl bi (b8_r _) dX1_feed_105 (fun H locs hN hS => ?_)
    obtain ⟨σ_14, eσ_14⟩ : ∃ x, x = sA σ_13 87 0 (gI σ 88 0) (b8 (w32 (lushr x1 (w32 (8 * y4))))) := ⟨_, rfl⟩
    have hWσ_14 : Wo w σ_14 H := eσ_14 ▸ hN
    have h := h σ_14 eσ_14
    clear hN
    obtain ⟨y4_15, ey4_15⟩ : ∃ y : Int, y = w32 (y4 + 1) := ⟨_, rfl⟩
    have h := h y4_15 ey4_15
    have ry4_15 : rI y4_15 := by rw [ey4_15]; exact w32_r _
    refine lv_iinc (v := oI y4_15) (lv' := [(4, .int (oI y4_15)), (0, .ref (wad w 1 0)), (1, .long (oL x1)), (3, .int (oI x3))]) X.1 X.2.1 dX1_feed_106 hl (k := 3) rfl (by rw [ey4_15]; exact oI_add _ _) (by decide) (by first | rfl | simp [catK, catI, catR, catL]) (fun ls hl => ?_)
    refine lv_goto (tgt := 75) X.1 X.2.1 dX1_feed_109 (by decide) ?_
    exact hK75 y4_15 σ_14 _ _ _ ry4_15 (lv_sub hl [1, 2, 3, 0] rfl) hWσ_14 hS h
theorem wk_House_feed_L75 {p : Program} {l : Launch} {e : Env} {st : State} {m : MethodId} {args : Array Value} {below : List Frame} {meth : Method} {c : Code} {w : Wp} {x1 : Int} {x3 : Int} {Q : Int → St → Prop} (X : CallFix p m c cX1_feed 5 st args lw_all RX1) (hr : meth.sig.returnType = (some .int)) (hlk : meth.locks = false) (hT : Tb w st) (hV : Hvl w) (rx1 : rJ x1) (rx3 : rI x3) : ∀ (y4 : Int) (σ : St) (H : Heap) (locs : List Loc) (ls : Array Slot), rI y4 → lv_has ls 5 [(0, .ref (wad w 1 0)), (1, .long (oL x1)), (3, .int (oI x3)), (4, .int (oI y4))] → Wo w σ H → va_S (wA w) st.heap H locs → lQ1 (wp_House_feed_L75 (wc w) (wtv w) x1 x3 Q) y4 σ → W p l e (headSpec (ws_ yX1_feed cX1_feed 5 (some .int)) rm_House_feed).room st m args below meth c H locs 0 0 (MQ below (QcI w Q) args st 0 0 (wA w)) (F0 m 75 ls []) := by
  intro y4 σ H locs ls ry4 hl hW hS h
  obtain ⟨fu, h⟩ := h
  induction fu generalizing y4 σ H locs ls with
  | zero => exact h.elim
  | succ fu ih =>
    exact wk_House_feed_L75B X hr hlk hT hV rx1 rx3 (lq1 (wp_House_feed_L75 (wc w) (wtv w) x1 x3 Q) fu) (fun y4 σ H locs ls ry4 hl hW hS h => ih y4 σ H locs ls ry4 hl hW hS h) y4 σ H locs ls ry4 hl hW hS h
set_option maxHeartbeats 4000000 in
set_option maxRecDepth 100000 in
theorem wk_House_feed_L26B {p : Program} {l : Launch} {e : Env} {st : State} {m : MethodId} {args : Array Value} {below : List Frame} {meth : Method} {c : Code} {w : Wp} {x1 : Int} {x3 : Int} {Q : Int → St → Prop} (X : CallFix p m c cX1_feed 5 st args lw_all RX1) (hr : meth.sig.returnType = (some .int)) (hlk : meth.locks = false) (hT : Tb w st) (hV : Hvl w) (rx1 : rJ x1) (rx3 : rI x3) (K26 : Int → St → Prop) (hK26 : ∀ (y4 : Int) (σ : St) (H : Heap) (locs : List Loc) (ls : Array Slot), rI y4 → lv_has ls 5 [(0, .ref (wad w 1 0)), (1, .long (oL x1)), (3, .int (oI x3)), (4, .int (oI y4))] → Wo w σ H → va_S (wA w) st.heap H locs → K26 y4 σ → W p l e (headSpec (ws_ yX1_feed cX1_feed 5 (some .int)) rm_House_feed).room st m args below meth c H locs 0 0 (MQ below (QcI w Q) args st 0 0 (wA w)) (F0 m 26 ls [])) : ∀ (y4 : Int) (σ : St) (H : Heap) (locs : List Loc) (ls : Array Slot), rI y4 → lv_has ls 5 [(0, .ref (wad w 1 0)), (1, .long (oL x1)), (3, .int (oI x3)), (4, .int (oI y4))] → Wo w σ H → va_S (wA w) st.heap H locs → wp_House_feed_L26 (wc w) (wtv w) x1 x3 Q K26 y4 σ → W p l e (headSpec (ws_ yX1_feed cX1_feed 5 (some .int)) rm_House_feed).room st m args below meth c H locs 0 0 (MQ below (QcI w Q) args st 0 0 (wA w)) (F0 m 26 ls []) := by
  have vl1_0 : vl w 1 0 := hV.hv 1 rfl ⟨by omega, by show _ < (1 : Int); omega⟩
  intro y4 σ H locs ls ry4 hl hW hS h
  unfold wp_House_feed_L26 at h
  refine lv_iload X.1 X.2.1 dX1_feed_26 (lv_at hl 3 rfl) ?_
  refine lv_iload_n X.1 X.2.1 dX1_feed_28 rfl (lv_at hl 2 rfl) ?_
  refine w_icmp_ge (tgt := 57) X ry4 rx3 dX1_feed_29 (by decide) (fun hc => ?_) (fun hc => ?_)
  · have h := h.1 hc
    refine lv_aload_n X.1 X.2.1 dX1_feed_57 rfl (lv_at hl 0 rfl) ?_
    refine wg (v := .int (oI (gI σ 88 0))) X hT hW 1 24 88 vl1_0 rfl rfl (by decide) rfl (by decide) in_X1 q1094 rfl dX1_feed_58 ?_
    refine lv_iload_n X.1 X.2.1 dX1_feed_61 rfl (lv_at hl 2 rfl) ?_
    refine w_iadd X dX1_feed_62 ?_
    refine lv_sipush (v := oI 200) X.1 X.2.1 dX1_feed_63 (by decide) ?_
    refine w_icmp_le (tgt := 72) X (w32_r _) (rI_lit 200 (by decide)) dX1_feed_66 (by decide) (fun hc => ?_) (fun hc => ?_)
    · have h := h.1 hc
      refine lv_iconst (v := oI 0) X.1 X.2.1 dX1_feed_72 rfl ?_
      refine lv_istore (i := 4) (lv' := [(4, .int (oI 0)), (0, .ref (wad w 1 0)), (1, .long (oL x1)), (3, .int (oI x3))]) X.1 X.2.1 dX1_feed_73 hl (by decide) (by first | rfl | simp [catK, catI, catR, catL]) (fun ls hl => ?_)
      exact wk_House_feed_L75 X hr hlk hT hV rx1 rx3 0 σ _ _ _ rZ_0.i (lv_sub hl [1, 2, 3, 0] rfl) hW hS h
    · have h := h.2 hc
      refine lv_bipush (v := oI (-10)) X.1 X.2.1 dX1_feed_69 (by decide) ?_
      exact wret_I X hr hlk hW hS ((rB_lit (-10) (by decide)).i) h dX1_feed_71
  · have h := h.2 hc
    refine lv_lload_n X.1 X.2.1 dX1_feed_32 rfl (lv_at hl 1 rfl) ?_
    refine lv_bipush (v := oI 8) X.1 X.2.1 dX1_feed_33 (by decide) ?_
    refine lv_iload X.1 X.2.1 dX1_feed_35 (lv_at hl 3 rfl) ?_
    refine w_imul X dX1_feed_37 ?_
    refine w_lushr X dX1_feed_38 ?_
    refine w_ldc2 X (z := 255) q1172 (by decide) dX1_feed_39 ?_
    refine w_land X dX1_feed_42 ?_
    refine lv_lconst (v := oL 0) X.1 X.2.1 dX1_feed_43 (by decide) ?_
    refine w_lcmp_ne (tgt := 51) X (land_r _ _) (rJ_lit 0 (by decide)) dX1_feed_44 dX1_feed_45 (by decide) (fun hc => ?_) (fun hc => ?_)
    · have h := h.1 hc
      obtain ⟨y4_16, ey4_16⟩ : ∃ y : Int, y = w32 (y4 + 1) := ⟨_, rfl⟩
      have h := h y4_16 ey4_16
      have ry4_16 : rI y4_16 := by rw [ey4_16]; exact w32_r _
      refine lv_iinc (v := oI y4_16) (lv' := [(4, .int (oI y4_16)), (0, .ref (wad w 1 0)), (1, .long (oL x1)), (3, .int (oI x3))]) X.1 X.2.1 dX1_feed_51 hl (k := 3) rfl (by rw [ey4_16]; exact oI_add _ _) (by decide) (by first | rfl | simp [catK, catI, catR, catL]) (fun ls hl => ?_)
      refine lv_goto (tgt := 26) X.1 X.2.1 dX1_feed_54 (by decide) ?_
      exact hK26 y4_16 σ _ _ _ ry4_16 (lv_sub hl [1, 2, 3, 0] rfl) hW hS h
    · have h := h.2 hc
      refine lv_bipush (v := oI (-3)) X.1 X.2.1 dX1_feed_48 (by decide) ?_
      exact wret_I X hr hlk hW hS ((rB_lit (-3) (by decide)).i) h dX1_feed_50
theorem wk_House_feed_L26 {p : Program} {l : Launch} {e : Env} {st : State} {m : MethodId} {args : Array Value} {below : List Frame} {meth : Method} {c : Code} {w : Wp} {x1 : Int} {x3 : Int} {Q : Int → St → Prop} (X : CallFix p m c cX1_feed 5 st args lw_all RX1) (hr : meth.sig.returnType = (some .int)) (hlk : meth.locks = false) (hT : Tb w st) (hV : Hvl w) (rx1 : rJ x1) (rx3 : rI x3) : ∀ (y4 : Int) (σ : St) (H : Heap) (locs : List Loc) (ls : Array Slot), rI y4 → lv_has ls 5 [(0, .ref (wad w 1 0)), (1, .long (oL x1)), (3, .int (oI x3)), (4, .int (oI y4))] → Wo w σ H → va_S (wA w) st.heap H locs → lQ1 (wp_House_feed_L26 (wc w) (wtv w) x1 x3 Q) y4 σ → W p l e (headSpec (ws_ yX1_feed cX1_feed 5 (some .int)) rm_House_feed).room st m args below meth c H locs 0 0 (MQ below (QcI w Q) args st 0 0 (wA w)) (F0 m 26 ls []) := by
  intro y4 σ H locs ls ry4 hl hW hS h
  obtain ⟨fu, h⟩ := h
  induction fu generalizing y4 σ H locs ls with
  | zero => exact h.elim
  | succ fu ih =>
    exact wk_House_feed_L26B X hr hlk hT hV rx1 rx3 (lq1 (wp_House_feed_L26 (wc w) (wtv w) x1 x3 Q) fu) (fun y4 σ H locs ls ry4 hl hW hS h => ih y4 σ H locs ls ry4 hl hW hS h) y4 σ H locs ls ry4 hl hW hS h
set_option maxHeartbeats 4000000 in
set_option maxRecDepth 100000 in
theorem met_House_feed (l : Launch) {w : Wp} (hV : Hvl w) (x1 : Int) (x3 : Int) (Q : Int → St → Prop) (σ : St) (rx1 : rJ x1) (rx3 : rI x3) (h : wp_House_feed (wc w) (wtv w) x1 x3 Q σ) : Met l yX1_feed (ws_ yX1_feed cX1_feed 5 (some .int)) rm_House_feed (PcW w σ [.ref (wad w 1 0), .long (oL x1), .int (oI x3)]) (QcI w Q) 0 0 (wA w) := by
  refine Met.ofW (cc := cX1_feed) (maxL := 5) (ret := (some .int)) (by decide) rfl ?_
  intro p e st m args below meth c s₁ B hml hv
  obtain ⟨hargs, hW, hT⟩ := hv
  have X : CallFix p m c cX1_feed 5 st _ lw_all RX1 := ⟨B.exec, B.bytes, hml, findClass_of_methodNamed B.named, fun w h => atoms_spec (ws := ws_ yX1_feed cX1_feed 5 (some .int)) B.pre w (List.mem_cons_of_mem _ h)⟩
  have hr := B.returns
  have hlk := B.notSynchronized
  have hS : va_S (wA w) st.heap st.heap [] := va_S.rf
  have vl1_0 : vl w 1 0 := hV.hv 1 rfl ⟨by omega, by show _ < (1 : Int); omega⟩
  have hl := lv_entry ([.ref (wad w 1 0), .long (oL x1), .int (oI x3)]) (n := 5) (Nat.le_of_ble_eq_true rfl)
  have hfr := lg_entry_eq m ([.ref (wad w 1 0), .long (oL x1), .int (oI x3)]) 5
  rw [← hargs] at hfr
  rw [hfr]
  generalize (lg_sl ([.ref (wad w 1 0), .long (oL x1), .int (oI x3)]) ++ List.replicate (5 - (lg_sl ([.ref (wad w 1 0), .long (oL x1), .int (oI x3)])).length) Slot.unset).toArray = ls at hl ⊢
  have hl : lv_has ls 5 [(0, .ref (wad w 1 0)), (1, .long (oL x1)), (3, .int (oI x3))] := hl
  unfold wp_House_feed at h
  refine lv_aload_n X.1 X.2.1 dX1_feed_0 rfl (lv_at hl 0 rfl) ?_
  refine wg (v := .int (oI (gI σ 69 0))) X hT hW 1 5 69 vl1_0 rfl rfl (by decide) rfl (by decide) in_X1 q1075 rfl dX1_feed_1 ?_
  refine w_if_ne (tgt := 10) X ((hW.r.z 69 0 rfl).i) dX1_feed_4 (by decide) (fun hc => ?_) (fun hc => ?_)
  · have h := h.1 hc
    refine lv_iload_n X.1 X.2.1 dX1_feed_10 rfl (lv_at hl 2 rfl) ?_
    refine lv_iconst (v := oI 1) X.1 X.2.1 dX1_feed_11 rfl ?_
    refine lv_bipush (v := oI 8) X.1 X.2.1 dX1_feed_12 (by decide) ?_
    refine wr_Z (rS (As := [.int (oI x3), .int (oI 1), .int (oI 8)]) (rest := []) X hT hW hS (met_House_isIn l (w := w) x3 1 8 _ σ rx3 rZ_1.i ((rB_lit 8 (by decide)).i) h) (va_cwS 3 X.2.2.2.2 (lw_S q208 q209 q131 q210) rfl rfl rfl (by decide +kernel) ⟨Nat.le_of_ble_eq_true rfl, Nat.le_of_ble_eq_true rfl⟩) rfl hl.1 rfl (by first | exact Nat.le_of_ble_eq_true rfl | simp [catK, catI, catR, catL]) dX1_feed_14 ⟨Nat.le_refl _, Nat.le_refl _⟩) hS (fun r_17 σ_18 H locs rr_17 rkσ_18 h hWσ_18 hS => ?_)
    have h := h rr_17 rkσ_18
    refine w_if_ne (tgt := 23) X rr_17.i dX1_feed_17 (by decide) (fun hc => ?_) (fun hc => ?_)
    · have h := h.1 hc
      refine lv_iconst (v := oI 0) X.1 X.2.1 dX1_feed_23 rfl ?_
      refine lv_istore (i := 4) (lv' := [(4, .int (oI 0)), (0, .ref (wad w 1 0)), (1, .long (oL x1)), (3, .int (oI x3))]) X.1 X.2.1 dX1_feed_24 hl (by decide) (by first | rfl | simp [catK, catI, catR, catL]) (fun ls hl => ?_)
      exact wk_House_feed_L26 X hr hlk hT hV rx1 rx3 0 σ_18 _ _ _ rZ_0.i (lv_sub hl [1, 2, 3, 0] rfl) hWσ_18 hS h
    · have h := h.2 hc
      refine lv_bipush (v := oI (-3)) X.1 X.2.1 dX1_feed_20 (by decide) ?_
      exact wret_I X hr hlk hWσ_18 hS ((rB_lit (-3) (by decide)).i) h dX1_feed_22
  · have h := h.2 hc
    refine lv_bipush (v := oI (-2)) X.1 X.2.1 dX1_feed_7 (by decide) ?_
    exact wret_I X hr hlk hW hS ((rB_lit (-2) (by decide)).i) h dX1_feed_9
/-! House.next(IZ)I -/
set_option maxHeartbeats 4000000 in
set_option maxRecDepth 100000 in
theorem wk_House_next_L2B {p : Program} {l : Launch} {e : Env} {st : State} {m : MethodId} {args : Array Value} {below : List Frame} {meth : Method} {c : Code} {w : Wp} {x1 : Int} {x2 : Int} {Q : Int → St → Prop} (X : CallFix p m c cX1_next 4 st args lw_all RX1) (hr : meth.sig.returnType = (some .int)) (hlk : meth.locks = false) (hT : Tb w st) (hV : Hvl w) (rx1 : rI x1) (rx2 : rZ x2) (K2 : Int → St → Prop) (hK2 : ∀ (y3 : Int) (σ : St) (H : Heap) (locs : List Loc) (ls : Array Slot), rI y3 → lv_has ls 4 [(0, .ref (wad w 1 0)), (2, .int (oI x2)), (3, .int (oI y3))] → Wo w σ H → va_S (wA w) st.heap H locs → K2 y3 σ → W p l e (headSpec (ws_ yX1_next cX1_next 4 (some .int)) rm_House_next).room st m args below meth c H locs 0 0 (MQ below (QcI w Q) args st 0 0 (wA w)) (F0 m 2 ls [])) : ∀ (y3 : Int) (σ : St) (H : Heap) (locs : List Loc) (ls : Array Slot), rI y3 → lv_has ls 4 [(0, .ref (wad w 1 0)), (2, .int (oI x2)), (3, .int (oI y3))] → Wo w σ H → va_S (wA w) st.heap H locs → wp_House_next_L2 (wc w) (wtv w) x1 x2 Q K2 y3 σ → W p l e (headSpec (ws_ yX1_next cX1_next 4 (some .int)) rm_House_next).room st m args below meth c H locs 0 0 (MQ below (QcI w Q) args st 0 0 (wA w)) (F0 m 2 ls []) := by
  have vl1_0 : vl w 1 0 := hV.hv 1 rfl ⟨by omega, by show _ < (1 : Int); omega⟩
  have vl89_0 : vl w 89 0 := hV.hv 89 rfl ⟨by omega, by show _ < (1 : Int); omega⟩
  intro y3 σ H locs ls ry3 hl hW hS h
  unfold wp_House_next_L2 at h
  refine lv_iload_n X.1 X.2.1 dX1_next_2 rfl (lv_at hl 2 rfl) ?_
  refine lv_sipush (v := oI 1024) X.1 X.2.1 dX1_next_3 (by decide) ?_
  refine w_icmp_ge (tgt := 35) X ry3 (rI_lit 1024 (by decide)) dX1_next_6 (by decide) (fun hc => ?_) (fun hc => ?_)
  · have h := h.1 hc
    refine lv_iload_n X.1 X.2.1 dX1_next_35 rfl (lv_at hl 2 rfl) ?_
    exact wret_I X hr hlk hW hS ry3 h dX1_next_36
  · have h := h.2 hc
    refine lv_aload_n X.1 X.2.1 dX1_next_9 rfl (lv_at hl 0 rfl) ?_
    refine wg (v := .ref (wad w 89 0)) X hT hW 1 25 89 vl1_0 rfl rfl (by decide) rfl (by decide) in_X1 q1095 rfl dX1_next_10 ?_
    refine lv_iload_n X.1 X.2.1 dX1_next_13 rfl (lv_at hl 2 rfl) ?_
    obtain ⟨bi, h⟩ := h
    refine w_bald (n := 1024) X hT hW 89 vl89_0 (by decide) rfl rfl bi dX1_next_14 ?_
    refine lv_bipush (v := oI 47) X.1 X.2.1 dX1_next_15 (by decide) ?_
    refine w_cut (pc2 := 25) (st2 := [.int (oI (if (gA σ 89 0 y3) = 47 then (1 : Int) else (0 : Int)))]) (fun hj => ?_) ?_
    · refine w_icmp_ne (tgt := 24) X ((hW.r.ab 89 0 y3 rfl).i) ((rB_lit 47 (by decide)).i) dX1_next_17 (by decide) (fun hc => ?_) (fun hc => ?_)
      · refine lv_iconst (v := oI 0) X.1 X.2.1 dX1_next_24 rfl ?_
        rw [if_neg hc] at hj; exact hj
      · refine lv_iconst (v := oI 1) X.1 X.2.1 dX1_next_20 rfl ?_
        refine lv_goto (tgt := 25) X.1 X.2.1 dX1_next_21 (by decide) ?_
        rw [if_pos hc] at hj; exact hj
    refine lv_iload_n X.1 X.2.1 dX1_next_25 rfl (lv_at hl 1 rfl) ?_
    refine w_icmp_eq (tgt := 35) X ((ite_rZ rZ_1 rZ_0).i) rx2.i dX1_next_26 (by decide) (fun hc => ?_) (fun hc => ?_)
    · have h := h.1 hc
      refine lv_iload_n X.1 X.2.1 dX1_next_35 rfl (lv_at hl 2 rfl) ?_
      exact wret_I X hr hlk hW hS ry3 h dX1_next_36
    · have h := h.2 hc
      obtain ⟨y3_2, ey3_2⟩ : ∃ y : Int, y = w32 (y3 + 1) := ⟨_, rfl⟩
      have h := h y3_2 ey3_2
      have ry3_2 : rI y3_2 := by rw [ey3_2]; exact w32_r _
      refine lv_iinc (v := oI y3_2) (lv' := [(3, .int (oI y3_2)), (0, .ref (wad w 1 0)), (2, .int (oI x2))]) X.1 X.2.1 dX1_next_29 hl (k := 2) rfl (by rw [ey3_2]; exact oI_add _ _) (by decide) (by first | rfl | simp [catK, catI, catR, catL]) (fun ls hl => ?_)
      refine lv_goto (tgt := 2) X.1 X.2.1 dX1_next_32 (by decide) ?_
      exact hK2 y3_2 σ _ _ _ ry3_2 (lv_sub hl [1, 2, 0] rfl) hW hS h
theorem wk_House_next_L2 {p : Program} {l : Launch} {e : Env} {st : State} {m : MethodId} {args : Array Value} {below : List Frame} {meth : Method} {c : Code} {w : Wp} {x1 : Int} {x2 : Int} {Q : Int → St → Prop} (X : CallFix p m c cX1_next 4 st args lw_all RX1) (hr : meth.sig.returnType = (some .int)) (hlk : meth.locks = false) (hT : Tb w st) (hV : Hvl w) (rx1 : rI x1) (rx2 : rZ x2) : ∀ (y3 : Int) (σ : St) (H : Heap) (locs : List Loc) (ls : Array Slot), rI y3 → lv_has ls 4 [(0, .ref (wad w 1 0)), (2, .int (oI x2)), (3, .int (oI y3))] → Wo w σ H → va_S (wA w) st.heap H locs → lQ1 (wp_House_next_L2 (wc w) (wtv w) x1 x2 Q) y3 σ → W p l e (headSpec (ws_ yX1_next cX1_next 4 (some .int)) rm_House_next).room st m args below meth c H locs 0 0 (MQ below (QcI w Q) args st 0 0 (wA w)) (F0 m 2 ls []) := by
  intro y3 σ H locs ls ry3 hl hW hS h
  obtain ⟨fu, h⟩ := h
  induction fu generalizing y3 σ H locs ls with
  | zero => exact h.elim
  | succ fu ih =>
    exact wk_House_next_L2B X hr hlk hT hV rx1 rx2 (lq1 (wp_House_next_L2 (wc w) (wtv w) x1 x2 Q) fu) (fun y3 σ H locs ls ry3 hl hW hS h => ih y3 σ H locs ls ry3 hl hW hS h) y3 σ H locs ls ry3 hl hW hS h
set_option maxHeartbeats 4000000 in
set_option maxRecDepth 100000 in
theorem met_House_next (l : Launch) {w : Wp} (hV : Hvl w) (x1 : Int) (x2 : Int) (Q : Int → St → Prop) (σ : St) (rx1 : rI x1) (rx2 : rZ x2) (h : wp_House_next (wc w) (wtv w) x1 x2 Q σ) : Met l yX1_next (ws_ yX1_next cX1_next 4 (some .int)) rm_House_next (PcW w σ [.ref (wad w 1 0), .int (oI x1), .int (oI x2)]) (QcI w Q) 0 0 (wA w) := by
  refine Met.ofW (cc := cX1_next) (maxL := 4) (ret := (some .int)) (by decide) rfl ?_
  intro p e st m args below meth c s₁ B hml hv
  obtain ⟨hargs, hW, hT⟩ := hv
  have X : CallFix p m c cX1_next 4 st _ lw_all RX1 := ⟨B.exec, B.bytes, hml, findClass_of_methodNamed B.named, fun w h => atoms_spec (ws := ws_ yX1_next cX1_next 4 (some .int)) B.pre w (List.mem_cons_of_mem _ h)⟩
  have hr := B.returns
  have hlk := B.notSynchronized
  have hS : va_S (wA w) st.heap st.heap [] := va_S.rf
  have vl1_0 : vl w 1 0 := hV.hv 1 rfl ⟨by omega, by show _ < (1 : Int); omega⟩
  have hl := lv_entry ([.ref (wad w 1 0), .int (oI x1), .int (oI x2)]) (n := 4) (Nat.le_of_ble_eq_true rfl)
  have hfr := lg_entry_eq m ([.ref (wad w 1 0), .int (oI x1), .int (oI x2)]) 4
  rw [← hargs] at hfr
  rw [hfr]
  generalize (lg_sl ([.ref (wad w 1 0), .int (oI x1), .int (oI x2)]) ++ List.replicate (4 - (lg_sl ([.ref (wad w 1 0), .int (oI x1), .int (oI x2)])).length) Slot.unset).toArray = ls at hl ⊢
  have hl : lv_has ls 4 [(0, .ref (wad w 1 0)), (1, .int (oI x1)), (2, .int (oI x2))] := hl
  unfold wp_House_next at h
  refine lv_iload_n X.1 X.2.1 dX1_next_0 rfl (lv_at hl 1 rfl) ?_
  refine lv_istore_n (i := 3) (lv' := [(3, .int (oI x1)), (0, .ref (wad w 1 0)), (1, .int (oI x1)), (2, .int (oI x2))]) X.1 X.2.1 dX1_next_1 rfl hl (by decide) (by first | rfl | simp [catK, catI, catR, catL]) (fun ls hl => ?_)
  exact wk_House_next_L2 X hr hlk hT hV rx1 rx2 x1 σ _ _ _ rx1 (lv_sub hl [1, 3, 0] rfl) hW hS h
/-! House.areDots(III)Z -/
set_option maxHeartbeats 4000000 in
set_option maxRecDepth 100000 in
theorem wk_House_areDots_L15B {p : Program} {l : Launch} {e : Env} {st : State} {m : MethodId} {args : Array Value} {below : List Frame} {meth : Method} {c : Code} {w : Wp} {x1 : Int} {x2 : Int} {x3 : Int} {Q : Int → St → Prop} (X : CallFix p m c cX1_areDots 6 st args lw_all RX1) (hr : meth.sig.returnType = (some .boolean)) (hlk : meth.locks = false) (hT : Tb w st) (hV : Hvl w) (rx1 : rI x1) (rx2 : rI x2) (rx3 : rI x3) (K15 : Int → Int → St → Prop) (hK15 : ∀ (y4 y5 : Int) (σ : St) (H : Heap) (locs : List Loc) (ls : Array Slot), rZ y4 → rI y5 → lv_has ls 6 [(0, .ref (wad w 1 0)), (1, .int (oI x1)), (2, .int (oI x2)), (4, .int (oI y4)), (5, .int (oI y5))] → Wo w σ H → va_S (wA w) st.heap H locs → K15 y4 y5 σ → W p l e (headSpec (ws_ yX1_areDots cX1_areDots 6 (some .boolean)) rm_House_areDots).room st m args below meth c H locs 0 0 (MQ below (QcZ w Q) args st 0 0 (wA w)) (F0 m 15 ls [])) : ∀ (y4 y5 : Int) (σ : St) (H : Heap) (locs : List Loc) (ls : Array Slot), rZ y4 → rI y5 → lv_has ls 6 [(0, .ref (wad w 1 0)), (1, .int (oI x1)), (2, .int (oI x2)), (4, .int (oI y4)), (5, .int (oI y5))] → Wo w σ H → va_S (wA w) st.heap H locs → wp_House_areDots_L15 (wc w) (wtv w) x1 x2 x3 Q K15 y4 y5 σ → W p l e (headSpec (ws_ yX1_areDots cX1_areDots 6 (some .boolean)) rm_House_areDots).room st m args below meth c H locs 0 0 (MQ below (QcZ w Q) args st 0 0 (wA w)) (F0 m 15 ls []) := by
  have vl1_0 : vl w 1 0 := hV.hv 1 rfl ⟨by omega, by show _ < (1 : Int); omega⟩
  have vl89_0 : vl w 89 0 := hV.hv 89 rfl ⟨by omega, by show _ < (1 : Int); omega⟩
  intro y4 y5 σ H locs ls ry4 ry5 hl hW hS h
  unfold wp_House_areDots_L15 at h
  refine lv_iload X.1 X.2.1 dX1_areDots_15 (lv_at hl 4 rfl) ?_
  refine lv_iload_n X.1 X.2.1 dX1_areDots_17 rfl (lv_at hl 2 rfl) ?_
  refine w_icmp_ge (tgt := 53) X ry5 rx2 dX1_areDots_18 (by decide) (fun hc => ?_) (fun hc => ?_)
  · have h := h.1 hc
    refine lv_iload X.1 X.2.1 dX1_areDots_53 (lv_at hl 3 rfl) ?_
    exact wret_Z X hr hlk hW hS ry4 h dX1_areDots_55
  · have h := h.2 hc
    refine lv_iload X.1 X.2.1 dX1_areDots_21 (lv_at hl 3 rfl) ?_
    refine w_if_eq (tgt := 53) X ry4.i dX1_areDots_23 (by decide) (fun hc => ?_) (fun hc => ?_)
    · have h := h.1 hc
      refine lv_iload X.1 X.2.1 dX1_areDots_53 (lv_at hl 3 rfl) ?_
      exact wret_Z X hr hlk hW hS ry4 h dX1_areDots_55
    · have h := h.2 hc
      refine lv_aload_n X.1 X.2.1 dX1_areDots_26 rfl (lv_at hl 0 rfl) ?_
      refine wg (v := .ref (wad w 89 0)) X hT hW 1 25 89 vl1_0 rfl rfl (by decide) rfl (by decide) in_X1 q1095 rfl dX1_areDots_27 ?_
      refine lv_iload_n X.1 X.2.1 dX1_areDots_30 rfl (lv_at hl 1 rfl) ?_
      refine lv_iload X.1 X.2.1 dX1_areDots_31 (lv_at hl 4 rfl) ?_
      refine w_iadd X dX1_areDots_33 ?_
      obtain ⟨bi, h⟩ := h
      refine w_bald (n := 1024) X hT hW 89 vl89_0 (by decide) rfl rfl bi dX1_areDots_34 ?_
      refine lv_bipush (v := oI 46) X.1 X.2.1 dX1_areDots_35 (by decide) ?_
      refine w_cut (pc2 := 45) (st2 := [.int (oI (if (gA σ 89 0 (w32 (x1 + y5))) = 46 then (1 : Int) else (0 : Int)))]) (fun hj => ?_) ?_
      · refine w_icmp_ne (tgt := 44) X ((hW.r.ab 89 0 (w32 (x1 + y5)) rfl).i) ((rB_lit 46 (by decide)).i) dX1_areDots_37 (by decide) (fun hc => ?_) (fun hc => ?_)
        · refine lv_iconst (v := oI 0) X.1 X.2.1 dX1_areDots_44 rfl ?_
          rw [if_neg hc] at hj; exact hj
        · refine lv_iconst (v := oI 1) X.1 X.2.1 dX1_areDots_40 rfl ?_
          refine lv_goto (tgt := 45) X.1 X.2.1 dX1_areDots_41 (by decide) ?_
          rw [if_pos hc] at hj; exact hj
      refine w_top (fun y4_7 ey4_7 => ?_)
      have h := h y4_7 ey4_7
      have ry4_7 : rZ y4_7 := by rw [ey4_7]; exact (ite_rZ rZ_1 rZ_0)
      refine lv_istore (i := 4) (lv' := [(4, .int (oI y4_7)), (0, .ref (wad w 1 0)), (1, .int (oI x1)), (2, .int (oI x2)), (5, .int (oI y5))]) X.1 X.2.1 dX1_areDots_45 hl (by decide) (by first | rfl | simp [catK, catI, catR, catL]) (fun ls hl => ?_)
      obtain ⟨y5_8, ey5_8⟩ : ∃ y : Int, y = w32 (y5 + 1) := ⟨_, rfl⟩
      have h := h y5_8 ey5_8
      have ry5_8 : rI y5_8 := by rw [ey5_8]; exact w32_r _
      refine lv_iinc (v := oI y5_8) (lv' := [(5, .int (oI y5_8)), (4, .int (oI y4_7)), (0, .ref (wad w 1 0)), (1, .int (oI x1)), (2, .int (oI x2))]) X.1 X.2.1 dX1_areDots_47 hl (k := 4) rfl (by rw [ey5_8]; exact oI_add _ _) (by decide) (by first | rfl | simp [catK, catI, catR, catL]) (fun ls hl => ?_)
      refine lv_goto (tgt := 15) X.1 X.2.1 dX1_areDots_50 (by decide) ?_
      exact hK15 y4_7 y5_8 σ _ _ _ ry4_7 ry5_8 (lv_sub hl [2, 3, 4, 1, 0] rfl) hW hS h
theorem wk_House_areDots_L15 {p : Program} {l : Launch} {e : Env} {st : State} {m : MethodId} {args : Array Value} {below : List Frame} {meth : Method} {c : Code} {w : Wp} {x1 : Int} {x2 : Int} {x3 : Int} {Q : Int → St → Prop} (X : CallFix p m c cX1_areDots 6 st args lw_all RX1) (hr : meth.sig.returnType = (some .boolean)) (hlk : meth.locks = false) (hT : Tb w st) (hV : Hvl w) (rx1 : rI x1) (rx2 : rI x2) (rx3 : rI x3) : ∀ (y4 y5 : Int) (σ : St) (H : Heap) (locs : List Loc) (ls : Array Slot), rZ y4 → rI y5 → lv_has ls 6 [(0, .ref (wad w 1 0)), (1, .int (oI x1)), (2, .int (oI x2)), (4, .int (oI y4)), (5, .int (oI y5))] → Wo w σ H → va_S (wA w) st.heap H locs → lQ2 (wp_House_areDots_L15 (wc w) (wtv w) x1 x2 x3 Q) y4 y5 σ → W p l e (headSpec (ws_ yX1_areDots cX1_areDots 6 (some .boolean)) rm_House_areDots).room st m args below meth c H locs 0 0 (MQ below (QcZ w Q) args st 0 0 (wA w)) (F0 m 15 ls []) := by
  intro y4 y5 σ H locs ls ry4 ry5 hl hW hS h
  obtain ⟨fu, h⟩ := h
  induction fu generalizing y4 y5 σ H locs ls with
  | zero => exact h.elim
  | succ fu ih =>
    exact wk_House_areDots_L15B X hr hlk hT hV rx1 rx2 rx3 (lq2 (wp_House_areDots_L15 (wc w) (wtv w) x1 x2 x3 Q) fu) (fun y4 y5 σ H locs ls ry4 ry5 hl hW hS h => ih y4 y5 σ H locs ls ry4 ry5 hl hW hS h) y4 y5 σ H locs ls ry4 ry5 hl hW hS h
set_option maxHeartbeats 4000000 in
set_option maxRecDepth 100000 in
theorem met_House_areDots (l : Launch) {w : Wp} (hV : Hvl w) (x1 : Int) (x2 : Int) (x3 : Int) (Q : Int → St → Prop) (σ : St) (rx1 : rI x1) (rx2 : rI x2) (rx3 : rI x3) (h : wp_House_areDots (wc w) (wtv w) x1 x2 x3 Q σ) : Met l yX1_areDots (ws_ yX1_areDots cX1_areDots 6 (some .boolean)) rm_House_areDots (PcW w σ [.ref (wad w 1 0), .int (oI x1), .int (oI x2), .int (oI x3)]) (QcZ w Q) 0 0 (wA w) := by
  refine Met.ofW (cc := cX1_areDots) (maxL := 6) (ret := (some .boolean)) (by decide) rfl ?_
  intro p e st m args below meth c s₁ B hml hv
  obtain ⟨hargs, hW, hT⟩ := hv
  have X : CallFix p m c cX1_areDots 6 st _ lw_all RX1 := ⟨B.exec, B.bytes, hml, findClass_of_methodNamed B.named, fun w h => atoms_spec (ws := ws_ yX1_areDots cX1_areDots 6 (some .boolean)) B.pre w (List.mem_cons_of_mem _ h)⟩
  have hr := B.returns
  have hlk := B.notSynchronized
  have hS : va_S (wA w) st.heap st.heap [] := va_S.rf
  have vl1_0 : vl w 1 0 := hV.hv 1 rfl ⟨by omega, by show _ < (1 : Int); omega⟩
  have hl := lv_entry ([.ref (wad w 1 0), .int (oI x1), .int (oI x2), .int (oI x3)]) (n := 6) (Nat.le_of_ble_eq_true rfl)
  have hfr := lg_entry_eq m ([.ref (wad w 1 0), .int (oI x1), .int (oI x2), .int (oI x3)]) 6
  rw [← hargs] at hfr
  rw [hfr]
  generalize (lg_sl ([.ref (wad w 1 0), .int (oI x1), .int (oI x2), .int (oI x3)]) ++ List.replicate (6 - (lg_sl ([.ref (wad w 1 0), .int (oI x1), .int (oI x2), .int (oI x3)])).length) Slot.unset).toArray = ls at hl ⊢
  have hl : lv_has ls 6 [(0, .ref (wad w 1 0)), (1, .int (oI x1)), (2, .int (oI x2)), (3, .int (oI x3))] := hl
  unfold wp_House_areDots at h
  refine lv_iload_n X.1 X.2.1 dX1_areDots_0 rfl (lv_at hl 2 rfl) ?_
  refine lv_iload_n X.1 X.2.1 dX1_areDots_1 rfl (lv_at hl 3 rfl) ?_
  refine w_cut (pc2 := 10) (st2 := [.int (oI (if x2 = x3 then (1 : Int) else (0 : Int)))]) (fun hj => ?_) ?_
  · refine w_icmp_ne (tgt := 9) X rx2 rx3 dX1_areDots_2 (by decide) (fun hc => ?_) (fun hc => ?_)
    · refine lv_iconst (v := oI 0) X.1 X.2.1 dX1_areDots_9 rfl ?_
      rw [if_neg hc] at hj; exact hj
    · refine lv_iconst (v := oI 1) X.1 X.2.1 dX1_areDots_5 rfl ?_
      refine lv_goto (tgt := 10) X.1 X.2.1 dX1_areDots_6 (by decide) ?_
      rw [if_pos hc] at hj; exact hj
  refine w_top (fun y4_9 ey4_9 => ?_)
  have h := h y4_9 ey4_9
  have ry4_9 : rZ y4_9 := by rw [ey4_9]; exact (ite_rZ rZ_1 rZ_0)
  refine lv_istore (i := 4) (lv' := [(4, .int (oI y4_9)), (0, .ref (wad w 1 0)), (1, .int (oI x1)), (2, .int (oI x2)), (3, .int (oI x3))]) X.1 X.2.1 dX1_areDots_10 hl (by decide) (by first | rfl | simp [catK, catI, catR, catL]) (fun ls hl => ?_)
  refine lv_iconst (v := oI 0) X.1 X.2.1 dX1_areDots_12 rfl ?_
  refine lv_istore (i := 5) (lv' := [(5, .int (oI 0)), (4, .int (oI y4_9)), (0, .ref (wad w 1 0)), (1, .int (oI x1)), (2, .int (oI x2)), (3, .int (oI x3))]) X.1 X.2.1 dX1_areDots_13 hl (by decide) (by first | rfl | simp [catK, catI, catR, catL]) (fun ls hl => ?_)
  exact wk_House_areDots_L15 X hr hlk hT hV rx1 rx2 rx3 y4_9 0 σ _ _ _ ry4_9 rZ_0.i (lv_sub hl [2, 3, 4, 1, 0] rfl) hW hS h
/-! House.above(I)I -/
set_option maxHeartbeats 4000000 in
set_option maxRecDepth 100000 in
theorem wk_House_above_b109 {p : Program} {l : Launch} {e : Env} {st : State} {m : MethodId} {args : Array Value} {below : List Frame} {meth : Method} {c : Code} {w : Wp} {x1 : Int} {Q : Int → St → Prop} (X : CallFix p m c cX1_above 4 st args lw_all RX1) (hr : meth.sig.returnType = (some .int)) (hlk : meth.locks = false) (hT : Tb w st) (hV : Hvl w) (rx1 : rI x1) (K20 : Int → St → Prop) (hK20 : ∀ (y3 : Int) (σ : St) (H : Heap) (locs : List Loc) (ls : Array Slot), rZ y3 → lv_has ls 4 [(0, .ref (wad w 1 0)), (1, .int (oI x1)), (2, .ref (wad w 6 0)), (3, .int (oI y3))] → Wo w σ H → va_S (wA w) st.heap H locs → K20 y3 σ → W p l e (headSpec (ws_ yX1_above cX1_above 4 (some .int)) rm_House_above).room st m args below meth c H locs 0 0 (MQ below (QcI w Q) args st 0 0 (wA w)) (F0 m 20 ls [])) : ∀ (σ : St) (H : Heap) (locs : List Loc) (ls : Array Slot), lv_has ls 4 [(0, .ref (wad w 1 0)), (1, .int (oI x1)), (2, .ref (wad w 6 0))] → Wo w σ H → va_S (wA w) st.heap H locs → wp_House_above_b109 (wc w) (wtv w) x1 Q K20 σ → W p l e (headSpec (ws_ yX1_above cX1_above 4 (some .int)) rm_House_above).room st m args below meth c H locs 0 0 (MQ below (QcI w Q) args st 0 0 (wA w)) (F0 m 109 ls []) := by
  have vl6_0 : vl w 6 0 := hV.hv 6 rfl ⟨by omega, by show _ < (2 : Int); omega⟩
  intro σ H locs ls hl hW hS h
  unfold wp_House_above_b109 at h
  refine lv_aload_n X.1 X.2.1 dX1_above_109 rfl (lv_at hl 2 rfl) ?_
  refine wr_Z (rV (As := []) (rest := []) X hT hW hS (met_Index_next l (w := w) hV 0 _ σ (by omega) h) (cwV 0 X.2.2.2.2 (lw_V q1065 q1066 q1067 q139 q1068) rfl rfl rfl (by decide +kernel) ⟨Nat.le_of_ble_eq_true rfl, Nat.le_of_ble_eq_true rfl⟩) vl6_0 (by decide) rfl rfl hl.1 rfl (by first | exact Nat.le_of_ble_eq_true rfl | simp [catK, catI, catR, catL]) dX1_above_110 ⟨Nat.le_refl _, Nat.le_refl _⟩) hS (fun r_13 σ_14 H locs rr_13 rkσ_14 h hWσ_14 hS => ?_)
  have h := h rr_13 rkσ_14
  refine lv_istore_n (i := 3) (lv' := [(3, .int (oI r_13)), (0, .ref (wad w 1 0)), (1, .int (oI x1)), (2, .ref (wad w 6 0))]) X.1 X.2.1 dX1_above_113 rfl hl (by decide) (by first | rfl | simp [catK, catI, catR, catL]) (fun ls hl => ?_)
  refine lv_goto (tgt := 20) X.1 X.2.1 dX1_above_114 (by decide) ?_
  exact hK20 r_13 σ_14 _ _ _ rr_13 (lv_sub hl [1, 2, 3, 0] rfl) hWσ_14 hS h
set_option maxHeartbeats 4000000 in
set_option maxRecDepth 100000 in
theorem wk_House_above_L20B {p : Program} {l : Launch} {e : Env} {st : State} {m : MethodId} {args : Array Value} {below : List Frame} {meth : Method} {c : Code} {w : Wp} {x1 : Int} {Q : Int → St → Prop} (X : CallFix p m c cX1_above 4 st args lw_all RX1) (hr : meth.sig.returnType = (some .int)) (hlk : meth.locks = false) (hT : Tb w st) (hV : Hvl w) (rx1 : rI x1) (K20 : Int → St → Prop) (hK20 : ∀ (y3 : Int) (σ : St) (H : Heap) (locs : List Loc) (ls : Array Slot), rZ y3 → lv_has ls 4 [(0, .ref (wad w 1 0)), (1, .int (oI x1)), (2, .ref (wad w 6 0)), (3, .int (oI y3))] → Wo w σ H → va_S (wA w) st.heap H locs → K20 y3 σ → W p l e (headSpec (ws_ yX1_above cX1_above 4 (some .int)) rm_House_above).room st m args below meth c H locs 0 0 (MQ below (QcI w Q) args st 0 0 (wA w)) (F0 m 20 ls [])) : ∀ (y3 : Int) (σ : St) (H : Heap) (locs : List Loc) (ls : Array Slot), rZ y3 → lv_has ls 4 [(0, .ref (wad w 1 0)), (1, .int (oI x1)), (2, .ref (wad w 6 0)), (3, .int (oI y3))] → Wo w σ H → va_S (wA w) st.heap H locs → wp_House_above_L20 (wc w) (wtv w) x1 Q K20 y3 σ → W p l e (headSpec (ws_ yX1_above cX1_above 4 (some .int)) rm_House_above).room st m args below meth c H locs 0 0 (MQ below (QcI w Q) args st 0 0 (wA w)) (F0 m 20 ls []) := by
  have vl1_0 : vl w 1 0 := hV.hv 1 rfl ⟨by omega, by show _ < (1 : Int); omega⟩
  have vl3_0 : vl w 3 0 := hV.hv 3 rfl ⟨by omega, by show _ < (2 : Int); omega⟩
  have vl6_0 : vl w 6 0 := hV.hv 6 rfl ⟨by omega, by show _ < (2 : Int); omega⟩
  have vl8_0 : vl w 8 0 := hV.hv 8 rfl ⟨by omega, by show _ < (8 : Int); omega⟩
  intro y3 σ H locs ls ry3 hl hW hS h
  unfold wp_House_above_L20 at h
  refine lv_iload_n X.1 X.2.1 dX1_above_20 rfl (lv_at hl 3 rfl) ?_
  refine w_if_eq (tgt := 117) X ry3.i dX1_above_21 (by decide) (fun hc => ?_) (fun hc => ?_)
  · have h := h.1 hc
    refine lv_iconst (v := oI 1) X.1 X.2.1 dX1_above_117 rfl ?_
    exact wret_I X hr hlk hW hS rZ_1.i h dX1_above_118
  · have h := h.2 hc
    refine lv_aload_n X.1 X.2.1 dX1_above_24 rfl (lv_at hl 2 rfl) ?_
    refine wg (v := .long (oL (gI σ 391 0))) X hT hW 6 7 391 vl6_0 rfl rfl (by decide) rfl (by decide) in_X8 q454 rfl dX1_above_25 ?_
    refine w_ldc2 X (z := 4) q896 (by decide) dX1_above_28 ?_
    refine w_lrem X (hW.r.j 391 0 rfl) (rJ_lit 4 (by decide)) (by decide) dX1_above_31 ?_
    refine w_ldc2 X (z := 2) q1448 (by decide) dX1_above_32 ?_
    refine w_lcmp_eq (tgt := 42) X (jrl_r _ _) (rJ_lit 2 (by decide)) dX1_above_35 dX1_above_36 (by decide) (fun hc => ?_) (fun hc => ?_)
    · have h := h.1 hc
      refine lv_aload_n X.1 X.2.1 dX1_above_42 rfl (lv_at hl 0 rfl) ?_
      refine wg (v := .ref (wad w 3 0)) X hT hW 1 1 65 vl1_0 rfl rfl (by decide) rfl (by decide) in_X1 q1071 rfl dX1_above_43 ?_
      refine lv_aload_n X.1 X.2.1 dX1_above_46 rfl (lv_at hl 2 rfl) ?_
      refine wg (v := .int (oI (gI σ 393 0))) X hT hW 6 9 393 vl6_0 rfl rfl (by decide) rfl (by decide) in_X8 q460 rfl dX1_above_47 ?_
      refine lv_aload_n X.1 X.2.1 dX1_above_50 rfl (lv_at hl 2 rfl) ?_
      refine wg (v := .int (oI (gI σ 394 0))) X hT hW 6 10 394 vl6_0 rfl rfl (by decide) rfl (by decide) in_X8 q463 rfl dX1_above_51 ?_
      refine lv_aload_n X.1 X.2.1 dX1_above_54 rfl (lv_at hl 2 rfl) ?_
      refine wg (v := .int (oI (gI σ 395 0))) X hT hW 6 11 395 vl6_0 rfl rfl (by decide) rfl (by decide) in_X8 q466 rfl dX1_above_55 ?_
      refine lv_aload_n X.1 X.2.1 dX1_above_58 rfl (lv_at hl 0 rfl) ?_
      refine wg (v := .ref (wad w 3 0)) X hT hW 1 1 65 vl1_0 rfl rfl (by decide) rfl (by decide) in_X1 q1071 rfl dX1_above_59 ?_
      refine wg (v := .ref (wad w 8 0)) X hT hW 3 6 198 vl3_0 rfl rfl (by decide) rfl (by decide) in_X5 q532 rfl dX1_above_62 ?_
      refine wr_V (rV (As := [.int (oI (gI σ 393 0)), .int (oI (gI σ 394 0)), .int (oI (gI σ 395 0)), .ref (wad w 8 0)]) (rest := []) X hT hW hS (met_Store_read l (w := w) hV 0 (gI σ 393 0) (gI σ 394 0) (gI σ 395 0) 0 _ σ (by omega) (hW.r.i 393 0 rfl) (hW.r.i 394 0 rfl) (hW.r.i 395 0 rfl) (by omega) h) (cwV 4 X.2.2.2.2 (lw_V q1183 q1184 q1185 q136 q1186) rfl rfl rfl (by decide +kernel) ⟨Nat.le_of_ble_eq_true rfl, Nat.le_of_ble_eq_true rfl⟩) vl3_0 (by decide) rfl rfl hl.1 rfl (by first | exact Nat.le_of_ble_eq_true rfl | simp [catK, catI, catR, catL]) dX1_above_65 ⟨Nat.le_refl _, Nat.le_refl _⟩) hS (fun σ_16 H locs rkσ_16 h hWσ_16 hS => ?_)
      have h := h rkσ_16
      refine lv_aload_n X.1 X.2.1 dX1_above_68 rfl (lv_at hl 0 rfl) ?_
      refine wg (v := .ref (wad w 3 0)) X hT hWσ_16 1 1 65 vl1_0 rfl rfl (by decide) rfl (by decide) in_X1 q1071 rfl dX1_above_69 ?_
      refine wg (v := .ref (wad w 8 0)) X hT hWσ_16 3 6 198 vl3_0 rfl rfl (by decide) rfl (by decide) in_X5 q532 rfl dX1_above_72 ?_
      refine lv_iconst (v := oI 4) X.1 X.2.1 dX1_above_75 rfl ?_
      refine wr_I (rV (As := [.int (oI 4)]) (rest := []) X hT hWσ_16 hS (met_Row_get l (w := w) hV 0 4 _ σ_16 (by omega) ((rB_lit 4 (by decide)).i) h) (cwV 1 X.2.2.2.2 (lw_V q1206 q1207 q1208 q132 q1209) rfl rfl rfl (by decide +kernel) ⟨Nat.le_of_ble_eq_true rfl, Nat.le_of_ble_eq_true rfl⟩) vl8_0 (by decide) rfl rfl hl.1 rfl (by first | exact Nat.le_of_ble_eq_true rfl | simp [catK, catI, catR, catL]) dX1_above_76 ⟨Nat.le_refl _, Nat.le_refl _⟩) hS (fun r_17 σ_18 H locs rr_17 rkσ_18 h hWσ_18 hS => ?_)
      have h := h rr_17 rkσ_18
      refine lv_iload_n X.1 X.2.1 dX1_above_79 rfl (lv_at hl 1 rfl) ?_
      refine w_icmp_ne (tgt := 109) X rr_17 rx1 dX1_above_80 (by decide) (fun hc => ?_) (fun hc => ?_)
      · have h := h.1 hc
        exact wk_House_above_b109 X hr hlk hT hV rx1 K20 hK20 σ_18 _ _ _ (lv_sub hl [0, 1, 2] rfl) hWσ_18 hS h
      · have h := h.2 hc
        refine lv_aload_n X.1 X.2.1 dX1_above_83 rfl (lv_at hl 0 rfl) ?_
        refine lv_aload_n X.1 X.2.1 dX1_above_84 rfl (lv_at hl 0 rfl) ?_
        refine wg (v := .ref (wad w 3 0)) X hT hWσ_18 1 1 65 vl1_0 rfl rfl (by decide) rfl (by decide) in_X1 q1071 rfl dX1_above_85 ?_
        refine wg (v := .ref (wad w 8 0)) X hT hWσ_18 3 6 198 vl3_0 rfl rfl (by decide) rfl (by decide) in_X5 q532 rfl dX1_above_88 ?_
        refine lv_bipush (v := oI 8) X.1 X.2.1 dX1_above_91 (by decide) ?_
        refine wr_J (rV (As := [.int (oI 8)]) (rest := [.ref (wad w 1 0)]) X hT hWσ_18 hS (met_Row_getLongAt l (w := w) hV 0 8 _ σ_18 (by omega) ((rB_lit 8 (by decide)).i) h) (cwV 1 X.2.2.2.2 (lw_V q1218 q1219 q1220 q132 q1221) rfl rfl rfl (by decide +kernel) ⟨Nat.le_of_ble_eq_true rfl, Nat.le_of_ble_eq_true rfl⟩) vl8_0 (by decide) rfl rfl hl.1 rfl (by first | exact Nat.le_of_ble_eq_true rfl | simp [catK, catI, catR, catL]) dX1_above_93 ⟨Nat.le_refl _, Nat.le_refl _⟩) hS (fun r_19 σ_20 H locs rr_19 rkσ_20 h hWσ_20 hS => ?_)
        have h := h rr_19 rkσ_20
        refine wput (z := r_19) X hT hWσ_20 hS 1 29 93 vl1_0 rfl rfl (by decide) rfl (by decide) in_X1 tyX1 tyX1_ok nmX1 q1099 rfl rfl rr_19 (fv1 w rfl) rfl rfl dX1_above_96 (fun H locs hN hS => ?_)
        obtain ⟨σ_21, eσ_21⟩ : ∃ x, x = sI σ_20 93 0 r_19 := ⟨_, rfl⟩
        have hWσ_21 : Wo w σ_21 H := eσ_21 ▸ hN
        have h := h σ_21 eσ_21
        clear hN
        refine lv_aload_n X.1 X.2.1 dX1_above_99 rfl (lv_at hl 2 rfl) ?_
        refine wg (v := .long (oL (gI σ_21 391 0))) X hT hWσ_21 6 7 391 vl6_0 rfl rfl (by decide) rfl (by decide) in_X8 q454 rfl dX1_above_100 ?_
        refine w_ldc2 X (z := 4) q896 (by decide) dX1_above_103 ?_
        refine w_ldiv X (hWσ_21.r.j 391 0 rfl) (rJ_lit 4 (by decide)) (by decide) dX1_above_106 ?_
        refine w_l2i X dX1_above_107 ?_
        exact wret_I X hr hlk hWσ_21 hS (w32_r _) h dX1_above_108
    · have h := h.2 hc
      refine lv_goto (tgt := 109) X.1 X.2.1 dX1_above_39 (by decide) ?_
      exact wk_House_above_b109 X hr hlk hT hV rx1 K20 hK20 σ _ _ _ (lv_sub hl [0, 1, 2] rfl) hW hS h
theorem wk_House_above_L20 {p : Program} {l : Launch} {e : Env} {st : State} {m : MethodId} {args : Array Value} {below : List Frame} {meth : Method} {c : Code} {w : Wp} {x1 : Int} {Q : Int → St → Prop} (X : CallFix p m c cX1_above 4 st args lw_all RX1) (hr : meth.sig.returnType = (some .int)) (hlk : meth.locks = false) (hT : Tb w st) (hV : Hvl w) (rx1 : rI x1) : ∀ (y3 : Int) (σ : St) (H : Heap) (locs : List Loc) (ls : Array Slot), rZ y3 → lv_has ls 4 [(0, .ref (wad w 1 0)), (1, .int (oI x1)), (2, .ref (wad w 6 0)), (3, .int (oI y3))] → Wo w σ H → va_S (wA w) st.heap H locs → lQ1 (wp_House_above_L20 (wc w) (wtv w) x1 Q) y3 σ → W p l e (headSpec (ws_ yX1_above cX1_above 4 (some .int)) rm_House_above).room st m args below meth c H locs 0 0 (MQ below (QcI w Q) args st 0 0 (wA w)) (F0 m 20 ls []) := by
  intro y3 σ H locs ls ry3 hl hW hS h
  obtain ⟨fu, h⟩ := h
  induction fu generalizing y3 σ H locs ls with
  | zero => exact h.elim
  | succ fu ih =>
    exact wk_House_above_L20B X hr hlk hT hV rx1 (lq1 (wp_House_above_L20 (wc w) (wtv w) x1 Q) fu) (fun y3 σ H locs ls ry3 hl hW hS h => ih y3 σ H locs ls ry3 hl hW hS h) y3 σ H locs ls ry3 hl hW hS h
set_option maxHeartbeats 4000000 in
set_option maxRecDepth 100000 in
theorem met_House_above (l : Launch) {w : Wp} (hV : Hvl w) (x1 : Int) (Q : Int → St → Prop) (σ : St) (rx1 : rI x1) (h : wp_House_above (wc w) (wtv w) x1 Q σ) : Met l yX1_above (ws_ yX1_above cX1_above 4 (some .int)) rm_House_above (PcW w σ [.ref (wad w 1 0), .int (oI x1)]) (QcI w Q) 0 0 (wA w) := by
  refine Met.ofW (cc := cX1_above) (maxL := 4) (ret := (some .int)) (by decide) rfl ?_
  intro p e st m args below meth c s₁ B hml hv
  obtain ⟨hargs, hW, hT⟩ := hv
  have X : CallFix p m c cX1_above 4 st _ lw_all RX1 := ⟨B.exec, B.bytes, hml, findClass_of_methodNamed B.named, fun w h => atoms_spec (ws := ws_ yX1_above cX1_above 4 (some .int)) B.pre w (List.mem_cons_of_mem _ h)⟩
  have hr := B.returns
  have hlk := B.notSynchronized
  have hS : va_S (wA w) st.heap st.heap [] := va_S.rf
  have vl1_0 : vl w 1 0 := hV.hv 1 rfl ⟨by omega, by show _ < (1 : Int); omega⟩
  have vl3_0 : vl w 3 0 := hV.hv 3 rfl ⟨by omega, by show _ < (2 : Int); omega⟩
  have vl6_0 : vl w 6 0 := hV.hv 6 rfl ⟨by omega, by show _ < (2 : Int); omega⟩
  have hl := lv_entry ([.ref (wad w 1 0), .int (oI x1)]) (n := 4) (Nat.le_of_ble_eq_true rfl)
  have hfr := lg_entry_eq m ([.ref (wad w 1 0), .int (oI x1)]) 4
  rw [← hargs] at hfr
  rw [hfr]
  generalize (lg_sl ([.ref (wad w 1 0), .int (oI x1)]) ++ List.replicate (4 - (lg_sl ([.ref (wad w 1 0), .int (oI x1)])).length) Slot.unset).toArray = ls at hl ⊢
  have hl : lv_has ls 4 [(0, .ref (wad w 1 0)), (1, .int (oI x1))] := hl
  unfold wp_House_above at h
  refine lv_aload_n X.1 X.2.1 dX1_above_0 rfl (lv_at hl 0 rfl) ?_
  refine wg (v := .ref (wad w 3 0)) X hT hW 1 1 65 vl1_0 rfl rfl (by decide) rfl (by decide) in_X1 q1071 rfl dX1_above_1 ?_
  refine wg (v := .ref (wad w 6 0)) X hT hW 3 2 194 vl3_0 rfl rfl (by decide) rfl (by decide) in_X5 q527 rfl dX1_above_4 ?_
  refine lv_astore_n (i := 2) (lv' := [(2, .ref (wad w 6 0)), (0, .ref (wad w 1 0)), (1, .int (oI x1))]) X.1 X.2.1 dX1_above_7 rfl hl (by decide) (by first | rfl | simp [catK, catI, catR, catL]) (fun ls hl => ?_)
  refine lv_aload_n X.1 X.2.1 dX1_above_8 rfl (lv_at hl 1 rfl) ?_
  refine lv_lconst (v := oL 0) X.1 X.2.1 dX1_above_9 (by decide) ?_
  refine wput (z := 0) X hT hW hS 1 29 93 vl1_0 rfl rfl (by decide) rfl (by decide) in_X1 tyX1 tyX1_ok nmX1 q1099 rfl rfl (rJ_lit 0 (by decide)) (fv1 w rfl) rfl rfl dX1_above_10 (fun H locs hN hS => ?_)
  obtain ⟨σ_22, eσ_22⟩ : ∃ x, x = sI σ 93 0 0 := ⟨_, rfl⟩
  have hWσ_22 : Wo w σ_22 H := eσ_22 ▸ hN
  have h := h σ_22 eσ_22
  clear hN
  refine lv_aload_n X.1 X.2.1 dX1_above_13 rfl (lv_at hl 0 rfl) ?_
  refine lv_lconst (v := oL 0) X.1 X.2.1 dX1_above_14 (by decide) ?_
  refine lv_lconst (v := oL 0) X.1 X.2.1 dX1_above_15 (by decide) ?_
  refine wr_Z (rV (As := [.long (oL 0), .long (oL 0)]) (rest := []) X hT hWσ_22 hS (met_Index_seek l (w := w) hV 0 0 0 _ σ_22 (by omega) (rJ_lit 0 (by decide)) (rJ_lit 0 (by decide)) h) (cwV 2 X.2.2.2.2 (lw_V q1064 q906 q907 q139 q908) rfl rfl rfl (by decide +kernel) ⟨Nat.le_of_ble_eq_true rfl, Nat.le_of_ble_eq_true rfl⟩) vl6_0 (by decide) rfl rfl hl.1 rfl (by first | exact Nat.le_of_ble_eq_true rfl | simp [catK, catI, catR, catL]) dX1_above_16 ⟨Nat.le_refl _, Nat.le_refl _⟩) hS (fun r_23 σ_24 H locs rr_23 rkσ_24 h hWσ_24 hS => ?_)
  have h := h rr_23 rkσ_24
  refine lv_istore_n (i := 3) (lv' := [(3, .int (oI r_23)), (2, .ref (wad w 6 0)), (0, .ref (wad w 1 0)), (1, .int (oI x1))]) X.1 X.2.1 dX1_above_19 rfl hl (by decide) (by first | rfl | simp [catK, catI, catR, catL]) (fun ls hl => ?_)
  exact wk_House_above_L20 X hr hlk hT hV rx1 r_23 σ_24 _ _ _ rr_23 (lv_sub hl [2, 3, 1, 0] rfl) hWσ_24 hS h
/-! House.piece(II)I -/
set_option maxHeartbeats 4000000 in
set_option maxRecDepth 100000 in
theorem met_House_piece (l : Launch) {w : Wp} (hV : Hvl w) (x1 : Int) (x2 : Int) (Q : Int → St → Prop) (σ : St) (rx1 : rI x1) (rx2 : rI x2) (h : wp_House_piece (wc w) (wtv w) x1 x2 Q σ) : Met l yX1_piece (ws_ yX1_piece cX1_piece 5 (some .int)) rm_House_piece (PcW w σ [.ref (wad w 1 0), .int (oI x1), .int (oI x2)]) (QcI w Q) 0 0 (wA w) := by
  refine Met.ofW (cc := cX1_piece) (maxL := 5) (ret := (some .int)) (by decide) rfl ?_
  intro p e st m args below meth c s₁ B hml hv
  obtain ⟨hargs, hW, hT⟩ := hv
  have X : CallFix p m c cX1_piece 5 st _ lw_all RX1 := ⟨B.exec, B.bytes, hml, findClass_of_methodNamed B.named, fun w h => atoms_spec (ws := ws_ yX1_piece cX1_piece 5 (some .int)) B.pre w (List.mem_cons_of_mem _ h)⟩
  have hr := B.returns
  have hlk := B.notSynchronized
  have hS : va_S (wA w) st.heap st.heap [] := va_S.rf
  have vl1_0 : vl w 1 0 := hV.hv 1 rfl ⟨by omega, by show _ < (1 : Int); omega⟩
  have vl3_0 : vl w 3 0 := hV.hv 3 rfl ⟨by omega, by show _ < (2 : Int); omega⟩
  have vl512_7 : vl w 512 7 := hV.hv 512 rfl ⟨by omega, by show _ < (8 : Int); omega⟩
  have vl6_0 : vl w 6 0 := hV.hv 6 rfl ⟨by omega, by show _ < (2 : Int); omega⟩
  have vl77_0 : vl w 77 0 := hV.hv 77 rfl ⟨by omega, by show _ < (1 : Int); omega⟩
  have vl8_7 : vl w 8 7 := hV.hv 8 rfl ⟨by omega, by show _ < (8 : Int); omega⟩
  have hl := lv_entry ([.ref (wad w 1 0), .int (oI x1), .int (oI x2)]) (n := 5) (Nat.le_of_ble_eq_true rfl)
  have hfr := lg_entry_eq m ([.ref (wad w 1 0), .int (oI x1), .int (oI x2)]) 5
  rw [← hargs] at hfr
  rw [hfr]
  generalize (lg_sl ([.ref (wad w 1 0), .int (oI x1), .int (oI x2)]) ++ List.replicate (5 - (lg_sl ([.ref (wad w 1 0), .int (oI x1), .int (oI x2)])).length) Slot.unset).toArray = ls at hl ⊢
  have hl : lv_has ls 5 [(0, .ref (wad w 1 0)), (1, .int (oI x1)), (2, .int (oI x2))] := hl
  unfold wp_House_piece at h
  refine lv_aload_n X.1 X.2.1 dX1_piece_0 rfl (lv_at hl 0 rfl) ?_
  refine wg (v := .ref (wad w 77 0)) X hT hW 1 13 77 vl1_0 rfl rfl (by decide) rfl (by decide) in_X1 q1083 rfl dX1_piece_1 ?_
  refine lv_iconst (v := oI 0) X.1 X.2.1 dX1_piece_4 rfl ?_
  refine wr_V (rS (As := [.ref (wad w 77 0), .int (oI 0)]) (rest := []) X hT hW hS (met_Arrays_fill l (w := w) 77 0 0 _ σ vl77_0 (by decide) rfl (rZ.b rZ_0) h) (va_cwS 2 X.2.2.2.2 (lw_S q1483 q218 q135 q219) rfl rfl rfl (by decide +kernel) ⟨Nat.le_of_ble_eq_true rfl, Nat.le_of_ble_eq_true rfl⟩) rfl hl.1 rfl (by first | exact Nat.le_of_ble_eq_true rfl | simp [catK, catI, catR, catL]) dX1_piece_5 ⟨Nat.le_refl _, Nat.le_refl _⟩) hS (fun σ_14 H locs rkσ_14 h hWσ_14 hS => ?_)
  have h := h rkσ_14
  refine lv_aload_n X.1 X.2.1 dX1_piece_8 rfl (lv_at hl 0 rfl) ?_
  refine wg (v := .ref (wad w 3 0)) X hT hWσ_14 1 1 65 vl1_0 rfl rfl (by decide) rfl (by decide) in_X1 q1071 rfl dX1_piece_9 ?_
  refine wg (v := .ref (wad w 6 0)) X hT hWσ_14 3 2 194 vl3_0 rfl rfl (by decide) rfl (by decide) in_X5 q527 rfl dX1_piece_12 ?_
  refine lv_astore_n (i := 3) (lv' := [(3, .ref (wad w 6 0)), (0, .ref (wad w 1 0)), (1, .int (oI x1)), (2, .int (oI x2))]) X.1 X.2.1 dX1_piece_15 rfl hl (by decide) (by first | rfl | simp [catK, catI, catR, catL]) (fun ls hl => ?_)
  refine lv_aload_n X.1 X.2.1 dX1_piece_16 rfl (lv_at hl 0 rfl) ?_
  refine lv_iload_n X.1 X.2.1 dX1_piece_17 rfl (lv_at hl 2 rfl) ?_
  refine lv_iconst (v := oI 1) X.1 X.2.1 dX1_piece_18 rfl ?_
  refine wr_J (rS (As := [.int (oI x1), .int (oI 1)]) (rest := [.ref (wad w 6 0)]) X hT hWσ_14 hS (met_House_keyOf l (w := w) x1 1 _ σ_14 rx1 rZ_1.i h) (va_cwS 2 X.2.2.2.2 (lw_S q1181 q894 q131 q895) rfl rfl rfl (by decide +kernel) ⟨Nat.le_of_ble_eq_true rfl, Nat.le_of_ble_eq_true rfl⟩) rfl hl.1 rfl (by first | exact Nat.le_of_ble_eq_true rfl | simp [catK, catI, catR, catL]) dX1_piece_19 ⟨Nat.le_refl _, Nat.le_refl _⟩) hS (fun r_15 σ_16 H locs rr_15 rkσ_16 h hWσ_16 hS => ?_)
  have h := h rr_15 rkσ_16
  refine lv_iload_n X.1 X.2.1 dX1_piece_22 rfl (lv_at hl 3 rfl) ?_
  refine w_i2l X rx2 dX1_piece_23 ?_
  refine wr_Z (rV (As := [.long (oL r_15), .long (oL x2)]) (rest := []) X hT hWσ_16 hS (met_Index_find l (w := w) hV 0 r_15 x2 _ σ_16 (by omega) rr_15 (rI.j rx2) h) (cwV 2 X.2.2.2.2 (lw_V q1182 q902 q903 q139 q904) rfl rfl rfl (by decide +kernel) ⟨Nat.le_of_ble_eq_true rfl, Nat.le_of_ble_eq_true rfl⟩) vl6_0 (by decide) rfl rfl hl.1 rfl (by first | exact Nat.le_of_ble_eq_true rfl | simp [catK, catI, catR, catL]) dX1_piece_24 ⟨Nat.le_refl _, Nat.le_refl _⟩) hS (fun r_17 σ_18 H locs rr_17 rkσ_18 h hWσ_18 hS => ?_)
  have h := h rr_17 rkσ_18
  refine w_if_ne (tgt := 32) X rr_17.i dX1_piece_27 (by decide) (fun hc => ?_) (fun hc => ?_)
  · have h := h.1 hc
    refine lv_aload_n X.1 X.2.1 dX1_piece_32 rfl (lv_at hl 1 rfl) ?_
    refine wg (v := .ref (wad w 3 0)) X hT hWσ_18 1 1 65 vl1_0 rfl rfl (by decide) rfl (by decide) in_X1 q1071 rfl dX1_piece_33 ?_
    refine lv_aload_n X.1 X.2.1 dX1_piece_36 rfl (lv_at hl 0 rfl) ?_
    refine wg (v := .int (oI (gI σ_18 393 0))) X hT hWσ_18 6 9 393 vl6_0 rfl rfl (by decide) rfl (by decide) in_X8 q460 rfl dX1_piece_37 ?_
    refine lv_aload_n X.1 X.2.1 dX1_piece_40 rfl (lv_at hl 0 rfl) ?_
    refine wg (v := .int (oI (gI σ_18 394 0))) X hT hWσ_18 6 10 394 vl6_0 rfl rfl (by decide) rfl (by decide) in_X8 q463 rfl dX1_piece_41 ?_
    refine lv_aload_n X.1 X.2.1 dX1_piece_44 rfl (lv_at hl 0 rfl) ?_
    refine wg (v := .int (oI (gI σ_18 395 0))) X hT hWσ_18 6 11 395 vl6_0 rfl rfl (by decide) rfl (by decide) in_X8 q466 rfl dX1_piece_45 ?_
    refine lv_aload_n X.1 X.2.1 dX1_piece_48 rfl (lv_at hl 1 rfl) ?_
    refine wg (v := .ref (wad w 8 7)) X hT hWσ_18 1 12 76 vl1_0 rfl rfl (by decide) rfl (by decide) in_X1 q1082 rfl dX1_piece_49 ?_
    refine wr_V (rV (As := [.int (oI (gI σ_18 393 0)), .int (oI (gI σ_18 394 0)), .int (oI (gI σ_18 395 0)), .ref (wad w 8 7)]) (rest := []) X hT hWσ_18 hS (met_Store_read l (w := w) hV 0 (gI σ_18 393 0) (gI σ_18 394 0) (gI σ_18 395 0) 7 _ σ_18 (by omega) (hWσ_18.r.i 393 0 rfl) (hWσ_18.r.i 394 0 rfl) (hWσ_18.r.i 395 0 rfl) (by omega) h) (cwV 4 X.2.2.2.2 (lw_V q1183 q1184 q1185 q136 q1186) rfl rfl rfl (by decide +kernel) ⟨Nat.le_of_ble_eq_true rfl, Nat.le_of_ble_eq_true rfl⟩) vl3_0 (by decide) rfl rfl hl.1 rfl (by first | exact Nat.le_of_ble_eq_true rfl | simp [catK, catI, catR, catL]) dX1_piece_52 ⟨Nat.le_refl _, Nat.le_refl _⟩) hS (fun σ_20 H locs rkσ_20 h hWσ_20 hS => ?_)
    have h := h rkσ_20
    refine lv_aload_n X.1 X.2.1 dX1_piece_55 rfl (lv_at hl 1 rfl) ?_
    refine wg (v := .ref (wad w 8 7)) X hT hWσ_20 1 12 76 vl1_0 rfl rfl (by decide) rfl (by decide) in_X1 q1082 rfl dX1_piece_56 ?_
    refine lv_iconst (v := oI 4) X.1 X.2.1 dX1_piece_59 rfl ?_
    refine wr_I (rV (As := [.int (oI 4)]) (rest := []) X hT hWσ_20 hS (met_Row_get l (w := w) hV 7 4 _ σ_20 (by omega) ((rB_lit 4 (by decide)).i) h) (cwV 1 X.2.2.2.2 (lw_V q1206 q1207 q1208 q132 q1209) rfl rfl rfl (by decide +kernel) ⟨Nat.le_of_ble_eq_true rfl, Nat.le_of_ble_eq_true rfl⟩) vl8_7 (by decide) rfl rfl hl.1 rfl (by first | exact Nat.le_of_ble_eq_true rfl | simp [catK, catI, catR, catL]) dX1_piece_60 ⟨Nat.le_refl _, Nat.le_refl _⟩) hS (fun r_21 σ_22 H locs rr_21 rkσ_22 h hWσ_22 hS => ?_)
    have h := h rr_21 rkσ_22
    refine lv_bipush (v := oI 16) X.1 X.2.1 dX1_piece_63 (by decide) ?_
    refine w_iushr X dX1_piece_65 ?_
    refine w_top (fun y4_23 ey4_23 => ?_)
    have h := h y4_23 ey4_23
    have ry4_23 : rI y4_23 := by rw [ey4_23]; exact (iushr_r _ _)
    refine lv_istore (i := 4) (lv' := [(4, .int (oI y4_23)), (3, .ref (wad w 6 0)), (0, .ref (wad w 1 0)), (1, .int (oI x1)), (2, .int (oI x2))]) X.1 X.2.1 dX1_piece_66 hl (by decide) (by first | rfl | simp [catK, catI, catR, catL]) (fun ls hl => ?_)
    refine lv_aload_n X.1 X.2.1 dX1_piece_68 rfl (lv_at hl 2 rfl) ?_
    refine wg (v := .ref (wad w 8 7)) X hT hWσ_22 1 12 76 vl1_0 rfl rfl (by decide) rfl (by decide) in_X1 q1082 rfl dX1_piece_69 ?_
    refine wg (v := .ref (wad w 512 7)) X hT hWσ_22 8 0 512 vl8_7 rfl rfl (by decide) rfl (by decide) in_X2 q167 rfl dX1_piece_72 ?_
    refine lv_bipush (v := oI 32) X.1 X.2.1 dX1_piece_75 (by decide) ?_
    refine lv_aload_n X.1 X.2.1 dX1_piece_77 rfl (lv_at hl 2 rfl) ?_
    refine wg (v := .ref (wad w 77 0)) X hT hWσ_22 1 13 77 vl1_0 rfl rfl (by decide) rfl (by decide) in_X1 q1083 rfl dX1_piece_78 ?_
    refine lv_iconst (v := oI 0) X.1 X.2.1 dX1_piece_81 rfl ?_
    refine lv_iload X.1 X.2.1 dX1_piece_82 (lv_at hl 0 rfl) ?_
    obtain ⟨bi, h⟩ := h
    refine w_copy (nf := (rowL 7)) (ng := 64) (sp := 32) (dp := 0) (n := y4_23) X hT hWσ_22 hS hl.1 512 77 vl512_7 vl77_0 (by decide) (by decide) rfl rfl rfl rfl bi q1248 q699 q698 q142 (Nat.le_of_ble_eq_true rfl) (Nat.le_of_ble_eq_true rfl) dX1_piece_84 (fun H locs hN hS => ?_)
    obtain ⟨σ_24, eσ_24⟩ : ∃ x, x = sAr σ_22 77 0 (cpy (gA σ_22 512 7) (gA σ_22 77 0) 32 0 y4_23) := ⟨_, rfl⟩
    have hWσ_24 : Wo w σ_24 H := eσ_24 ▸ hN
    have h := h σ_24 eσ_24
    clear hN
    refine lv_iload X.1 X.2.1 dX1_piece_87 (lv_at hl 0 rfl) ?_
    exact wret_I X hr hlk hWσ_24 hS ry4_23 h dX1_piece_89
  · have h := h.2 hc
    refine lv_iconst (v := oI 0) X.1 X.2.1 dX1_piece_30 rfl ?_
    exact wret_I X hr hlk hWσ_18 hS rZ_0.i h dX1_piece_31
/-! House.walk(IZ)I -/
set_option maxHeartbeats 4000000 in
set_option maxRecDepth 100000 in
theorem wk_House_walk_b348 {p : Program} {l : Launch} {e : Env} {st : State} {m : MethodId} {args : Array Value} {below : List Frame} {meth : Method} {c : Code} {w : Wp} {x1 : Int} {x2 : Int} {Q : Int → St → Prop} (X : CallFix p m c cX1_walk 13 st args lw_all RX1) (hr : meth.sig.returnType = (some .int)) (hlk : meth.locks = false) (hT : Tb w st) (hV : Hvl w) (rx1 : rI x1) (rx2 : rZ x2) (K355 : Int → Int → Int → St → Prop) (hK355 : ∀ (y3 y5 y6 : Int) (σ : St) (H : Heap) (locs : List Loc) (ls : Array Slot), rI y3 → rI y5 → rI y6 → lv_has ls 13 [(0, .ref (wad w 1 0)), (2, .int (oI x2)), (3, .int (oI y3)), (5, .int (oI y5)), (6, .int (oI y6))] → Wo w σ H → va_S (wA w) st.heap H locs → K355 y3 y5 y6 σ → W p l e (headSpec (ws_ yX1_walk cX1_walk 13 (some .int)) rm_House_walk).room st m args below meth c H locs 0 0 (MQ below (QcI w Q) args st 0 0 (wA w)) (F0 m 355 ls [])) : ∀ (y3 y5 y6 : Int) (σ : St) (H : Heap) (locs : List Loc) (ls : Array Slot), rI y3 → rI y5 → rI y6 → lv_has ls 13 [(0, .ref (wad w 1 0)), (2, .int (oI x2)), (3, .int (oI y3)), (5, .int (oI y5)), (6, .int (oI y6))] → Wo w σ H → va_S (wA w) st.heap H locs → wp_House_walk_b348 (wc w) (wtv w) x1 x2 Q K355 y3 y5 y6 σ → W p l e (headSpec (ws_ yX1_walk cX1_walk 13 (some .int)) rm_House_walk).room st m args below meth c H locs 0 0 (MQ below (QcI w Q) args st 0 0 (wA w)) (F0 m 348 ls []) := by

  intro y3 y5 y6 σ H locs ls ry3 ry5 ry6 hl hW hS h
  unfold wp_House_walk_b348 at h
  refine lv_goto (tgt := 355) X.1 X.2.1 dX1_walk_348 (by decide) ?_
  exact hK355 y3 y5 y6 σ _ _ _ ry3 ry5 ry6 (lv_sub hl [0, 1, 2, 3, 4] rfl) hW hS h
set_option maxHeartbeats 4000000 in
set_option maxRecDepth 100000 in
theorem wk_House_walk_b291 {p : Program} {l : Launch} {e : Env} {st : State} {m : MethodId} {args : Array Value} {below : List Frame} {meth : Method} {c : Code} {w : Wp} {x1 : Int} {x2 : Int} {Q : Int → St → Prop} (X : CallFix p m c cX1_walk 13 st args lw_all RX1) (hr : meth.sig.returnType = (some .int)) (hlk : meth.locks = false) (hT : Tb w st) (hV : Hvl w) (rx1 : rI x1) (rx2 : rZ x2) (K355 : Int → Int → Int → St → Prop) (hK355 : ∀ (y3 y5 y6 : Int) (σ : St) (H : Heap) (locs : List Loc) (ls : Array Slot), rI y3 → rI y5 → rI y6 → lv_has ls 13 [(0, .ref (wad w 1 0)), (2, .int (oI x2)), (3, .int (oI y3)), (5, .int (oI y5)), (6, .int (oI y6))] → Wo w σ H → va_S (wA w) st.heap H locs → K355 y3 y5 y6 σ → W p l e (headSpec (ws_ yX1_walk cX1_walk 13 (some .int)) rm_House_walk).room st m args below meth c H locs 0 0 (MQ below (QcI w Q) args st 0 0 (wA w)) (F0 m 355 ls [])) : ∀ (y5 y6 y7 y11 : Int) (σ : St) (H : Heap) (locs : List Loc) (ls : Array Slot), rI y5 → rI y6 → rI y7 → rI y11 → lv_has ls 13 [(0, .ref (wad w 1 0)), (2, .int (oI x2)), (5, .int (oI y5)), (6, .int (oI y6)), (7, .int (oI y7)), (11, .int (oI y11))] → Wo w σ H → va_S (wA w) st.heap H locs → wp_House_walk_b291 (wc w) (wtv w) x1 x2 Q K355 y5 y6 y7 y11 σ → W p l e (headSpec (ws_ yX1_walk cX1_walk 13 (some .int)) rm_House_walk).room st m args below meth c H locs 0 0 (MQ below (QcI w Q) args st 0 0 (wA w)) (F0 m 291 ls []) := by
  have vl1_0 : vl w 1 0 := hV.hv 1 rfl ⟨by omega, by show _ < (1 : Int); omega⟩
  have vl77_0 : vl w 77 0 := hV.hv 77 rfl ⟨by omega, by show _ < (1 : Int); omega⟩
  have vl89_0 : vl w 89 0 := hV.hv 89 rfl ⟨by omega, by show _ < (1 : Int); omega⟩
  intro y5 y6 y7 y11 σ H locs ls ry5 ry6 ry7 ry11 hl hW hS h
  unfold wp_House_walk_b291 at h
  obtain ⟨y6_137, ey6_137⟩ : ∃ y : Int, y = w32 (y6 + 1) := ⟨_, rfl⟩
  have h := h y6_137 ey6_137
  have ry6_137 : rI y6_137 := by rw [ey6_137]; exact w32_r _
  refine lv_iinc (v := oI y6_137) (lv' := [(6, .int (oI y6_137)), (0, .ref (wad w 1 0)), (2, .int (oI x2)), (5, .int (oI y5)), (7, .int (oI y7)), (11, .int (oI y11))]) X.1 X.2.1 dX1_walk_291 hl (k := 3) rfl (by rw [ey6_137]; exact oI_add _ _) (by decide) (by first | rfl | simp [catK, catI, catR, catL]) (fun ls hl => ?_)
  refine lv_iload X.1 X.2.1 dX1_walk_294 (lv_at hl 0 rfl) ?_
  refine lv_bipush (v := oI 8) X.1 X.2.1 dX1_walk_296 (by decide) ?_
  refine w_icmp_le (tgt := 304) X ry6_137 ((rB_lit 8 (by decide)).i) dX1_walk_298 (by decide) (fun hc => ?_) (fun hc => ?_)
  · have h := h.1 hc
    refine lv_aload_n X.1 X.2.1 dX1_walk_304 rfl (lv_at hl 1 rfl) ?_
    refine lv_iload X.1 X.2.1 dX1_walk_305 (lv_at hl 5 rfl) ?_
    refine lv_iconst (v := oI 0) X.1 X.2.1 dX1_walk_307 rfl ?_
    refine wr_I (rV (As := [.int (oI y11), .int (oI 0)]) (rest := []) X hT hW hS (met_House_piece l (w := w) hV y11 0 _ σ ry11 rZ_0.i h) (cwV 2 X.2.2.2.2 (lw_V q1479 q1481 qs64 q131 q1482) rfl rfl rfl (by decide +kernel) ⟨Nat.le_of_ble_eq_true rfl, Nat.le_of_ble_eq_true rfl⟩) vl1_0 (by decide) rfl rfl hl.1 rfl (by first | exact Nat.le_of_ble_eq_true rfl | simp [catK, catI, catR, catL]) dX1_walk_308 ⟨Nat.le_refl _, Nat.le_refl _⟩) hS (fun r_138 σ_139 H locs rr_138 rkσ_139 h hWσ_139 hS => ?_)
    have h := h rr_138 rkσ_139
    refine lv_istore (i := 12) (lv' := [(12, .int (oI r_138)), (6, .int (oI y6_137)), (0, .ref (wad w 1 0)), (2, .int (oI x2)), (5, .int (oI y5)), (7, .int (oI y7)), (11, .int (oI y11))]) X.1 X.2.1 dX1_walk_311 hl (by decide) (by first | rfl | simp [catK, catI, catR, catL]) (fun ls hl => ?_)
    refine lv_iload X.1 X.2.1 dX1_walk_313 (lv_at hl 5 rfl) ?_
    refine lv_iload X.1 X.2.1 dX1_walk_315 (lv_at hl 0 rfl) ?_
    refine w_isub X dX1_walk_317 ?_
    refine w_top (fun y3_140 ey3_140 => ?_)
    have h := h y3_140 ey3_140
    have ry3_140 : rI y3_140 := by rw [ey3_140]; exact (w32_r _)
    refine lv_istore_n (i := 3) (lv' := [(3, .int (oI y3_140)), (12, .int (oI r_138)), (6, .int (oI y6_137)), (0, .ref (wad w 1 0)), (2, .int (oI x2)), (5, .int (oI y5)), (7, .int (oI y7)), (11, .int (oI y11))]) X.1 X.2.1 dX1_walk_318 rfl hl (by decide) (by first | rfl | simp [catK, catI, catR, catL]) (fun ls hl => ?_)
    refine lv_aload_n X.1 X.2.1 dX1_walk_319 rfl (lv_at hl 3 rfl) ?_
    refine wg (v := .ref (wad w 77 0)) X hT hWσ_139 1 13 77 vl1_0 rfl rfl (by decide) rfl (by decide) in_X1 q1083 rfl dX1_walk_320 ?_
    refine lv_iconst (v := oI 0) X.1 X.2.1 dX1_walk_323 rfl ?_
    refine lv_aload_n X.1 X.2.1 dX1_walk_324 rfl (lv_at hl 3 rfl) ?_
    refine wg (v := .ref (wad w 89 0)) X hT hWσ_139 1 25 89 vl1_0 rfl rfl (by decide) rfl (by decide) in_X1 q1095 rfl dX1_walk_325 ?_
    refine lv_iload_n X.1 X.2.1 dX1_walk_328 rfl (lv_at hl 0 rfl) ?_
    refine lv_iload X.1 X.2.1 dX1_walk_329 (lv_at hl 1 rfl) ?_
    obtain ⟨bi, h⟩ := h
    refine w_copy (nf := 64) (ng := 1024) (sp := 0) (dp := y3_140) (n := r_138) X hT hWσ_139 hS hl.1 77 89 vl77_0 vl89_0 (by decide) (by decide) rfl rfl rfl rfl bi q1248 q699 q698 q142 (Nat.le_of_ble_eq_true rfl) (Nat.le_of_ble_eq_true rfl) dX1_walk_331 (fun H locs hN hS => ?_)
    obtain ⟨σ_141, eσ_141⟩ : ∃ x, x = sAr σ_139 89 0 (cpy (gA σ_139 77 0) (gA σ_139 89 0) 0 y3_140 r_138) := ⟨_, rfl⟩
    have hWσ_141 : Wo w σ_141 H := eσ_141 ▸ hN
    have h := h σ_141 eσ_141
    clear hN
    refine lv_aload_n X.1 X.2.1 dX1_walk_334 rfl (lv_at hl 3 rfl) ?_
    refine wg (v := .ref (wad w 89 0)) X hT hWσ_141 1 25 89 vl1_0 rfl rfl (by decide) rfl (by decide) in_X1 q1095 rfl dX1_walk_335 ?_
    refine lv_iload_n X.1 X.2.1 dX1_walk_338 rfl (lv_at hl 0 rfl) ?_
    obtain ⟨bi, h⟩ := h
    refine w_bald (n := 1024) X hT hWσ_141 89 vl89_0 (by decide) rfl rfl bi dX1_walk_339 ?_
    refine lv_bipush (v := oI 47) X.1 X.2.1 dX1_walk_340 (by decide) ?_
    refine w_icmp_ne (tgt := 348) X ((hWσ_141.r.ab 89 0 y3_140 rfl).i) ((rB_lit 47 (by decide)).i) dX1_walk_342 (by decide) (fun hc => ?_) (fun hc => ?_)
    · have h := h.1 hc
      exact wk_House_walk_b348 X hr hlk hT hV rx1 rx2 K355 hK355 y3_140 y5 y6_137 σ_141 _ _ _ ry3_140 ry5 ry6_137 (lv_sub hl [3, 4, 0, 5, 2] rfl) hWσ_141 hS h
    · have h := h.2 hc
      refine lv_iconst (v := oI 1) X.1 X.2.1 dX1_walk_345 rfl ?_
      refine lv_istore (i := 5) (lv' := [(5, .int (oI 1)), (3, .int (oI y3_140)), (12, .int (oI r_138)), (6, .int (oI y6_137)), (0, .ref (wad w 1 0)), (2, .int (oI x2)), (7, .int (oI y7)), (11, .int (oI y11))]) X.1 X.2.1 dX1_walk_346 hl (by decide) (by first | rfl | simp [catK, catI, catR, catL]) (fun ls hl => ?_)
      exact wk_House_walk_b348 X hr hlk hT hV rx1 rx2 K355 hK355 y3_140 1 y6_137 σ_141 _ _ _ ry3_140 rZ_1.i ry6_137 (lv_sub hl [4, 5, 1, 0, 3] rfl) hWσ_141 hS h
  · have h := h.2 hc
    refine lv_bipush (v := oI (-9)) X.1 X.2.1 dX1_walk_301 (by decide) ?_
    exact wret_I X hr hlk hW hS ((rB_lit (-9) (by decide)).i) h dX1_walk_303
set_option maxHeartbeats 4000000 in
set_option maxRecDepth 100000 in
theorem wk_House_walk_b351 {p : Program} {l : Launch} {e : Env} {st : State} {m : MethodId} {args : Array Value} {below : List Frame} {meth : Method} {c : Code} {w : Wp} {x1 : Int} {x2 : Int} {Q : Int → St → Prop} (X : CallFix p m c cX1_walk 13 st args lw_all RX1) (hr : meth.sig.returnType = (some .int)) (hlk : meth.locks = false) (hT : Tb w st) (hV : Hvl w) (rx1 : rI x1) (rx2 : rZ x2) (K355 : Int → Int → Int → St → Prop) (hK355 : ∀ (y3 y5 y6 : Int) (σ : St) (H : Heap) (locs : List Loc) (ls : Array Slot), rI y3 → rI y5 → rI y6 → lv_has ls 13 [(0, .ref (wad w 1 0)), (2, .int (oI x2)), (3, .int (oI y3)), (5, .int (oI y5)), (6, .int (oI y6))] → Wo w σ H → va_S (wA w) st.heap H locs → K355 y3 y5 y6 σ → W p l e (headSpec (ws_ yX1_walk cX1_walk 13 (some .int)) rm_House_walk).room st m args below meth c H locs 0 0 (MQ below (QcI w Q) args st 0 0 (wA w)) (F0 m 355 ls [])) : ∀ (y3 y6 y11 : Int) (σ : St) (H : Heap) (locs : List Loc) (ls : Array Slot), rI y3 → rI y6 → rI y11 → lv_has ls 13 [(0, .ref (wad w 1 0)), (2, .int (oI x2)), (3, .int (oI y3)), (6, .int (oI y6)), (11, .int (oI y11))] → Wo w σ H → va_S (wA w) st.heap H locs → wp_House_walk_b351 (wc w) (wtv w) x1 x2 Q K355 y3 y6 y11 σ → W p l e (headSpec (ws_ yX1_walk cX1_walk 13 (some .int)) rm_House_walk).room st m args below meth c H locs 0 0 (MQ below (QcI w Q) args st 0 0 (wA w)) (F0 m 351 ls []) := by

  intro y3 y6 y11 σ H locs ls ry3 ry6 ry11 hl hW hS h
  unfold wp_House_walk_b351 at h
  refine lv_iload X.1 X.2.1 dX1_walk_351 (lv_at hl 4 rfl) ?_
  refine lv_istore (i := 5) (lv' := [(5, .int (oI y11)), (0, .ref (wad w 1 0)), (2, .int (oI x2)), (3, .int (oI y3)), (6, .int (oI y6)), (11, .int (oI y11))]) X.1 X.2.1 dX1_walk_353 hl (by decide) (by first | rfl | simp [catK, catI, catR, catL]) (fun ls hl => ?_)
  exact hK355 y3 y11 y6 σ _ _ _ ry3 ry11 ry6 (lv_sub hl [1, 2, 3, 0, 4] rfl) hW hS h
set_option maxHeartbeats 4000000 in
set_option maxRecDepth 100000 in
theorem wk_House_walk_b171 {p : Program} {l : Launch} {e : Env} {st : State} {m : MethodId} {args : Array Value} {below : List Frame} {meth : Method} {c : Code} {w : Wp} {x1 : Int} {x2 : Int} {Q : Int → St → Prop} (X : CallFix p m c cX1_walk 13 st args lw_all RX1) (hr : meth.sig.returnType = (some .int)) (hlk : meth.locks = false) (hT : Tb w st) (hV : Hvl w) (rx1 : rI x1) (rx2 : rZ x2) (K355 : Int → Int → Int → St → Prop) (hK355 : ∀ (y3 y5 y6 : Int) (σ : St) (H : Heap) (locs : List Loc) (ls : Array Slot), rI y3 → rI y5 → rI y6 → lv_has ls 13 [(0, .ref (wad w 1 0)), (2, .int (oI x2)), (3, .int (oI y3)), (5, .int (oI y5)), (6, .int (oI y6))] → Wo w σ H → va_S (wA w) st.heap H locs → K355 y3 y5 y6 σ → W p l e (headSpec (ws_ yX1_walk cX1_walk 13 (some .int)) rm_House_walk).room st m args below meth c H locs 0 0 (MQ below (QcI w Q) args st 0 0 (wA w)) (F0 m 355 ls [])) : ∀ (y6 y7 t0 : Int) (σ : St) (H : Heap) (locs : List Loc) (ls : Array Slot), rI y6 → rI y7 → rI t0 → lv_has ls 13 [(0, .ref (wad w 1 0)), (2, .int (oI x2)), (6, .int (oI y6)), (7, .int (oI y7))] → Wo w σ H → va_S (wA w) st.heap H locs → wp_House_walk_b171 (wc w) (wtv w) x1 x2 Q K355 y6 y7 t0 σ → W p l e (headSpec (ws_ yX1_walk cX1_walk 13 (some .int)) rm_House_walk).room st m args below meth c H locs 0 0 (MQ below (QcI w Q) args st 0 0 (wA w)) (F0 m 171 ls [.int (oI t0)]) := by

  intro y6 y7 t0 σ H locs ls ry6 ry7 rt0 hl hW hS h
  unfold wp_House_walk_b171 at h
  refine lv_istore (i := 5) (lv' := [(5, .int (oI t0)), (0, .ref (wad w 1 0)), (2, .int (oI x2)), (6, .int (oI y6)), (7, .int (oI y7))]) X.1 X.2.1 dX1_walk_171 hl (by decide) (by first | rfl | simp [catK, catI, catR, catL]) (fun ls hl => ?_)
  refine lv_iload X.1 X.2.1 dX1_walk_173 (lv_at hl 4 rfl) ?_
  refine lv_istore_n (i := 3) (lv' := [(3, .int (oI y7)), (5, .int (oI t0)), (0, .ref (wad w 1 0)), (2, .int (oI x2)), (6, .int (oI y6)), (7, .int (oI y7))]) X.1 X.2.1 dX1_walk_175 rfl hl (by decide) (by first | rfl | simp [catK, catI, catR, catL]) (fun ls hl => ?_)
  refine lv_goto (tgt := 355) X.1 X.2.1 dX1_walk_176 (by decide) ?_
  exact hK355 y7 t0 y6 σ _ _ _ ry7 rt0 ry6 (lv_sub hl [2, 3, 0, 1, 4] rfl) hW hS h
set_option maxHeartbeats 4000000 in
set_option maxRecDepth 100000 in
theorem wk_House_walk_b355 {p : Program} {l : Launch} {e : Env} {st : State} {m : MethodId} {args : Array Value} {below : List Frame} {meth : Method} {c : Code} {w : Wp} {x1 : Int} {x2 : Int} {Q : Int → St → Prop} (X : CallFix p m c cX1_walk 13 st args lw_all RX1) (hr : meth.sig.returnType = (some .int)) (hlk : meth.locks = false) (hT : Tb w st) (hV : Hvl w) (rx1 : rI x1) (rx2 : rZ x2) (K95 : Int → Int → Int → St → Prop) (hK95 : ∀ (y3 y5 y6 : Int) (σ : St) (H : Heap) (locs : List Loc) (ls : Array Slot), rI y3 → rI y5 → rI y6 → lv_has ls 13 [(0, .ref (wad w 1 0)), (2, .int (oI x2)), (3, .int (oI y3)), (5, .int (oI y5)), (6, .int (oI y6))] → Wo w σ H → va_S (wA w) st.heap H locs → K95 y3 y5 y6 σ → W p l e (headSpec (ws_ yX1_walk cX1_walk 13 (some .int)) rm_House_walk).room st m args below meth c H locs 0 0 (MQ below (QcI w Q) args st 0 0 (wA w)) (F0 m 95 ls [])) : ∀ (y3 y5 y6 : Int) (σ : St) (H : Heap) (locs : List Loc) (ls : Array Slot), rI y3 → rI y5 → rI y6 → lv_has ls 13 [(0, .ref (wad w 1 0)), (2, .int (oI x2)), (3, .int (oI y3)), (5, .int (oI y5)), (6, .int (oI y6))] → Wo w σ H → va_S (wA w) st.heap H locs → wp_House_walk_b355 (wc w) (wtv w) x1 x2 Q K95 y3 y5 y6 σ → W p l e (headSpec (ws_ yX1_walk cX1_walk 13 (some .int)) rm_House_walk).room st m args below meth c H locs 0 0 (MQ below (QcI w Q) args st 0 0 (wA w)) (F0 m 355 ls []) := by
  have vl1_0 : vl w 1 0 := hV.hv 1 rfl ⟨by omega, by show _ < (1 : Int); omega⟩
  intro y3 y5 y6 σ H locs ls ry3 ry5 ry6 hl hW hS h
  unfold wp_House_walk_b355 at h
  refine lv_aload_n X.1 X.2.1 dX1_walk_355 rfl (lv_at hl 0 rfl) ?_
  refine lv_iload_n X.1 X.2.1 dX1_walk_356 rfl (lv_at hl 2 rfl) ?_
  refine lv_iconst (v := oI 0) X.1 X.2.1 dX1_walk_357 rfl ?_
  refine wr_I (rV (As := [.int (oI y3), .int (oI 0)]) (rest := []) X hT hW hS (met_House_next l (w := w) hV y3 0 _ σ ry3 rZ_0 h) (cwV 2 X.2.2.2.2 (lw_V q1467 q1469 qs61 q131 q1470) rfl rfl rfl (by decide +kernel) ⟨Nat.le_of_ble_eq_true rfl, Nat.le_of_ble_eq_true rfl⟩) vl1_0 (by decide) rfl rfl hl.1 rfl (by first | exact Nat.le_of_ble_eq_true rfl | simp [catK, catI, catR, catL]) dX1_walk_358 ⟨Nat.le_refl _, Nat.le_refl _⟩) hS (fun r_142 σ_143 H locs rr_142 rkσ_143 h hWσ_143 hS => ?_)
  have h := h rr_142 rkσ_143
  refine lv_istore_n (i := 3) (lv' := [(3, .int (oI r_142)), (0, .ref (wad w 1 0)), (2, .int (oI x2)), (5, .int (oI y5)), (6, .int (oI y6))]) X.1 X.2.1 dX1_walk_361 rfl hl (by decide) (by first | rfl | simp [catK, catI, catR, catL]) (fun ls hl => ?_)
  refine lv_goto (tgt := 95) X.1 X.2.1 dX1_walk_362 (by decide) ?_
  exact hK95 r_142 y5 y6 σ_143 _ _ _ rr_142 ry5 ry6 (lv_sub hl [1, 2, 0, 3, 4] rfl) hWσ_143 hS h
set_option maxHeartbeats 4000000 in
set_option maxRecDepth 100000 in
theorem wk_House_walk_L198B {p : Program} {l : Launch} {e : Env} {st : State} {m : MethodId} {args : Array Value} {below : List Frame} {meth : Method} {c : Code} {w : Wp} {x1 : Int} {x2 : Int} {Q : Int → St → Prop} (X : CallFix p m c cX1_walk 13 st args lw_all RX1) (hr : meth.sig.returnType = (some .int)) (hlk : meth.locks = false) (hT : Tb w st) (hV : Hvl w) (rx1 : rI x1) (rx2 : rZ x2) (K355 : Int → Int → Int → St → Prop) (K198 : Int → Int → Int → Int → Int → Int → St → Prop) (hK355 : ∀ (y3 y5 y6 : Int) (σ : St) (H : Heap) (locs : List Loc) (ls : Array Slot), rI y3 → rI y5 → rI y6 → lv_has ls 13 [(0, .ref (wad w 1 0)), (2, .int (oI x2)), (3, .int (oI y3)), (5, .int (oI y5)), (6, .int (oI y6))] → Wo w σ H → va_S (wA w) st.heap H locs → K355 y3 y5 y6 σ → W p l e (headSpec (ws_ yX1_walk cX1_walk 13 (some .int)) rm_House_walk).room st m args below meth c H locs 0 0 (MQ below (QcI w Q) args st 0 0 (wA w)) (F0 m 355 ls [])) (hK198 : ∀ (y3 y5 y6 y7 y9 y11 : Int) (σ : St) (H : Heap) (locs : List Loc) (ls : Array Slot), rI y3 → rI y5 → rI y6 → rI y7 → rJ y9 → rI y11 → lv_has ls 13 [(0, .ref (wad w 1 0)), (2, .int (oI x2)), (3, .int (oI y3)), (5, .int (oI y5)), (6, .int (oI y6)), (7, .int (oI y7)), (9, .long (oL y9)), (11, .int (oI y11))] → Wo w σ H → va_S (wA w) st.heap H locs → K198 y3 y5 y6 y7 y9 y11 σ → W p l e (headSpec (ws_ yX1_walk cX1_walk 13 (some .int)) rm_House_walk).room st m args below meth c H locs 0 0 (MQ below (QcI w Q) args st 0 0 (wA w)) (F0 m 198 ls [])) : ∀ (y3 y5 y6 y7 y9 y11 : Int) (σ : St) (H : Heap) (locs : List Loc) (ls : Array Slot), rI y3 → rI y5 → rI y6 → rI y7 → rJ y9 → rI y11 → lv_has ls 13 [(0, .ref (wad w 1 0)), (2, .int (oI x2)), (3, .int (oI y3)), (5, .int (oI y5)), (6, .int (oI y6)), (7, .int (oI y7)), (9, .long (oL y9)), (11, .int (oI y11))] → Wo w σ H → va_S (wA w) st.heap H locs → wp_House_walk_L198 (wc w) (wtv w) x1 x2 Q K355 K198 y3 y5 y6 y7 y9 y11 σ → W p l e (headSpec (ws_ yX1_walk cX1_walk 13 (some .int)) rm_House_walk).room st m args below meth c H locs 0 0 (MQ below (QcI w Q) args st 0 0 (wA w)) (F0 m 198 ls []) := by
  have vl1_0 : vl w 1 0 := hV.hv 1 rfl ⟨by omega, by show _ < (1 : Int); omega⟩
  have vl10_1 : vl w 10 1 := hV.hv 10 rfl ⟨by omega, by show _ < (4 : Int); omega⟩
  have vl89_0 : vl w 89 0 := hV.hv 89 rfl ⟨by omega, by show _ < (1 : Int); omega⟩
  intro y3 y5 y6 y7 y9 y11 σ H locs ls ry3 ry5 ry6 ry7 ry9 ry11 hl hW hS h
  unfold wp_House_walk_L198 at h
  refine lv_iload X.1 X.2.1 dX1_walk_198 (lv_at hl 7 rfl) ?_
  refine w_if_lt (tgt := 231) X ry11 dX1_walk_200 (by decide) (fun hc => ?_) (fun hc => ?_)
  · have h := h.1 hc
    refine lv_aload_n X.1 X.2.1 dX1_walk_231 rfl (lv_at hl 0 rfl) ?_
    refine lv_iload X.1 X.2.1 dX1_walk_232 (lv_at hl 3 rfl) ?_
    refine lv_lload X.1 X.2.1 dX1_walk_234 (lv_at hl 6 rfl) ?_
    refine wr_I (rV (As := [.int (oI y5), .long (oL y9)]) (rest := []) X hT hW hS (met_House_entry l (w := w) hV y5 y9 _ σ ry5 ry9 h) (cwV 2 X.2.2.2.2 (lw_V q1210 q1212 qs34 q131 q1213) rfl rfl rfl (by decide +kernel) ⟨Nat.le_of_ble_eq_true rfl, Nat.le_of_ble_eq_true rfl⟩) vl1_0 (by decide) rfl rfl hl.1 rfl (by first | exact Nat.le_of_ble_eq_true rfl | simp [catK, catI, catR, catL]) dX1_walk_236 ⟨Nat.le_refl _, Nat.le_refl _⟩) hS (fun r_144 σ_145 H locs rr_144 rkσ_145 h hWσ_145 hS => ?_)
    have h := h rr_144 rkσ_145
    refine lv_istore (i := 11) (lv' := [(11, .int (oI r_144)), (0, .ref (wad w 1 0)), (2, .int (oI x2)), (3, .int (oI y3)), (5, .int (oI y5)), (6, .int (oI y6)), (7, .int (oI y7)), (9, .long (oL y9))]) X.1 X.2.1 dX1_walk_239 hl (by decide) (by first | rfl | simp [catK, catI, catR, catL]) (fun ls hl => ?_)
    refine lv_iload X.1 X.2.1 dX1_walk_241 (lv_at hl 0 rfl) ?_
    refine w_if_ne (tgt := 249) X rr_144 dX1_walk_243 (by decide) (fun hc => ?_) (fun hc => ?_)
    · have h := h.1 hc
      refine lv_aload_n X.1 X.2.1 dX1_walk_249 rfl (lv_at hl 1 rfl) ?_
      refine lv_iload X.1 X.2.1 dX1_walk_250 (lv_at hl 0 rfl) ?_
      refine lv_aload_n X.1 X.2.1 dX1_walk_252 rfl (lv_at hl 1 rfl) ?_
      refine wg (v := .ref (wad w 10 1)) X hT hWσ_145 1 15 79 vl1_0 rfl rfl (by decide) rfl (by decide) in_X1 q1085 rfl dX1_walk_253 ?_
      refine wr_Z (rV (As := [.int (oI r_144), .ref (wad w 10 1)]) (rest := []) X hT hWσ_145 hS (met_House_read l (w := w) hV r_144 1 _ σ_145 rr_144 (by omega) h) (cwV 2 X.2.2.2.2 (lw_V q1177 q1179 qs32 q131 q1180) rfl rfl rfl (by decide +kernel) ⟨Nat.le_of_ble_eq_true rfl, Nat.le_of_ble_eq_true rfl⟩) vl1_0 (by decide) rfl rfl hl.1 rfl (by first | exact Nat.le_of_ble_eq_true rfl | simp [catK, catI, catR, catL]) dX1_walk_256 ⟨Nat.le_refl _, Nat.le_refl _⟩) hS (fun r_146 σ_147 H locs rr_146 rkσ_147 h hWσ_147 hS => ?_)
      have h := h rr_146 rkσ_147
      refine lv_pop X.1 X.2.1 dX1_walk_259 rfl ?_
      refine lv_iload X.1 X.2.1 dX1_walk_260 (lv_at hl 6 rfl) ?_
      refine lv_istore_n (i := 3) (lv' := [(3, .int (oI y7)), (11, .int (oI r_144)), (0, .ref (wad w 1 0)), (2, .int (oI x2)), (5, .int (oI y5)), (6, .int (oI y6)), (7, .int (oI y7)), (9, .long (oL y9))]) X.1 X.2.1 dX1_walk_262 rfl hl (by decide) (by first | rfl | simp [catK, catI, catR, catL]) (fun ls hl => ?_)
      refine lv_aload_n X.1 X.2.1 dX1_walk_263 rfl (lv_at hl 2 rfl) ?_
      refine wg (v := .ref (wad w 10 1)) X hT hWσ_147 1 15 79 vl1_0 rfl rfl (by decide) rfl (by decide) in_X1 q1085 rfl dX1_walk_264 ?_
      refine wg (v := .int (oI (gI σ_147 641 1))) X hT hWσ_147 10 1 641 vl10_1 rfl rfl (by decide) rfl (by decide) in_X3 q190 rfl dX1_walk_267 ?_
      refine lv_iconst (v := oI 3) X.1 X.2.1 dX1_walk_270 rfl ?_
      refine w_icmp_ne (tgt := 351) X (hWσ_147.r.i 641 1 rfl) ((rB_lit 3 (by decide)).i) dX1_walk_271 (by decide) (fun hc => ?_) (fun hc => ?_)
      · have h := h.1 hc
        exact wk_House_walk_b351 X hr hlk hT hV rx1 rx2 K355 hK355 y7 y6 r_144 σ_147 _ _ _ ry7 ry6 rr_144 (lv_sub hl [2, 3, 0, 5, 1] rfl) hWσ_147 hS h
      · have h := h.2 hc
        refine lv_iload_n X.1 X.2.1 dX1_walk_274 rfl (lv_at hl 3 rfl) ?_
        refine w_if_ne (tgt := 291) X rx2.i dX1_walk_275 (by decide) (fun hc => ?_) (fun hc => ?_)
        · have h := h.1 hc
          exact wk_House_walk_b291 X hr hlk hT hV rx1 rx2 K355 hK355 y5 y6 y7 r_144 σ_147 _ _ _ ry5 ry6 ry7 rr_144 (lv_sub hl [2, 3, 4, 5, 6, 1] rfl) hWσ_147 hS h
        · have h := h.2 hc
          refine lv_aload_n X.1 X.2.1 dX1_walk_278 rfl (lv_at hl 2 rfl) ?_
          refine lv_iload X.1 X.2.1 dX1_walk_279 (lv_at hl 6 rfl) ?_
          refine lv_iconst (v := oI 0) X.1 X.2.1 dX1_walk_281 rfl ?_
          refine wr_I (rV (As := [.int (oI y7), .int (oI 0)]) (rest := []) X hT hWσ_147 hS (met_House_next l (w := w) hV y7 0 _ σ_147 ry7 rZ_0 h) (cwV 2 X.2.2.2.2 (lw_V q1467 q1469 qs61 q131 q1470) rfl rfl rfl (by decide +kernel) ⟨Nat.le_of_ble_eq_true rfl, Nat.le_of_ble_eq_true rfl⟩) vl1_0 (by decide) rfl rfl hl.1 rfl (by first | exact Nat.le_of_ble_eq_true rfl | simp [catK, catI, catR, catL]) dX1_walk_282 ⟨Nat.le_refl _, Nat.le_refl _⟩) hS (fun r_148 σ_149 H locs rr_148 rkσ_149 h hWσ_149 hS => ?_)
          have h := h rr_148 rkσ_149
          refine lv_sipush (v := oI 1024) X.1 X.2.1 dX1_walk_285 (by decide) ?_
          refine w_icmp_ge (tgt := 351) X rr_148 (rI_lit 1024 (by decide)) dX1_walk_288 (by decide) (fun hc => ?_) (fun hc => ?_)
          · have h := h.1 hc
            exact wk_House_walk_b351 X hr hlk hT hV rx1 rx2 K355 hK355 y7 y6 r_144 σ_149 _ _ _ ry7 ry6 rr_144 (lv_sub hl [2, 3, 0, 5, 1] rfl) hWσ_149 hS h
          · have h := h.2 hc
            exact wk_House_walk_b291 X hr hlk hT hV rx1 rx2 K355 hK355 y5 y6 y7 r_144 σ_149 _ _ _ ry5 ry6 ry7 rr_144 (lv_sub hl [2, 3, 4, 5, 6, 1] rfl) hWσ_149 hS h
    · have h := h.2 hc
      refine lv_bipush (v := oI (-4)) X.1 X.2.1 dX1_walk_246 (by decide) ?_
      exact wret_I X hr hlk hWσ_145 hS ((rB_lit (-4) (by decide)).i) h dX1_walk_248
  · have h := h.2 hc
    refine lv_lload X.1 X.2.1 dX1_walk_203 (lv_at hl 6 rfl) ?_
    refine lv_bipush (v := oI 8) X.1 X.2.1 dX1_walk_205 (by decide) ?_
    refine w_lshl X dX1_walk_207 ?_
    refine lv_aload_n X.1 X.2.1 dX1_walk_208 rfl (lv_at hl 0 rfl) ?_
    refine wg (v := .ref (wad w 89 0)) X hT hW 1 25 89 vl1_0 rfl rfl (by decide) rfl (by decide) in_X1 q1095 rfl dX1_walk_209 ?_
    refine lv_iload_n X.1 X.2.1 dX1_walk_212 rfl (lv_at hl 2 rfl) ?_
    refine lv_iload X.1 X.2.1 dX1_walk_213 (lv_at hl 7 rfl) ?_
    refine w_iadd X dX1_walk_215 ?_
    obtain ⟨bi, h⟩ := h
    refine w_bald (n := 1024) X hT hW 89 vl89_0 (by decide) rfl rfl bi dX1_walk_216 ?_
    refine w_i2l X ((hW.r.ab 89 0 (w32 (y3 + y11)) rfl).i) dX1_walk_217 ?_
    refine w_ldc2 X (z := 255) q1172 (by decide) dX1_walk_218 ?_
    refine w_land X dX1_walk_221 ?_
    refine w_lor X dX1_walk_222 ?_
    refine w_topl (fun y9_150 ey9_150 => ?_)
    have h := h y9_150 ey9_150
    have ry9_150 : rJ y9_150 := by rw [ey9_150]; exact (lor_r _ _)
    refine lv_lstore (i := 9) (lv' := [(9, .long (oL y9_150)), (0, .ref (wad w 1 0)), (2, .int (oI x2)), (3, .int (oI y3)), (5, .int (oI y5)), (6, .int (oI y6)), (7, .int (oI y7)), (11, .int (oI y11))]) X.1 X.2.1 dX1_walk_223 hl (by decide) (by first | rfl | simp [catK, catI, catR, catL]) (fun ls hl => ?_)
    obtain ⟨y11_151, ey11_151⟩ : ∃ y : Int, y = w32 (y11 + (-1)) := ⟨_, rfl⟩
    have h := h y11_151 ey11_151
    have ry11_151 : rI y11_151 := by rw [ey11_151]; exact w32_r _
    refine lv_iinc (v := oI y11_151) (lv' := [(11, .int (oI y11_151)), (9, .long (oL y9_150)), (0, .ref (wad w 1 0)), (2, .int (oI x2)), (3, .int (oI y3)), (5, .int (oI y5)), (6, .int (oI y6)), (7, .int (oI y7))]) X.1 X.2.1 dX1_walk_225 hl (k := 7) rfl (by rw [ey11_151]; exact oI_add _ _) (by decide) (by first | rfl | simp [catK, catI, catR, catL]) (fun ls hl => ?_)
    refine lv_goto (tgt := 198) X.1 X.2.1 dX1_walk_228 (by decide) ?_
    exact hK198 y3 y5 y6 y7 y9_150 y11_151 σ _ _ _ ry3 ry5 ry6 ry7 ry9_150 ry11_151 (lv_sub hl [2, 3, 4, 5, 6, 7, 1, 0] rfl) hW hS h
theorem wk_House_walk_L198 {p : Program} {l : Launch} {e : Env} {st : State} {m : MethodId} {args : Array Value} {below : List Frame} {meth : Method} {c : Code} {w : Wp} {x1 : Int} {x2 : Int} {Q : Int → St → Prop} (X : CallFix p m c cX1_walk 13 st args lw_all RX1) (hr : meth.sig.returnType = (some .int)) (hlk : meth.locks = false) (hT : Tb w st) (hV : Hvl w) (rx1 : rI x1) (rx2 : rZ x2) (K355 : Int → Int → Int → St → Prop) (hK355 : ∀ (y3 y5 y6 : Int) (σ : St) (H : Heap) (locs : List Loc) (ls : Array Slot), rI y3 → rI y5 → rI y6 → lv_has ls 13 [(0, .ref (wad w 1 0)), (2, .int (oI x2)), (3, .int (oI y3)), (5, .int (oI y5)), (6, .int (oI y6))] → Wo w σ H → va_S (wA w) st.heap H locs → K355 y3 y5 y6 σ → W p l e (headSpec (ws_ yX1_walk cX1_walk 13 (some .int)) rm_House_walk).room st m args below meth c H locs 0 0 (MQ below (QcI w Q) args st 0 0 (wA w)) (F0 m 355 ls [])) : ∀ (y3 y5 y6 y7 y9 y11 : Int) (σ : St) (H : Heap) (locs : List Loc) (ls : Array Slot), rI y3 → rI y5 → rI y6 → rI y7 → rJ y9 → rI y11 → lv_has ls 13 [(0, .ref (wad w 1 0)), (2, .int (oI x2)), (3, .int (oI y3)), (5, .int (oI y5)), (6, .int (oI y6)), (7, .int (oI y7)), (9, .long (oL y9)), (11, .int (oI y11))] → Wo w σ H → va_S (wA w) st.heap H locs → lQ6 (wp_House_walk_L198 (wc w) (wtv w) x1 x2 Q K355) y3 y5 y6 y7 y9 y11 σ → W p l e (headSpec (ws_ yX1_walk cX1_walk 13 (some .int)) rm_House_walk).room st m args below meth c H locs 0 0 (MQ below (QcI w Q) args st 0 0 (wA w)) (F0 m 198 ls []) := by
  intro y3 y5 y6 y7 y9 y11 σ H locs ls ry3 ry5 ry6 ry7 ry9 ry11 hl hW hS h
  obtain ⟨fu, h⟩ := h
  induction fu generalizing y3 y5 y6 y7 y9 y11 σ H locs ls with
  | zero => exact h.elim
  | succ fu ih =>
    exact wk_House_walk_L198B X hr hlk hT hV rx1 rx2 K355 (lq6 (wp_House_walk_L198 (wc w) (wtv w) x1 x2 Q K355) fu) hK355 (fun y3 y5 y6 y7 y9 y11 σ H locs ls ry3 ry5 ry6 ry7 ry9 ry11 hl hW hS h => ih y3 y5 y6 y7 y9 y11 σ H locs ls ry3 ry5 ry6 ry7 ry9 ry11 hl hW hS h) y3 y5 y6 y7 y9 y11 σ H locs ls ry3 ry5 ry6 ry7 ry9 ry11 hl hW hS h
set_option maxHeartbeats 4000000 in
set_option maxRecDepth 100000 in
theorem wk_House_walk_b154 {p : Program} {l : Launch} {e : Env} {st : State} {m : MethodId} {args : Array Value} {below : List Frame} {meth : Method} {c : Code} {w : Wp} {x1 : Int} {x2 : Int} {Q : Int → St → Prop} (X : CallFix p m c cX1_walk 13 st args lw_all RX1) (hr : meth.sig.returnType = (some .int)) (hlk : meth.locks = false) (hT : Tb w st) (hV : Hvl w) (rx1 : rI x1) (rx2 : rZ x2) (K355 : Int → Int → Int → St → Prop) (hK355 : ∀ (y3 y5 y6 : Int) (σ : St) (H : Heap) (locs : List Loc) (ls : Array Slot), rI y3 → rI y5 → rI y6 → lv_has ls 13 [(0, .ref (wad w 1 0)), (2, .int (oI x2)), (3, .int (oI y3)), (5, .int (oI y5)), (6, .int (oI y6))] → Wo w σ H → va_S (wA w) st.heap H locs → K355 y3 y5 y6 σ → W p l e (headSpec (ws_ yX1_walk cX1_walk 13 (some .int)) rm_House_walk).room st m args below meth c H locs 0 0 (MQ below (QcI w Q) args st 0 0 (wA w)) (F0 m 355 ls [])) : ∀ (y5 y6 y7 y8 : Int) (σ : St) (H : Heap) (locs : List Loc) (ls : Array Slot), rI y5 → rI y6 → rI y7 → rI y8 → lv_has ls 13 [(0, .ref (wad w 1 0)), (2, .int (oI x2)), (5, .int (oI y5)), (6, .int (oI y6)), (7, .int (oI y7)), (8, .int (oI y8))] → Wo w σ H → va_S (wA w) st.heap H locs → wp_House_walk_b154 (wc w) (wtv w) x1 x2 Q K355 y5 y6 y7 y8 σ → W p l e (headSpec (ws_ yX1_walk cX1_walk 13 (some .int)) rm_House_walk).room st m args below meth c H locs 0 0 (MQ below (QcI w Q) args st 0 0 (wA w)) (F0 m 154 ls []) := by
  have vl1_0 : vl w 1 0 := hV.hv 1 rfl ⟨by omega, by show _ < (1 : Int); omega⟩
  intro y5 y6 y7 y8 σ H locs ls ry5 ry6 ry7 ry8 hl hW hS h
  unfold wp_House_walk_b154 at h
  refine lv_iload X.1 X.2.1 dX1_walk_154 (lv_at hl 5 rfl) ?_
  refine lv_iconst (v := oI 1) X.1 X.2.1 dX1_walk_156 rfl ?_
  refine w_icmp_ne (tgt := 165) X ry8 rZ_1.i dX1_walk_157 (by decide) (fun hc => ?_) (fun hc => ?_)
  · have h := h.1 hc
    refine lv_aload_n X.1 X.2.1 dX1_walk_165 rfl (lv_at hl 0 rfl) ?_
    refine lv_iload X.1 X.2.1 dX1_walk_166 (lv_at hl 2 rfl) ?_
    refine wr_I (rV (As := [.int (oI y5)]) (rest := []) X hT hW hS (met_House_above l (w := w) hV y5 _ σ ry5 h) (cwV 1 X.2.2.2.2 (lw_V q1475 q1477 qs63 q131 q1478) rfl rfl rfl (by decide +kernel) ⟨Nat.le_of_ble_eq_true rfl, Nat.le_of_ble_eq_true rfl⟩) vl1_0 (by decide) rfl rfl hl.1 rfl (by first | exact Nat.le_of_ble_eq_true rfl | simp [catK, catI, catR, catL]) dX1_walk_168 ⟨Nat.le_refl _, Nat.le_refl _⟩) hS (fun r_152 σ_153 H locs rr_152 rkσ_153 h hWσ_153 hS => ?_)
    have h := h rr_152 rkσ_153
    exact wk_House_walk_b171 X hr hlk hT hV rx1 rx2 K355 hK355 y6 y7 r_152 σ_153 _ _ _ ry6 ry7 rr_152 (lv_sub hl [0, 1, 3, 4] rfl) hWσ_153 hS h
  · have h := h.2 hc
    refine lv_iload X.1 X.2.1 dX1_walk_160 (lv_at hl 2 rfl) ?_
    refine lv_goto (tgt := 171) X.1 X.2.1 dX1_walk_162 (by decide) ?_
    exact wk_House_walk_b171 X hr hlk hT hV rx1 rx2 K355 hK355 y6 y7 y5 σ _ _ _ ry6 ry7 ry5 (lv_sub hl [0, 1, 3, 4] rfl) hW hS h
set_option maxHeartbeats 4000000 in
set_option maxRecDepth 100000 in
theorem wk_House_walk_L95B {p : Program} {l : Launch} {e : Env} {st : State} {m : MethodId} {args : Array Value} {below : List Frame} {meth : Method} {c : Code} {w : Wp} {x1 : Int} {x2 : Int} {Q : Int → St → Prop} (X : CallFix p m c cX1_walk 13 st args lw_all RX1) (hr : meth.sig.returnType = (some .int)) (hlk : meth.locks = false) (hT : Tb w st) (hV : Hvl w) (rx1 : rI x1) (rx2 : rZ x2) (K95 : Int → Int → Int → St → Prop) (hK95 : ∀ (y3 y5 y6 : Int) (σ : St) (H : Heap) (locs : List Loc) (ls : Array Slot), rI y3 → rI y5 → rI y6 → lv_has ls 13 [(0, .ref (wad w 1 0)), (2, .int (oI x2)), (3, .int (oI y3)), (5, .int (oI y5)), (6, .int (oI y6))] → Wo w σ H → va_S (wA w) st.heap H locs → K95 y3 y5 y6 σ → W p l e (headSpec (ws_ yX1_walk cX1_walk 13 (some .int)) rm_House_walk).room st m args below meth c H locs 0 0 (MQ below (QcI w Q) args st 0 0 (wA w)) (F0 m 95 ls [])) : ∀ (y3 y5 y6 : Int) (σ : St) (H : Heap) (locs : List Loc) (ls : Array Slot), rI y3 → rI y5 → rI y6 → lv_has ls 13 [(0, .ref (wad w 1 0)), (2, .int (oI x2)), (3, .int (oI y3)), (5, .int (oI y5)), (6, .int (oI y6))] → Wo w σ H → va_S (wA w) st.heap H locs → wp_House_walk_L95 (wc w) (wtv w) x1 x2 Q K95 y3 y5 y6 σ → W p l e (headSpec (ws_ yX1_walk cX1_walk 13 (some .int)) rm_House_walk).room st m args below meth c H locs 0 0 (MQ below (QcI w Q) args st 0 0 (wA w)) (F0 m 95 ls []) := by
  have vl1_0 : vl w 1 0 := hV.hv 1 rfl ⟨by omega, by show _ < (1 : Int); omega⟩
  have vl10_0 : vl w 10 0 := hV.hv 10 rfl ⟨by omega, by show _ < (4 : Int); omega⟩
  intro y3 y5 y6 σ H locs ls ry3 ry5 ry6 hl hW hS h
  unfold wp_House_walk_L95 at h
  refine lv_iload_n X.1 X.2.1 dX1_walk_95 rfl (lv_at hl 2 rfl) ?_
  refine lv_sipush (v := oI 1024) X.1 X.2.1 dX1_walk_96 (by decide) ?_
  refine w_icmp_ge (tgt := 365) X ry3 (rI_lit 1024 (by decide)) dX1_walk_99 (by decide) (fun hc => ?_) (fun hc => ?_)
  · have h := h.1 hc
    refine lv_iload X.1 X.2.1 dX1_walk_365 (lv_at hl 3 rfl) ?_
    exact wret_I X hr hlk hW hS ry5 h dX1_walk_367
  · have h := h.2 hc
    refine lv_aload_n X.1 X.2.1 dX1_walk_102 rfl (lv_at hl 0 rfl) ?_
    refine lv_iload_n X.1 X.2.1 dX1_walk_103 rfl (lv_at hl 2 rfl) ?_
    refine lv_iconst (v := oI 1) X.1 X.2.1 dX1_walk_104 rfl ?_
    refine wr_I (rV (As := [.int (oI y3), .int (oI 1)]) (rest := []) X hT hW hS (met_House_next l (w := w) hV y3 1 _ σ ry3 rZ_1 h) (cwV 2 X.2.2.2.2 (lw_V q1467 q1469 qs61 q131 q1470) rfl rfl rfl (by decide +kernel) ⟨Nat.le_of_ble_eq_true rfl, Nat.le_of_ble_eq_true rfl⟩) vl1_0 (by decide) rfl rfl hl.1 rfl (by first | exact Nat.le_of_ble_eq_true rfl | simp [catK, catI, catR, catL]) dX1_walk_105 ⟨Nat.le_refl _, Nat.le_refl _⟩) hS (fun r_154 σ_155 H locs rr_154 rkσ_155 h hWσ_155 hS => ?_)
    have h := h rr_154 rkσ_155
    refine lv_istore (i := 7) (lv' := [(7, .int (oI r_154)), (0, .ref (wad w 1 0)), (2, .int (oI x2)), (3, .int (oI y3)), (5, .int (oI y5)), (6, .int (oI y6))]) X.1 X.2.1 dX1_walk_108 hl (by decide) (by first | rfl | simp [catK, catI, catR, catL]) (fun ls hl => ?_)
    refine lv_aload_n X.1 X.2.1 dX1_walk_110 rfl (lv_at hl 1 rfl) ?_
    refine lv_iload X.1 X.2.1 dX1_walk_111 (lv_at hl 4 rfl) ?_
    refine lv_aload_n X.1 X.2.1 dX1_walk_113 rfl (lv_at hl 1 rfl) ?_
    refine wg (v := .ref (wad w 10 0)) X hT hWσ_155 1 14 78 vl1_0 rfl rfl (by decide) rfl (by decide) in_X1 q1084 rfl dX1_walk_114 ?_
    refine wr_I (rV (As := [.int (oI y5), .ref (wad w 10 0)]) (rest := []) X hT hWσ_155 hS (met_House_directory l (w := w) hV y5 0 _ σ_155 ry5 (by omega) h) (cwV 2 X.2.2.2.2 (lw_V q1173 q1175 qs31 q131 q1176) rfl rfl rfl (by decide +kernel) ⟨Nat.le_of_ble_eq_true rfl, Nat.le_of_ble_eq_true rfl⟩) vl1_0 (by decide) rfl rfl hl.1 rfl (by first | exact Nat.le_of_ble_eq_true rfl | simp [catK, catI, catR, catL]) dX1_walk_117 ⟨Nat.le_refl _, Nat.le_refl _⟩) hS (fun r_156 σ_157 H locs rr_156 rkσ_157 h hWσ_157 hS => ?_)
    have h := h rr_156 rkσ_157
    refine w_if_ge (tgt := 126) X rr_156 dX1_walk_120 (by decide) (fun hc => ?_) (fun hc => ?_)
    · have h := h.1 hc
      refine lv_iload X.1 X.2.1 dX1_walk_126 (lv_at hl 0 rfl) ?_
      refine lv_iload_n X.1 X.2.1 dX1_walk_128 rfl (lv_at hl 3 rfl) ?_
      refine w_isub X dX1_walk_129 ?_
      refine w_top (fun y8_158 ey8_158 => ?_)
      have h := h y8_158 ey8_158
      have ry8_158 : rI y8_158 := by rw [ey8_158]; exact (w32_r _)
      refine lv_istore (i := 8) (lv' := [(8, .int (oI y8_158)), (7, .int (oI r_154)), (0, .ref (wad w 1 0)), (2, .int (oI x2)), (3, .int (oI y3)), (5, .int (oI y5)), (6, .int (oI y6))]) X.1 X.2.1 dX1_walk_130 hl (by decide) (by first | rfl | simp [catK, catI, catR, catL]) (fun ls hl => ?_)
      refine lv_aload_n X.1 X.2.1 dX1_walk_132 rfl (lv_at hl 2 rfl) ?_
      refine lv_iload_n X.1 X.2.1 dX1_walk_133 rfl (lv_at hl 4 rfl) ?_
      refine lv_iload X.1 X.2.1 dX1_walk_134 (lv_at hl 0 rfl) ?_
      refine lv_iconst (v := oI 1) X.1 X.2.1 dX1_walk_136 rfl ?_
      refine wr_Z (rV (As := [.int (oI y3), .int (oI y8_158), .int (oI 1)]) (rest := []) X hT hWσ_157 hS (met_House_areDots l (w := w) hV y3 y8_158 1 _ σ_157 ry3 ry8_158 rZ_1.i h) (cwV 3 X.2.2.2.2 (lw_V q1471 q1473 qs62 q131 q1474) rfl rfl rfl (by decide +kernel) ⟨Nat.le_of_ble_eq_true rfl, Nat.le_of_ble_eq_true rfl⟩) vl1_0 (by decide) rfl rfl hl.1 rfl (by first | exact Nat.le_of_ble_eq_true rfl | simp [catK, catI, catR, catL]) dX1_walk_137 ⟨Nat.le_refl _, Nat.le_refl _⟩) hS (fun r_159 σ_160 H locs rr_159 rkσ_160 h hWσ_160 hS => ?_)
      have h := h rr_159 rkσ_160
      refine w_if_ne (tgt := 154) X rr_159.i dX1_walk_140 (by decide) (fun hc => ?_) (fun hc => ?_)
      · have h := h.1 hc
        exact wk_House_walk_b154 X hr hlk hT hV rx1 rx2 (wp_House_walk_b355 (wc w) (wtv w) x1 x2 Q K95) (wk_House_walk_b355 X hr hlk hT hV rx1 rx2 K95 hK95) y5 y6 r_154 y8_158 σ_160 _ _ _ ry5 ry6 rr_154 ry8_158 (lv_sub hl [2, 3, 5, 6, 1, 0] rfl) hWσ_160 hS h
      · have h := h.2 hc
        refine lv_aload_n X.1 X.2.1 dX1_walk_143 rfl (lv_at hl 2 rfl) ?_
        refine lv_iload_n X.1 X.2.1 dX1_walk_144 rfl (lv_at hl 4 rfl) ?_
        refine lv_iload X.1 X.2.1 dX1_walk_145 (lv_at hl 0 rfl) ?_
        refine lv_iconst (v := oI 2) X.1 X.2.1 dX1_walk_147 rfl ?_
        refine wr_Z (rV (As := [.int (oI y3), .int (oI y8_158), .int (oI 2)]) (rest := []) X hT hWσ_160 hS (met_House_areDots l (w := w) hV y3 y8_158 2 _ σ_160 ry3 ry8_158 ((rB_lit 2 (by decide)).i) h) (cwV 3 X.2.2.2.2 (lw_V q1471 q1473 qs62 q131 q1474) rfl rfl rfl (by decide +kernel) ⟨Nat.le_of_ble_eq_true rfl, Nat.le_of_ble_eq_true rfl⟩) vl1_0 (by decide) rfl rfl hl.1 rfl (by first | exact Nat.le_of_ble_eq_true rfl | simp [catK, catI, catR, catL]) dX1_walk_148 ⟨Nat.le_refl _, Nat.le_refl _⟩) hS (fun r_161 σ_162 H locs rr_161 rkσ_162 h hWσ_162 hS => ?_)
        have h := h rr_161 rkσ_162
        refine w_if_eq (tgt := 179) X rr_161.i dX1_walk_151 (by decide) (fun hc => ?_) (fun hc => ?_)
        · have h := h.1 hc
          refine lv_iload X.1 X.2.1 dX1_walk_179 (lv_at hl 0 rfl) ?_
          refine lv_bipush (v := oI 8) X.1 X.2.1 dX1_walk_181 (by decide) ?_
          refine w_icmp_le (tgt := 189) X ry8_158 ((rB_lit 8 (by decide)).i) dX1_walk_183 (by decide) (fun hc => ?_) (fun hc => ?_)
          · have h := h.1 hc
            refine lv_lconst (v := oL 0) X.1 X.2.1 dX1_walk_189 (by decide) ?_
            refine lv_lstore (i := 9) (lv' := [(9, .long (oL 0)), (8, .int (oI y8_158)), (7, .int (oI r_154)), (0, .ref (wad w 1 0)), (2, .int (oI x2)), (3, .int (oI y3)), (5, .int (oI y5)), (6, .int (oI y6))]) X.1 X.2.1 dX1_walk_190 hl (by decide) (by first | rfl | simp [catK, catI, catR, catL]) (fun ls hl => ?_)
            refine lv_iload X.1 X.2.1 dX1_walk_192 (lv_at hl 1 rfl) ?_
            refine lv_iconst (v := oI 1) X.1 X.2.1 dX1_walk_194 rfl ?_
            refine w_isub X dX1_walk_195 ?_
            refine w_top (fun y11_163 ey11_163 => ?_)
            have h := h y11_163 ey11_163
            have ry11_163 : rI y11_163 := by rw [ey11_163]; exact (w32_r _)
            refine lv_istore (i := 11) (lv' := [(11, .int (oI y11_163)), (9, .long (oL 0)), (8, .int (oI y8_158)), (7, .int (oI r_154)), (0, .ref (wad w 1 0)), (2, .int (oI x2)), (3, .int (oI y3)), (5, .int (oI y5)), (6, .int (oI y6))]) X.1 X.2.1 dX1_walk_196 hl (by decide) (by first | rfl | simp [catK, catI, catR, catL]) (fun ls hl => ?_)
            exact wk_House_walk_L198 X hr hlk hT hV rx1 rx2 (wp_House_walk_b355 (wc w) (wtv w) x1 x2 Q K95) (wk_House_walk_b355 X hr hlk hT hV rx1 rx2 K95 hK95) y3 y5 y6 r_154 0 y11_163 σ_162 _ _ _ ry3 ry5 ry6 rr_154 (rJ_lit 0 (by decide)) ry11_163 (lv_sub hl [4, 5, 6, 7, 8, 3, 1, 0] rfl) hWσ_162 hS h
          · have h := h.2 hc
            refine lv_bipush (v := oI (-3)) X.1 X.2.1 dX1_walk_186 (by decide) ?_
            exact wret_I X hr hlk hWσ_162 hS ((rB_lit (-3) (by decide)).i) h dX1_walk_188
        · have h := h.2 hc
          exact wk_House_walk_b154 X hr hlk hT hV rx1 rx2 (wp_House_walk_b355 (wc w) (wtv w) x1 x2 Q K95) (wk_House_walk_b355 X hr hlk hT hV rx1 rx2 K95 hK95) y5 y6 r_154 y8_158 σ_162 _ _ _ ry5 ry6 rr_154 ry8_158 (lv_sub hl [2, 3, 5, 6, 1, 0] rfl) hWσ_162 hS h
    · have h := h.2 hc
      refine lv_bipush (v := oI (-6)) X.1 X.2.1 dX1_walk_123 (by decide) ?_
      exact wret_I X hr hlk hWσ_157 hS ((rB_lit (-6) (by decide)).i) h dX1_walk_125
theorem wk_House_walk_L95 {p : Program} {l : Launch} {e : Env} {st : State} {m : MethodId} {args : Array Value} {below : List Frame} {meth : Method} {c : Code} {w : Wp} {x1 : Int} {x2 : Int} {Q : Int → St → Prop} (X : CallFix p m c cX1_walk 13 st args lw_all RX1) (hr : meth.sig.returnType = (some .int)) (hlk : meth.locks = false) (hT : Tb w st) (hV : Hvl w) (rx1 : rI x1) (rx2 : rZ x2) : ∀ (y3 y5 y6 : Int) (σ : St) (H : Heap) (locs : List Loc) (ls : Array Slot), rI y3 → rI y5 → rI y6 → lv_has ls 13 [(0, .ref (wad w 1 0)), (2, .int (oI x2)), (3, .int (oI y3)), (5, .int (oI y5)), (6, .int (oI y6))] → Wo w σ H → va_S (wA w) st.heap H locs → lQ3 (wp_House_walk_L95 (wc w) (wtv w) x1 x2 Q) y3 y5 y6 σ → W p l e (headSpec (ws_ yX1_walk cX1_walk 13 (some .int)) rm_House_walk).room st m args below meth c H locs 0 0 (MQ below (QcI w Q) args st 0 0 (wA w)) (F0 m 95 ls []) := by
  intro y3 y5 y6 σ H locs ls ry3 ry5 ry6 hl hW hS h
  obtain ⟨fu, h⟩ := h
  induction fu generalizing y3 y5 y6 σ H locs ls with
  | zero => exact h.elim
  | succ fu ih =>
    exact wk_House_walk_L95B X hr hlk hT hV rx1 rx2 (lq3 (wp_House_walk_L95 (wc w) (wtv w) x1 x2 Q) fu) (fun y3 y5 y6 σ H locs ls ry3 ry5 ry6 hl hW hS h => ih y3 y5 y6 σ H locs ls ry3 ry5 ry6 hl hW hS h) y3 y5 y6 σ H locs ls ry3 ry5 ry6 hl hW hS h
set_option maxHeartbeats 4000000 in
set_option maxRecDepth 100000 in
theorem wk_House_walk_b82 {p : Program} {l : Launch} {e : Env} {st : State} {m : MethodId} {args : Array Value} {below : List Frame} {meth : Method} {c : Code} {w : Wp} {x1 : Int} {x2 : Int} {Q : Int → St → Prop} (X : CallFix p m c cX1_walk 13 st args lw_all RX1) (hr : meth.sig.returnType = (some .int)) (hlk : meth.locks = false) (hT : Tb w st) (hV : Hvl w) (rx1 : rI x1) (rx2 : rZ x2) (K83 : Int → Int → St → Prop) (hK83 : ∀ (y3 t0 : Int) (σ : St) (H : Heap) (locs : List Loc) (ls : Array Slot), rI y3 → rI t0 → lv_has ls 13 [(0, .ref (wad w 1 0)), (2, .int (oI x2)), (3, .int (oI y3))] → Wo w σ H → va_S (wA w) st.heap H locs → K83 y3 t0 σ → W p l e (headSpec (ws_ yX1_walk cX1_walk 13 (some .int)) rm_House_walk).room st m args below meth c H locs 0 0 (MQ below (QcI w Q) args st 0 0 (wA w)) (F0 m 83 ls [.int (oI t0)])) : ∀ (y3 : Int) (σ : St) (H : Heap) (locs : List Loc) (ls : Array Slot), rI y3 → lv_has ls 13 [(0, .ref (wad w 1 0)), (1, .int (oI x1)), (2, .int (oI x2)), (3, .int (oI y3))] → Wo w σ H → va_S (wA w) st.heap H locs → wp_House_walk_b82 (wc w) (wtv w) x1 x2 Q K83 y3 σ → W p l e (headSpec (ws_ yX1_walk cX1_walk 13 (some .int)) rm_House_walk).room st m args below meth c H locs 0 0 (MQ below (QcI w Q) args st 0 0 (wA w)) (F0 m 82 ls []) := by

  intro y3 σ H locs ls ry3 hl hW hS h
  unfold wp_House_walk_b82 at h
  refine lv_iload_n X.1 X.2.1 dX1_walk_82 rfl (lv_at hl 1 rfl) ?_
  exact hK83 y3 x1 σ _ _ _ ry3 rx1 (lv_sub hl [0, 2, 3] rfl) hW hS h
set_option maxHeartbeats 4000000 in
set_option maxRecDepth 100000 in
theorem wk_House_walk_b83 {p : Program} {l : Launch} {e : Env} {st : State} {m : MethodId} {args : Array Value} {below : List Frame} {meth : Method} {c : Code} {w : Wp} {x1 : Int} {x2 : Int} {Q : Int → St → Prop} (X : CallFix p m c cX1_walk 13 st args lw_all RX1) (hr : meth.sig.returnType = (some .int)) (hlk : meth.locks = false) (hT : Tb w st) (hV : Hvl w) (rx1 : rI x1) (rx2 : rZ x2) : ∀ (y3 t0 : Int) (σ : St) (H : Heap) (locs : List Loc) (ls : Array Slot), rI y3 → rI t0 → lv_has ls 13 [(0, .ref (wad w 1 0)), (2, .int (oI x2)), (3, .int (oI y3))] → Wo w σ H → va_S (wA w) st.heap H locs → wp_House_walk_b83 (wc w) (wtv w) x1 x2 Q y3 t0 σ → W p l e (headSpec (ws_ yX1_walk cX1_walk 13 (some .int)) rm_House_walk).room st m args below meth c H locs 0 0 (MQ below (QcI w Q) args st 0 0 (wA w)) (F0 m 83 ls [.int (oI t0)]) := by
  have vl1_0 : vl w 1 0 := hV.hv 1 rfl ⟨by omega, by show _ < (1 : Int); omega⟩
  intro y3 t0 σ H locs ls ry3 rt0 hl hW hS h
  unfold wp_House_walk_b83 at h
  refine lv_istore (i := 5) (lv' := [(5, .int (oI t0)), (0, .ref (wad w 1 0)), (2, .int (oI x2)), (3, .int (oI y3))]) X.1 X.2.1 dX1_walk_83 hl (by decide) (by first | rfl | simp [catK, catI, catR, catL]) (fun ls hl => ?_)
  refine lv_iconst (v := oI 0) X.1 X.2.1 dX1_walk_85 rfl ?_
  refine lv_istore (i := 6) (lv' := [(6, .int (oI 0)), (5, .int (oI t0)), (0, .ref (wad w 1 0)), (2, .int (oI x2)), (3, .int (oI y3))]) X.1 X.2.1 dX1_walk_86 hl (by decide) (by first | rfl | simp [catK, catI, catR, catL]) (fun ls hl => ?_)
  refine lv_aload_n X.1 X.2.1 dX1_walk_88 rfl (lv_at hl 2 rfl) ?_
  refine lv_iload_n X.1 X.2.1 dX1_walk_89 rfl (lv_at hl 4 rfl) ?_
  refine lv_iconst (v := oI 0) X.1 X.2.1 dX1_walk_90 rfl ?_
  refine wr_I (rV (As := [.int (oI y3), .int (oI 0)]) (rest := []) X hT hW hS (met_House_next l (w := w) hV y3 0 _ σ ry3 rZ_0 h) (cwV 2 X.2.2.2.2 (lw_V q1467 q1469 qs61 q131 q1470) rfl rfl rfl (by decide +kernel) ⟨Nat.le_of_ble_eq_true rfl, Nat.le_of_ble_eq_true rfl⟩) vl1_0 (by decide) rfl rfl hl.1 rfl (by first | exact Nat.le_of_ble_eq_true rfl | simp [catK, catI, catR, catL]) dX1_walk_91 ⟨Nat.le_refl _, Nat.le_refl _⟩) hS (fun r_164 σ_165 H locs rr_164 rkσ_165 h hWσ_165 hS => ?_)
  have h := h rr_164 rkσ_165
  refine lv_istore_n (i := 3) (lv' := [(3, .int (oI r_164)), (6, .int (oI 0)), (5, .int (oI t0)), (0, .ref (wad w 1 0)), (2, .int (oI x2))]) X.1 X.2.1 dX1_walk_94 rfl hl (by decide) (by first | rfl | simp [catK, catI, catR, catL]) (fun ls hl => ?_)
  exact wk_House_walk_L95 X hr hlk hT hV rx1 rx2 r_164 t0 0 σ_165 _ _ _ rr_164 rt0 rZ_0.i (lv_sub hl [3, 4, 0, 2, 1] rfl) hWσ_165 hS h
set_option maxHeartbeats 4000000 in
set_option maxRecDepth 100000 in
theorem met_House_walk (l : Launch) {w : Wp} (hV : Hvl w) (x1 : Int) (x2 : Int) (Q : Int → St → Prop) (σ : St) (rx1 : rI x1) (rx2 : rZ x2) (h : wp_House_walk (wc w) (wtv w) x1 x2 Q σ) : Met l yX1_walk (ws_ yX1_walk cX1_walk 13 (some .int)) rm_House_walk (PcW w σ [.ref (wad w 1 0), .int (oI x1), .int (oI x2)]) (QcI w Q) 0 0 (wA w) := by
  refine Met.ofW (cc := cX1_walk) (maxL := 13) (ret := (some .int)) (by decide) rfl ?_
  intro p e st m args below meth c s₁ B hml hv
  obtain ⟨hargs, hW, hT⟩ := hv
  have X : CallFix p m c cX1_walk 13 st _ lw_all RX1 := ⟨B.exec, B.bytes, hml, findClass_of_methodNamed B.named, fun w h => atoms_spec (ws := ws_ yX1_walk cX1_walk 13 (some .int)) B.pre w (List.mem_cons_of_mem _ h)⟩
  have hr := B.returns
  have hlk := B.notSynchronized
  have hS : va_S (wA w) st.heap st.heap [] := va_S.rf
  have vl1_0 : vl w 1 0 := hV.hv 1 rfl ⟨by omega, by show _ < (1 : Int); omega⟩
  have vl10_0 : vl w 10 0 := hV.hv 10 rfl ⟨by omega, by show _ < (4 : Int); omega⟩
  have vl87_0 : vl w 87 0 := hV.hv 87 rfl ⟨by omega, by show _ < (1 : Int); omega⟩
  have vl89_0 : vl w 89 0 := hV.hv 89 rfl ⟨by omega, by show _ < (1 : Int); omega⟩
  have hl := lv_entry ([.ref (wad w 1 0), .int (oI x1), .int (oI x2)]) (n := 13) (Nat.le_of_ble_eq_true rfl)
  have hfr := lg_entry_eq m ([.ref (wad w 1 0), .int (oI x1), .int (oI x2)]) 13
  rw [← hargs] at hfr
  rw [hfr]
  generalize (lg_sl ([.ref (wad w 1 0), .int (oI x1), .int (oI x2)]) ++ List.replicate (13 - (lg_sl ([.ref (wad w 1 0), .int (oI x1), .int (oI x2)])).length) Slot.unset).toArray = ls at hl ⊢
  have hl : lv_has ls 13 [(0, .ref (wad w 1 0)), (1, .int (oI x1)), (2, .int (oI x2))] := hl
  unfold wp_House_walk at h
  refine lv_aload_n X.1 X.2.1 dX1_walk_0 rfl (lv_at hl 0 rfl) ?_
  refine wg (v := .int (oI (gI σ 69 0))) X hT hW 1 5 69 vl1_0 rfl rfl (by decide) rfl (by decide) in_X1 q1075 rfl dX1_walk_1 ?_
  refine w_if_ne (tgt := 10) X ((hW.r.z 69 0 rfl).i) dX1_walk_4 (by decide) (fun hc => ?_) (fun hc => ?_)
  · have h := h.1 hc
    refine lv_sipush (v := oI 1024) X.1 X.2.1 dX1_walk_10 (by decide) ?_
    refine lv_aload_n X.1 X.2.1 dX1_walk_13 rfl (lv_at hl 0 rfl) ?_
    refine wg (v := .int (oI (gI σ 88 0))) X hT hW 1 24 88 vl1_0 rfl rfl (by decide) rfl (by decide) in_X1 q1094 rfl dX1_walk_14 ?_
    refine w_isub X dX1_walk_17 ?_
    refine w_top (fun y3_166 ey3_166 => ?_)
    have h := h y3_166 ey3_166
    have ry3_166 : rI y3_166 := by rw [ey3_166]; exact (w32_r _)
    refine lv_istore_n (i := 3) (lv' := [(3, .int (oI y3_166)), (0, .ref (wad w 1 0)), (1, .int (oI x1)), (2, .int (oI x2))]) X.1 X.2.1 dX1_walk_18 rfl hl (by decide) (by first | rfl | simp [catK, catI, catR, catL]) (fun ls hl => ?_)
    refine lv_aload_n X.1 X.2.1 dX1_walk_19 rfl (lv_at hl 1 rfl) ?_
    refine wg (v := .ref (wad w 87 0)) X hT hW 1 23 87 vl1_0 rfl rfl (by decide) rfl (by decide) in_X1 q1093 rfl dX1_walk_20 ?_
    refine lv_iconst (v := oI 0) X.1 X.2.1 dX1_walk_23 rfl ?_
    refine lv_aload_n X.1 X.2.1 dX1_walk_24 rfl (lv_at hl 1 rfl) ?_
    refine wg (v := .ref (wad w 89 0)) X hT hW 1 25 89 vl1_0 rfl rfl (by decide) rfl (by decide) in_X1 q1095 rfl dX1_walk_25 ?_
    refine lv_iload_n X.1 X.2.1 dX1_walk_28 rfl (lv_at hl 0 rfl) ?_
    refine lv_aload_n X.1 X.2.1 dX1_walk_29 rfl (lv_at hl 1 rfl) ?_
    refine wg (v := .int (oI (gI σ 88 0))) X hT hW 1 24 88 vl1_0 rfl rfl (by decide) rfl (by decide) in_X1 q1094 rfl dX1_walk_30 ?_
    obtain ⟨bi, h⟩ := h
    refine w_copy (nf := 200) (ng := 1024) (sp := 0) (dp := y3_166) (n := gI σ 88 0) X hT hW hS hl.1 87 89 vl87_0 vl89_0 (by decide) (by decide) rfl rfl rfl rfl bi q1248 q699 q698 q142 (Nat.le_of_ble_eq_true rfl) (Nat.le_of_ble_eq_true rfl) dX1_walk_33 (fun H locs hN hS => ?_)
    obtain ⟨σ_167, eσ_167⟩ : ∃ x, x = sAr σ 89 0 (cpy (gA σ 87 0) (gA σ 89 0) 0 y3_166 (gI σ 88 0)) := ⟨_, rfl⟩
    have hWσ_167 : Wo w σ_167 H := eσ_167 ▸ hN
    have h := h σ_167 eσ_167
    clear hN
    refine lv_aload_n X.1 X.2.1 dX1_walk_36 rfl (lv_at hl 1 rfl) ?_
    refine lv_iconst (v := oI 0) X.1 X.2.1 dX1_walk_37 rfl ?_
    refine wput (z := 0) X hT hWσ_167 hS 1 24 88 vl1_0 rfl rfl (by decide) rfl (by decide) in_X1 tyX1 tyX1_ok nmX1 q1094 rfl rfl rZ_0.i (fv0 w rfl) rfl rfl dX1_walk_38 (fun H locs hN hS => ?_)
    obtain ⟨σ_168, eσ_168⟩ : ∃ x, x = sI σ_167 88 0 0 := ⟨_, rfl⟩
    have hWσ_168 : Wo w σ_168 H := eσ_168 ▸ hN
    have h := h σ_168 eσ_168
    clear hN
    refine lv_aload_n X.1 X.2.1 dX1_walk_41 rfl (lv_at hl 1 rfl) ?_
    refine lv_iload_n X.1 X.2.1 dX1_walk_42 rfl (lv_at hl 2 rfl) ?_
    refine lv_aload_n X.1 X.2.1 dX1_walk_43 rfl (lv_at hl 1 rfl) ?_
    refine wg (v := .ref (wad w 10 0)) X hT hWσ_168 1 14 78 vl1_0 rfl rfl (by decide) rfl (by decide) in_X1 q1084 rfl dX1_walk_44 ?_
    refine wr_I (rV (As := [.int (oI x1), .ref (wad w 10 0)]) (rest := []) X hT hWσ_168 hS (met_House_directory l (w := w) hV x1 0 _ σ_168 rx1 (by omega) h) (cwV 2 X.2.2.2.2 (lw_V q1173 q1175 qs31 q131 q1176) rfl rfl rfl (by decide +kernel) ⟨Nat.le_of_ble_eq_true rfl, Nat.le_of_ble_eq_true rfl⟩) vl1_0 (by decide) rfl rfl hl.1 rfl (by first | exact Nat.le_of_ble_eq_true rfl | simp [catK, catI, catR, catL]) dX1_walk_47 ⟨Nat.le_refl _, Nat.le_refl _⟩) hS (fun r_169 σ_170 H locs rr_169 rkσ_170 h hWσ_170 hS => ?_)
    have h := h rr_169 rkσ_170
    refine lv_istore (i := 4) (lv' := [(4, .int (oI r_169)), (3, .int (oI y3_166)), (0, .ref (wad w 1 0)), (1, .int (oI x1)), (2, .int (oI x2))]) X.1 X.2.1 dX1_walk_50 hl (by decide) (by first | rfl | simp [catK, catI, catR, catL]) (fun ls hl => ?_)
    refine lv_iload X.1 X.2.1 dX1_walk_52 (lv_at hl 0 rfl) ?_
    refine w_if_ge (tgt := 60) X rr_169 dX1_walk_54 (by decide) (fun hc => ?_) (fun hc => ?_)
    · have h := h.1 hc
      refine lv_iload_n X.1 X.2.1 dX1_walk_60 rfl (lv_at hl 1 rfl) ?_
      refine lv_sipush (v := oI 1024) X.1 X.2.1 dX1_walk_61 (by decide) ?_
      refine w_icmp_ge (tgt := 82) X ry3_166 (rI_lit 1024 (by decide)) dX1_walk_64 (by decide) (fun hc => ?_) (fun hc => ?_)
      · have h := h.1 hc
        exact wk_House_walk_b82 X hr hlk hT hV rx1 rx2 (wp_House_walk_b83 (wc w) (wtv w) x1 x2 Q) (wk_House_walk_b83 X hr hlk hT hV rx1 rx2) y3_166 σ_170 _ _ _ ry3_166 (lv_sub hl [2, 3, 4, 1] rfl) hWσ_170 hS h
      · have h := h.2 hc
        refine lv_aload_n X.1 X.2.1 dX1_walk_67 rfl (lv_at hl 2 rfl) ?_
        refine wg (v := .ref (wad w 89 0)) X hT hWσ_170 1 25 89 vl1_0 rfl rfl (by decide) rfl (by decide) in_X1 q1095 rfl dX1_walk_68 ?_
        refine lv_iload_n X.1 X.2.1 dX1_walk_71 rfl (lv_at hl 1 rfl) ?_
        obtain ⟨bi, h⟩ := h
        refine w_bald (n := 1024) X hT hWσ_170 89 vl89_0 (by decide) rfl rfl bi dX1_walk_72 ?_
        refine lv_bipush (v := oI 47) X.1 X.2.1 dX1_walk_73 (by decide) ?_
        refine w_icmp_ne (tgt := 82) X ((hWσ_170.r.ab 89 0 y3_166 rfl).i) ((rB_lit 47 (by decide)).i) dX1_walk_75 (by decide) (fun hc => ?_) (fun hc => ?_)
        · have h := h.1 hc
          exact wk_House_walk_b82 X hr hlk hT hV rx1 rx2 (wp_House_walk_b83 (wc w) (wtv w) x1 x2 Q) (wk_House_walk_b83 X hr hlk hT hV rx1 rx2) y3_166 σ_170 _ _ _ ry3_166 (lv_sub hl [2, 3, 4, 1] rfl) hWσ_170 hS h
        · have h := h.2 hc
          refine lv_iconst (v := oI 1) X.1 X.2.1 dX1_walk_78 rfl ?_
          refine lv_goto (tgt := 83) X.1 X.2.1 dX1_walk_79 (by decide) ?_
          exact wk_House_walk_b83 X hr hlk hT hV rx1 rx2 y3_166 1 σ_170 _ _ _ ry3_166 rZ_1.i (lv_sub hl [2, 4, 1] rfl) hWσ_170 hS h
    · have h := h.2 hc
      refine lv_iload X.1 X.2.1 dX1_walk_57 (lv_at hl 0 rfl) ?_
      exact wret_I X hr hlk hWσ_170 hS rr_169 h dX1_walk_59
  · have h := h.2 hc
    refine lv_bipush (v := oI (-2)) X.1 X.2.1 dX1_walk_7 (by decide) ?_
    exact wret_I X hr hlk hW hS ((rB_lit (-2) (by decide)).i) h dX1_walk_9
/-! House.path(I)I -/
set_option maxHeartbeats 4000000 in
set_option maxRecDepth 100000 in
theorem wk_House_path_b96 {p : Program} {l : Launch} {e : Env} {st : State} {m : MethodId} {args : Array Value} {below : List Frame} {meth : Method} {c : Code} {w : Wp} {x1 : Int} {Q : Int → St → Prop} (X : CallFix p m c cX1_path 7 st args lw_all RX1) (hr : meth.sig.returnType = (some .int)) (hlk : meth.locks = false) (hT : Tb w st) (hV : Hvl w) (rx1 : rI x1) (K51 : Int → Int → Int → St → Prop) (hK51 : ∀ (y3 y5 y6 : Int) (σ : St) (H : Heap) (locs : List Loc) (ls : Array Slot), rI y3 → rI y5 → rI y6 → lv_has ls 7 [(0, .ref (wad w 1 0)), (3, .int (oI y3)), (5, .int (oI y5)), (6, .int (oI y6))] → Wo w σ H → va_S (wA w) st.heap H locs → K51 y3 y5 y6 σ → W p l e (headSpec (ws_ yX1_path cX1_path 7 (some .int)) rm_House_path).room st m args below meth c H locs 0 0 (MQ below (QcI w Q) args st 0 0 (wA w)) (F0 m 51 ls [])) : ∀ (y3 y5 y6 : Int) (σ : St) (H : Heap) (locs : List Loc) (ls : Array Slot), rI y3 → rI y5 → rI y6 → lv_has ls 7 [(0, .ref (wad w 1 0)), (3, .int (oI y3)), (5, .int (oI y5)), (6, .int (oI y6))] → Wo w σ H → va_S (wA w) st.heap H locs → wp_House_path_b96 (wc w) (wtv w) x1 Q K51 y3 y5 y6 σ → W p l e (headSpec (ws_ yX1_path cX1_path 7 (some .int)) rm_House_path).room st m args below meth c H locs 0 0 (MQ below (QcI w Q) args st 0 0 (wA w)) (F0 m 96 ls []) := by

  intro y3 y5 y6 σ H locs ls ry3 ry5 ry6 hl hW hS h
  unfold wp_House_path_b96 at h
  obtain ⟨y6_40, ey6_40⟩ : ∃ y : Int, y = w32 (y6 + (-1)) := ⟨_, rfl⟩
  have h := h y6_40 ey6_40
  have ry6_40 : rI y6_40 := by rw [ey6_40]; exact w32_r _
  refine lv_iinc (v := oI y6_40) (lv' := [(6, .int (oI y6_40)), (0, .ref (wad w 1 0)), (3, .int (oI y3)), (5, .int (oI y5))]) X.1 X.2.1 dX1_path_96 hl (k := 3) rfl (by rw [ey6_40]; exact oI_add _ _) (by decide) (by first | rfl | simp [catK, catI, catR, catL]) (fun ls hl => ?_)
  refine lv_goto (tgt := 51) X.1 X.2.1 dX1_path_99 (by decide) ?_
  exact hK51 y3 y5 y6_40 σ _ _ _ ry3 ry5 ry6_40 (lv_sub hl [1, 2, 3, 0] rfl) hW hS h
set_option maxHeartbeats 4000000 in
set_option maxRecDepth 100000 in
theorem wk_House_path_L51B {p : Program} {l : Launch} {e : Env} {st : State} {m : MethodId} {args : Array Value} {below : List Frame} {meth : Method} {c : Code} {w : Wp} {x1 : Int} {Q : Int → St → Prop} (X : CallFix p m c cX1_path 7 st args lw_all RX1) (hr : meth.sig.returnType = (some .int)) (hlk : meth.locks = false) (hT : Tb w st) (hV : Hvl w) (rx1 : rI x1) (K33 : Int → Int → St → Prop) (K51 : Int → Int → Int → St → Prop) (hK33 : ∀ (y3 y4 : Int) (σ : St) (H : Heap) (locs : List Loc) (ls : Array Slot), rI y3 → rI y4 → lv_has ls 7 [(0, .ref (wad w 1 0)), (3, .int (oI y3)), (4, .int (oI y4))] → Wo w σ H → va_S (wA w) st.heap H locs → K33 y3 y4 σ → W p l e (headSpec (ws_ yX1_path cX1_path 7 (some .int)) rm_House_path).room st m args below meth c H locs 0 0 (MQ below (QcI w Q) args st 0 0 (wA w)) (F0 m 33 ls [])) (hK51 : ∀ (y3 y5 y6 : Int) (σ : St) (H : Heap) (locs : List Loc) (ls : Array Slot), rI y3 → rI y5 → rI y6 → lv_has ls 7 [(0, .ref (wad w 1 0)), (3, .int (oI y3)), (5, .int (oI y5)), (6, .int (oI y6))] → Wo w σ H → va_S (wA w) st.heap H locs → K51 y3 y5 y6 σ → W p l e (headSpec (ws_ yX1_path cX1_path 7 (some .int)) rm_House_path).room st m args below meth c H locs 0 0 (MQ below (QcI w Q) args st 0 0 (wA w)) (F0 m 51 ls [])) : ∀ (y3 y5 y6 : Int) (σ : St) (H : Heap) (locs : List Loc) (ls : Array Slot), rI y3 → rI y5 → rI y6 → lv_has ls 7 [(0, .ref (wad w 1 0)), (3, .int (oI y3)), (5, .int (oI y5)), (6, .int (oI y6))] → Wo w σ H → va_S (wA w) st.heap H locs → wp_House_path_L51 (wc w) (wtv w) x1 Q K33 K51 y3 y5 y6 σ → W p l e (headSpec (ws_ yX1_path cX1_path 7 (some .int)) rm_House_path).room st m args below meth c H locs 0 0 (MQ below (QcI w Q) args st 0 0 (wA w)) (F0 m 51 ls []) := by
  have vl1_0 : vl w 1 0 := hV.hv 1 rfl ⟨by omega, by show _ < (1 : Int); omega⟩
  have vl89_0 : vl w 89 0 := hV.hv 89 rfl ⟨by omega, by show _ < (1 : Int); omega⟩
  intro y3 y5 y6 σ H locs ls ry3 ry5 ry6 hl hW hS h
  unfold wp_House_path_L51 at h
  refine lv_iload X.1 X.2.1 dX1_path_51 (lv_at hl 3 rfl) ?_
  refine w_if_lt (tgt := 102) X ry6 dX1_path_53 (by decide) (fun hc => ?_) (fun hc => ?_)
  · have h := h.1 hc
    refine lv_aload_n X.1 X.2.1 dX1_path_102 rfl (lv_at hl 0 rfl) ?_
    refine wg (v := .ref (wad w 89 0)) X hT hW 1 25 89 vl1_0 rfl rfl (by decide) rfl (by decide) in_X1 q1095 rfl dX1_path_103 ?_
    obtain ⟨y3_41, ey3_41⟩ : ∃ y : Int, y = w32 (y3 + (-1)) := ⟨_, rfl⟩
    have h := h y3_41 ey3_41
    have ry3_41 : rI y3_41 := by rw [ey3_41]; exact w32_r _
    refine lv_iinc (v := oI y3_41) (lv' := [(3, .int (oI y3_41)), (0, .ref (wad w 1 0)), (5, .int (oI y5)), (6, .int (oI y6))]) X.1 X.2.1 dX1_path_106 hl (k := 1) rfl (by rw [ey3_41]; exact oI_add _ _) (by decide) (by first | rfl | simp [catK, catI, catR, catL]) (fun ls hl => ?_)
    refine lv_iload_n X.1 X.2.1 dX1_path_109 rfl (lv_at hl 0 rfl) ?_
    refine lv_bipush (v := oI 47) X.1 X.2.1 dX1_path_110 (by decide) ?_
    obtain ⟨bi, h⟩ := h
    refine w_bast (n := 1024) X hT hW hS 89 vl89_0 (by decide) rfl rfl bi (rB_lit 47 (by decide)) dX1_path_112 (fun H locs hN hS => ?_)
    obtain ⟨σ_42, eσ_42⟩ : ∃ x, x = sA σ 89 0 y3_41 47 := ⟨_, rfl⟩
    have hWσ_42 : Wo w σ_42 H := eσ_42 ▸ hN
    have h := h σ_42 eσ_42
    clear hN
    refine lv_sipush (v := oI 1024) X.1 X.2.1 dX1_path_113 (by decide) ?_
    refine lv_iload_n X.1 X.2.1 dX1_path_116 rfl (lv_at hl 0 rfl) ?_
    refine w_isub X dX1_path_117 ?_
    refine lv_sipush (v := oI 200) X.1 X.2.1 dX1_path_118 (by decide) ?_
    refine w_icmp_le (tgt := 127) X (w32_r _) (rI_lit 200 (by decide)) dX1_path_121 (by decide) (fun hc => ?_) (fun hc => ?_)
    · have h := h.1 hc
      refine lv_iload X.1 X.2.1 dX1_path_127 (lv_at hl 2 rfl) ?_
      refine lv_istore (i := 4) (lv' := [(4, .int (oI y5)), (3, .int (oI y3_41)), (0, .ref (wad w 1 0)), (5, .int (oI y5)), (6, .int (oI y6))]) X.1 X.2.1 dX1_path_129 hl (by decide) (by first | rfl | simp [catK, catI, catR, catL]) (fun ls hl => ?_)
      refine lv_goto (tgt := 33) X.1 X.2.1 dX1_path_131 (by decide) ?_
      exact hK33 y3_41 y5 σ_42 _ _ _ ry3_41 ry5 (lv_sub hl [2, 1, 0] rfl) hWσ_42 hS h
    · have h := h.2 hc
      refine lv_bipush (v := oI (-10)) X.1 X.2.1 dX1_path_124 (by decide) ?_
      exact wret_I X hr hlk hWσ_42 hS ((rB_lit (-10) (by decide)).i) h dX1_path_126
  · have h := h.2 hc
    refine lv_aload_n X.1 X.2.1 dX1_path_56 rfl (lv_at hl 0 rfl) ?_
    refine wg (v := .long (oL (gI σ 93 0))) X hT hW 1 29 93 vl1_0 rfl rfl (by decide) rfl (by decide) in_X1 q1099 rfl dX1_path_57 ?_
    refine lv_bipush (v := oI 8) X.1 X.2.1 dX1_path_60 (by decide) ?_
    refine lv_iload X.1 X.2.1 dX1_path_62 (lv_at hl 3 rfl) ?_
    refine w_imul X dX1_path_64 ?_
    refine w_lushr X dX1_path_65 ?_
    refine w_ldc2 X (z := 255) q1172 (by decide) dX1_path_66 ?_
    refine w_land X dX1_path_69 ?_
    refine lv_lconst (v := oL 0) X.1 X.2.1 dX1_path_70 (by decide) ?_
    refine w_lcmp_eq (tgt := 96) X (land_r _ _) (rJ_lit 0 (by decide)) dX1_path_71 dX1_path_72 (by decide) (fun hc => ?_) (fun hc => ?_)
    · have h := h.1 hc
      exact wk_House_path_b96 X hr hlk hT hV rx1 K51 hK51 y3 y5 y6 σ _ _ _ ry3 ry5 ry6 (lv_sub hl [0, 1, 2, 3] rfl) hW hS h
    · have h := h.2 hc
      refine lv_aload_n X.1 X.2.1 dX1_path_75 rfl (lv_at hl 0 rfl) ?_
      refine wg (v := .ref (wad w 89 0)) X hT hW 1 25 89 vl1_0 rfl rfl (by decide) rfl (by decide) in_X1 q1095 rfl dX1_path_76 ?_
      obtain ⟨y3_43, ey3_43⟩ : ∃ y : Int, y = w32 (y3 + (-1)) := ⟨_, rfl⟩
      have h := h y3_43 ey3_43
      have ry3_43 : rI y3_43 := by rw [ey3_43]; exact w32_r _
      refine lv_iinc (v := oI y3_43) (lv' := [(3, .int (oI y3_43)), (0, .ref (wad w 1 0)), (5, .int (oI y5)), (6, .int (oI y6))]) X.1 X.2.1 dX1_path_79 hl (k := 1) rfl (by rw [ey3_43]; exact oI_add _ _) (by decide) (by first | rfl | simp [catK, catI, catR, catL]) (fun ls hl => ?_)
      refine lv_iload_n X.1 X.2.1 dX1_path_82 rfl (lv_at hl 0 rfl) ?_
      refine lv_aload_n X.1 X.2.1 dX1_path_83 rfl (lv_at hl 1 rfl) ?_
      refine wg (v := .long (oL (gI σ 93 0))) X hT hW 1 29 93 vl1_0 rfl rfl (by decide) rfl (by decide) in_X1 q1099 rfl dX1_path_84 ?_
      refine lv_bipush (v := oI 8) X.1 X.2.1 dX1_path_87 (by decide) ?_
      refine lv_iload X.1 X.2.1 dX1_path_89 (lv_at hl 3 rfl) ?_
      refine w_imul X dX1_path_91 ?_
      refine w_lushr X dX1_path_92 ?_
      refine w_l2i X dX1_path_93 ?_
      refine w_i2b X dX1_path_94 ?_
      obtain ⟨bi, h⟩ := h
      refine w_bast (n := 1024) X hT hW hS 89 vl89_0 (by decide) rfl rfl bi (b8_r _) dX1_path_95 (fun H locs hN hS => ?_)
      obtain ⟨σ_44, eσ_44⟩ : ∃ x, x = sA σ 89 0 y3_43 (b8 (w32 (lushr (gI σ 93 0) (w32 (8 * y6))))) := ⟨_, rfl⟩
      have hWσ_44 : Wo w σ_44 H := eσ_44 ▸ hN
      have h := h σ_44 eσ_44
      clear hN
      exact wk_House_path_b96 X hr hlk hT hV rx1 K51 hK51 y3_43 y5 y6 σ_44 _ _ _ ry3_43 ry5 ry6 (lv_sub hl [1, 0, 2, 3] rfl) hWσ_44 hS h
theorem wk_House_path_L51 {p : Program} {l : Launch} {e : Env} {st : State} {m : MethodId} {args : Array Value} {below : List Frame} {meth : Method} {c : Code} {w : Wp} {x1 : Int} {Q : Int → St → Prop} (X : CallFix p m c cX1_path 7 st args lw_all RX1) (hr : meth.sig.returnType = (some .int)) (hlk : meth.locks = false) (hT : Tb w st) (hV : Hvl w) (rx1 : rI x1) (K33 : Int → Int → St → Prop) (hK33 : ∀ (y3 y4 : Int) (σ : St) (H : Heap) (locs : List Loc) (ls : Array Slot), rI y3 → rI y4 → lv_has ls 7 [(0, .ref (wad w 1 0)), (3, .int (oI y3)), (4, .int (oI y4))] → Wo w σ H → va_S (wA w) st.heap H locs → K33 y3 y4 σ → W p l e (headSpec (ws_ yX1_path cX1_path 7 (some .int)) rm_House_path).room st m args below meth c H locs 0 0 (MQ below (QcI w Q) args st 0 0 (wA w)) (F0 m 33 ls [])) : ∀ (y3 y5 y6 : Int) (σ : St) (H : Heap) (locs : List Loc) (ls : Array Slot), rI y3 → rI y5 → rI y6 → lv_has ls 7 [(0, .ref (wad w 1 0)), (3, .int (oI y3)), (5, .int (oI y5)), (6, .int (oI y6))] → Wo w σ H → va_S (wA w) st.heap H locs → lQ3 (wp_House_path_L51 (wc w) (wtv w) x1 Q K33) y3 y5 y6 σ → W p l e (headSpec (ws_ yX1_path cX1_path 7 (some .int)) rm_House_path).room st m args below meth c H locs 0 0 (MQ below (QcI w Q) args st 0 0 (wA w)) (F0 m 51 ls []) := by
  intro y3 y5 y6 σ H locs ls ry3 ry5 ry6 hl hW hS h
  obtain ⟨fu, h⟩ := h
  induction fu generalizing y3 y5 y6 σ H locs ls with
  | zero => exact h.elim
  | succ fu ih =>
    exact wk_House_path_L51B X hr hlk hT hV rx1 K33 (lq3 (wp_House_path_L51 (wc w) (wtv w) x1 Q K33) fu) hK33 (fun y3 y5 y6 σ H locs ls ry3 ry5 ry6 hl hW hS h => ih y3 y5 y6 σ H locs ls ry3 ry5 ry6 hl hW hS h) y3 y5 y6 σ H locs ls ry3 ry5 ry6 hl hW hS h
set_option maxHeartbeats 4000000 in
set_option maxRecDepth 100000 in
theorem wk_House_path_b152 {p : Program} {l : Launch} {e : Env} {st : State} {m : MethodId} {args : Array Value} {below : List Frame} {meth : Method} {c : Code} {w : Wp} {x1 : Int} {Q : Int → St → Prop} (X : CallFix p m c cX1_path 7 st args lw_all RX1) (hr : meth.sig.returnType = (some .int)) (hlk : meth.locks = false) (hT : Tb w st) (hV : Hvl w) (rx1 : rI x1) : ∀ (y3 : Int) (σ : St) (H : Heap) (locs : List Loc) (ls : Array Slot), rI y3 → lv_has ls 7 [(0, .ref (wad w 1 0)), (3, .int (oI y3))] → Wo w σ H → va_S (wA w) st.heap H locs → wp_House_path_b152 (wc w) (wtv w) x1 Q y3 σ → W p l e (headSpec (ws_ yX1_path cX1_path 7 (some .int)) rm_House_path).room st m args below meth c H locs 0 0 (MQ below (QcI w Q) args st 0 0 (wA w)) (F0 m 152 ls []) := by
  have vl1_0 : vl w 1 0 := hV.hv 1 rfl ⟨by omega, by show _ < (1 : Int); omega⟩
  have vl87_0 : vl w 87 0 := hV.hv 87 rfl ⟨by omega, by show _ < (1 : Int); omega⟩
  have vl89_0 : vl w 89 0 := hV.hv 89 rfl ⟨by omega, by show _ < (1 : Int); omega⟩
  intro y3 σ H locs ls ry3 hl hW hS h
  unfold wp_House_path_b152 at h
  refine lv_aload_n X.1 X.2.1 dX1_path_152 rfl (lv_at hl 0 rfl) ?_
  refine lv_sipush (v := oI 1024) X.1 X.2.1 dX1_path_153 (by decide) ?_
  refine lv_iload_n X.1 X.2.1 dX1_path_156 rfl (lv_at hl 1 rfl) ?_
  refine w_isub X dX1_path_157 ?_
  refine wput (z := w32 (1024 - y3)) X hT hW hS 1 24 88 vl1_0 rfl rfl (by decide) rfl (by decide) in_X1 tyX1 tyX1_ok nmX1 q1094 rfl rfl (w32_r _) (fv0 w rfl) rfl rfl dX1_path_158 (fun H locs hN hS => ?_)
  obtain ⟨σ_45, eσ_45⟩ : ∃ x, x = sI σ 88 0 (w32 (1024 - y3)) := ⟨_, rfl⟩
  have hWσ_45 : Wo w σ_45 H := eσ_45 ▸ hN
  have h := h σ_45 eσ_45
  clear hN
  refine lv_aload_n X.1 X.2.1 dX1_path_161 rfl (lv_at hl 0 rfl) ?_
  refine wg (v := .ref (wad w 89 0)) X hT hWσ_45 1 25 89 vl1_0 rfl rfl (by decide) rfl (by decide) in_X1 q1095 rfl dX1_path_162 ?_
  refine lv_iload_n X.1 X.2.1 dX1_path_165 rfl (lv_at hl 1 rfl) ?_
  refine lv_aload_n X.1 X.2.1 dX1_path_166 rfl (lv_at hl 0 rfl) ?_
  refine wg (v := .ref (wad w 87 0)) X hT hWσ_45 1 23 87 vl1_0 rfl rfl (by decide) rfl (by decide) in_X1 q1093 rfl dX1_path_167 ?_
  refine lv_iconst (v := oI 0) X.1 X.2.1 dX1_path_170 rfl ?_
  refine lv_aload_n X.1 X.2.1 dX1_path_171 rfl (lv_at hl 0 rfl) ?_
  refine wg (v := .int (oI (gI σ_45 88 0))) X hT hWσ_45 1 24 88 vl1_0 rfl rfl (by decide) rfl (by decide) in_X1 q1094 rfl dX1_path_172 ?_
  obtain ⟨bi, h⟩ := h
  refine w_copy (nf := 1024) (ng := 200) (sp := y3) (dp := 0) (n := gI σ_45 88 0) X hT hWσ_45 hS hl.1 89 87 vl89_0 vl87_0 (by decide) (by decide) rfl rfl rfl rfl bi q1248 q699 q698 q142 (Nat.le_of_ble_eq_true rfl) (Nat.le_of_ble_eq_true rfl) dX1_path_175 (fun H locs hN hS => ?_)
  obtain ⟨σ_46, eσ_46⟩ : ∃ x, x = sAr σ_45 87 0 (cpy (gA σ_45 89 0) (gA σ_45 87 0) y3 0 (gI σ_45 88 0)) := ⟨_, rfl⟩
  have hWσ_46 : Wo w σ_46 H := eσ_46 ▸ hN
  have h := h σ_46 eσ_46
  clear hN
  refine lv_aload_n X.1 X.2.1 dX1_path_178 rfl (lv_at hl 0 rfl) ?_
  refine wg (v := .int (oI (gI σ_46 88 0))) X hT hWσ_46 1 24 88 vl1_0 rfl rfl (by decide) rfl (by decide) in_X1 q1094 rfl dX1_path_179 ?_
  exact wret_I X hr hlk hWσ_46 hS (hWσ_46.r.i 88 0 rfl) h dX1_path_182
set_option maxHeartbeats 4000000 in
set_option maxRecDepth 100000 in
theorem wk_House_path_L33B {p : Program} {l : Launch} {e : Env} {st : State} {m : MethodId} {args : Array Value} {below : List Frame} {meth : Method} {c : Code} {w : Wp} {x1 : Int} {Q : Int → St → Prop} (X : CallFix p m c cX1_path 7 st args lw_all RX1) (hr : meth.sig.returnType = (some .int)) (hlk : meth.locks = false) (hT : Tb w st) (hV : Hvl w) (rx1 : rI x1) (K33 : Int → Int → St → Prop) (hK33 : ∀ (y3 y4 : Int) (σ : St) (H : Heap) (locs : List Loc) (ls : Array Slot), rI y3 → rI y4 → lv_has ls 7 [(0, .ref (wad w 1 0)), (3, .int (oI y3)), (4, .int (oI y4))] → Wo w σ H → va_S (wA w) st.heap H locs → K33 y3 y4 σ → W p l e (headSpec (ws_ yX1_path cX1_path 7 (some .int)) rm_House_path).room st m args below meth c H locs 0 0 (MQ below (QcI w Q) args st 0 0 (wA w)) (F0 m 33 ls [])) : ∀ (y3 y4 : Int) (σ : St) (H : Heap) (locs : List Loc) (ls : Array Slot), rI y3 → rI y4 → lv_has ls 7 [(0, .ref (wad w 1 0)), (3, .int (oI y3)), (4, .int (oI y4))] → Wo w σ H → va_S (wA w) st.heap H locs → wp_House_path_L33 (wc w) (wtv w) x1 Q K33 y3 y4 σ → W p l e (headSpec (ws_ yX1_path cX1_path 7 (some .int)) rm_House_path).room st m args below meth c H locs 0 0 (MQ below (QcI w Q) args st 0 0 (wA w)) (F0 m 33 ls []) := by
  have vl1_0 : vl w 1 0 := hV.hv 1 rfl ⟨by omega, by show _ < (1 : Int); omega⟩
  have vl89_0 : vl w 89 0 := hV.hv 89 rfl ⟨by omega, by show _ < (1 : Int); omega⟩
  intro y3 y4 σ H locs ls ry3 ry4 hl hW hS h
  unfold wp_House_path_L33 at h
  refine lv_iload X.1 X.2.1 dX1_path_33 (lv_at hl 2 rfl) ?_
  refine lv_iconst (v := oI 1) X.1 X.2.1 dX1_path_35 rfl ?_
  refine w_icmp_eq (tgt := 134) X ry4 rZ_1.i dX1_path_36 (by decide) (fun hc => ?_) (fun hc => ?_)
  · have h := h.1 hc
    refine lv_iload_n X.1 X.2.1 dX1_path_134 rfl (lv_at hl 1 rfl) ?_
    refine lv_sipush (v := oI 1024) X.1 X.2.1 dX1_path_135 (by decide) ?_
    refine w_icmp_ne (tgt := 152) X ry3 (rI_lit 1024 (by decide)) dX1_path_138 (by decide) (fun hc => ?_) (fun hc => ?_)
    · have h := h.1 hc
      exact wk_House_path_b152 X hr hlk hT hV rx1 y3 σ _ _ _ ry3 (lv_sub hl [0, 1] rfl) hW hS h
    · have h := h.2 hc
      refine lv_aload_n X.1 X.2.1 dX1_path_141 rfl (lv_at hl 0 rfl) ?_
      refine wg (v := .ref (wad w 89 0)) X hT hW 1 25 89 vl1_0 rfl rfl (by decide) rfl (by decide) in_X1 q1095 rfl dX1_path_142 ?_
      obtain ⟨y3_47, ey3_47⟩ : ∃ y : Int, y = w32 (y3 + (-1)) := ⟨_, rfl⟩
      have h := h y3_47 ey3_47
      have ry3_47 : rI y3_47 := by rw [ey3_47]; exact w32_r _
      refine lv_iinc (v := oI y3_47) (lv' := [(3, .int (oI y3_47)), (0, .ref (wad w 1 0)), (4, .int (oI y4))]) X.1 X.2.1 dX1_path_145 hl (k := 1) rfl (by rw [ey3_47]; exact oI_add _ _) (by decide) (by first | rfl | simp [catK, catI, catR, catL]) (fun ls hl => ?_)
      refine lv_iload_n X.1 X.2.1 dX1_path_148 rfl (lv_at hl 0 rfl) ?_
      refine lv_bipush (v := oI 47) X.1 X.2.1 dX1_path_149 (by decide) ?_
      obtain ⟨bi, h⟩ := h
      refine w_bast (n := 1024) X hT hW hS 89 vl89_0 (by decide) rfl rfl bi (rB_lit 47 (by decide)) dX1_path_151 (fun H locs hN hS => ?_)
      obtain ⟨σ_48, eσ_48⟩ : ∃ x, x = sA σ 89 0 y3_47 47 := ⟨_, rfl⟩
      have hWσ_48 : Wo w σ_48 H := eσ_48 ▸ hN
      have h := h σ_48 eσ_48
      clear hN
      exact wk_House_path_b152 X hr hlk hT hV rx1 y3_47 σ_48 _ _ _ ry3_47 (lv_sub hl [1, 0] rfl) hWσ_48 hS h
  · have h := h.2 hc
    refine lv_aload_n X.1 X.2.1 dX1_path_39 rfl (lv_at hl 0 rfl) ?_
    refine lv_iload X.1 X.2.1 dX1_path_40 (lv_at hl 2 rfl) ?_
    refine wr_I (rV (As := [.int (oI y4)]) (rest := []) X hT hW hS (met_House_above l (w := w) hV y4 _ σ ry4 h) (cwV 1 X.2.2.2.2 (lw_V q1475 q1477 qs63 q131 q1478) rfl rfl rfl (by decide +kernel) ⟨Nat.le_of_ble_eq_true rfl, Nat.le_of_ble_eq_true rfl⟩) vl1_0 (by decide) rfl rfl hl.1 rfl (by first | exact Nat.le_of_ble_eq_true rfl | simp [catK, catI, catR, catL]) dX1_path_42 ⟨Nat.le_refl _, Nat.le_refl _⟩) hS (fun r_49 σ_50 H locs rr_49 rkσ_50 h hWσ_50 hS => ?_)
    have h := h rr_49 rkσ_50
    refine lv_istore (i := 5) (lv' := [(5, .int (oI r_49)), (0, .ref (wad w 1 0)), (3, .int (oI y3)), (4, .int (oI y4))]) X.1 X.2.1 dX1_path_45 hl (by decide) (by first | rfl | simp [catK, catI, catR, catL]) (fun ls hl => ?_)
    refine lv_bipush (v := oI 7) X.1 X.2.1 dX1_path_47 (by decide) ?_
    refine lv_istore (i := 6) (lv' := [(6, .int (oI 7)), (5, .int (oI r_49)), (0, .ref (wad w 1 0)), (3, .int (oI y3)), (4, .int (oI y4))]) X.1 X.2.1 dX1_path_49 hl (by decide) (by first | rfl | simp [catK, catI, catR, catL]) (fun ls hl => ?_)
    exact wk_House_path_L51 X hr hlk hT hV rx1 K33 hK33 y3 r_49 7 σ_50 _ _ _ ry3 rr_49 ((rB_lit 7 (by decide)).i) (lv_sub hl [2, 3, 1, 0] rfl) hWσ_50 hS h
theorem wk_House_path_L33 {p : Program} {l : Launch} {e : Env} {st : State} {m : MethodId} {args : Array Value} {below : List Frame} {meth : Method} {c : Code} {w : Wp} {x1 : Int} {Q : Int → St → Prop} (X : CallFix p m c cX1_path 7 st args lw_all RX1) (hr : meth.sig.returnType = (some .int)) (hlk : meth.locks = false) (hT : Tb w st) (hV : Hvl w) (rx1 : rI x1) : ∀ (y3 y4 : Int) (σ : St) (H : Heap) (locs : List Loc) (ls : Array Slot), rI y3 → rI y4 → lv_has ls 7 [(0, .ref (wad w 1 0)), (3, .int (oI y3)), (4, .int (oI y4))] → Wo w σ H → va_S (wA w) st.heap H locs → lQ2 (wp_House_path_L33 (wc w) (wtv w) x1 Q) y3 y4 σ → W p l e (headSpec (ws_ yX1_path cX1_path 7 (some .int)) rm_House_path).room st m args below meth c H locs 0 0 (MQ below (QcI w Q) args st 0 0 (wA w)) (F0 m 33 ls []) := by
  intro y3 y4 σ H locs ls ry3 ry4 hl hW hS h
  obtain ⟨fu, h⟩ := h
  induction fu generalizing y3 y4 σ H locs ls with
  | zero => exact h.elim
  | succ fu ih =>
    exact wk_House_path_L33B X hr hlk hT hV rx1 (lq2 (wp_House_path_L33 (wc w) (wtv w) x1 Q) fu) (fun y3 y4 σ H locs ls ry3 ry4 hl hW hS h => ih y3 y4 σ H locs ls ry3 ry4 hl hW hS h) y3 y4 σ H locs ls ry3 ry4 hl hW hS h
set_option maxHeartbeats 4000000 in
set_option maxRecDepth 100000 in
theorem met_House_path (l : Launch) {w : Wp} (hV : Hvl w) (x1 : Int) (Q : Int → St → Prop) (σ : St) (rx1 : rI x1) (h : wp_House_path (wc w) (wtv w) x1 Q σ) : Met l yX1_path (ws_ yX1_path cX1_path 7 (some .int)) rm_House_path (PcW w σ [.ref (wad w 1 0), .int (oI x1)]) (QcI w Q) 0 0 (wA w) := by
  refine Met.ofW (cc := cX1_path) (maxL := 7) (ret := (some .int)) (by decide) rfl ?_
  intro p e st m args below meth c s₁ B hml hv
  obtain ⟨hargs, hW, hT⟩ := hv
  have X : CallFix p m c cX1_path 7 st _ lw_all RX1 := ⟨B.exec, B.bytes, hml, findClass_of_methodNamed B.named, fun w h => atoms_spec (ws := ws_ yX1_path cX1_path 7 (some .int)) B.pre w (List.mem_cons_of_mem _ h)⟩
  have hr := B.returns
  have hlk := B.notSynchronized
  have hS : va_S (wA w) st.heap st.heap [] := va_S.rf
  have vl1_0 : vl w 1 0 := hV.hv 1 rfl ⟨by omega, by show _ < (1 : Int); omega⟩
  have vl10_0 : vl w 10 0 := hV.hv 10 rfl ⟨by omega, by show _ < (4 : Int); omega⟩
  have hl := lv_entry ([.ref (wad w 1 0), .int (oI x1)]) (n := 7) (Nat.le_of_ble_eq_true rfl)
  have hfr := lg_entry_eq m ([.ref (wad w 1 0), .int (oI x1)]) 7
  rw [← hargs] at hfr
  rw [hfr]
  generalize (lg_sl ([.ref (wad w 1 0), .int (oI x1)]) ++ List.replicate (7 - (lg_sl ([.ref (wad w 1 0), .int (oI x1)])).length) Slot.unset).toArray = ls at hl ⊢
  have hl : lv_has ls 7 [(0, .ref (wad w 1 0)), (1, .int (oI x1))] := hl
  unfold wp_House_path at h
  refine lv_aload_n X.1 X.2.1 dX1_path_0 rfl (lv_at hl 0 rfl) ?_
  refine wg (v := .int (oI (gI σ 69 0))) X hT hW 1 5 69 vl1_0 rfl rfl (by decide) rfl (by decide) in_X1 q1075 rfl dX1_path_1 ?_
  refine w_if_ne (tgt := 10) X ((hW.r.z 69 0 rfl).i) dX1_path_4 (by decide) (fun hc => ?_) (fun hc => ?_)
  · have h := h.1 hc
    refine lv_aload_n X.1 X.2.1 dX1_path_10 rfl (lv_at hl 0 rfl) ?_
    refine lv_iload_n X.1 X.2.1 dX1_path_11 rfl (lv_at hl 1 rfl) ?_
    refine lv_aload_n X.1 X.2.1 dX1_path_12 rfl (lv_at hl 0 rfl) ?_
    refine wg (v := .ref (wad w 10 0)) X hT hW 1 14 78 vl1_0 rfl rfl (by decide) rfl (by decide) in_X1 q1084 rfl dX1_path_13 ?_
    refine wr_I (rV (As := [.int (oI x1), .ref (wad w 10 0)]) (rest := []) X hT hW hS (met_House_directory l (w := w) hV x1 0 _ σ rx1 (by omega) h) (cwV 2 X.2.2.2.2 (lw_V q1173 q1175 qs31 q131 q1176) rfl rfl rfl (by decide +kernel) ⟨Nat.le_of_ble_eq_true rfl, Nat.le_of_ble_eq_true rfl⟩) vl1_0 (by decide) rfl rfl hl.1 rfl (by first | exact Nat.le_of_ble_eq_true rfl | simp [catK, catI, catR, catL]) dX1_path_16 ⟨Nat.le_refl _, Nat.le_refl _⟩) hS (fun r_51 σ_52 H locs rr_51 rkσ_52 h hWσ_52 hS => ?_)
    have h := h rr_51 rkσ_52
    refine lv_istore_n (i := 2) (lv' := [(2, .int (oI r_51)), (0, .ref (wad w 1 0)), (1, .int (oI x1))]) X.1 X.2.1 dX1_path_19 rfl hl (by decide) (by first | rfl | simp [catK, catI, catR, catL]) (fun ls hl => ?_)
    refine lv_iload_n X.1 X.2.1 dX1_path_20 rfl (lv_at hl 0 rfl) ?_
    refine w_if_ge (tgt := 26) X rr_51 dX1_path_21 (by decide) (fun hc => ?_) (fun hc => ?_)
    · have h := h.1 hc
      refine lv_sipush (v := oI 1024) X.1 X.2.1 dX1_path_26 (by decide) ?_
      refine lv_istore_n (i := 3) (lv' := [(3, .int (oI 1024)), (2, .int (oI r_51)), (0, .ref (wad w 1 0)), (1, .int (oI x1))]) X.1 X.2.1 dX1_path_29 rfl hl (by decide) (by first | rfl | simp [catK, catI, catR, catL]) (fun ls hl => ?_)
      refine lv_iload_n X.1 X.2.1 dX1_path_30 rfl (lv_at hl 3 rfl) ?_
      refine lv_istore (i := 4) (lv' := [(4, .int (oI x1)), (3, .int (oI 1024)), (2, .int (oI r_51)), (0, .ref (wad w 1 0)), (1, .int (oI x1))]) X.1 X.2.1 dX1_path_31 hl (by decide) (by first | rfl | simp [catK, catI, catR, catL]) (fun ls hl => ?_)
      exact wk_House_path_L33 X hr hlk hT hV rx1 1024 x1 σ_52 _ _ _ (rI_lit 1024 (by decide)) rx1 (lv_sub hl [3, 1, 0] rfl) hWσ_52 hS h
    · have h := h.2 hc
      refine lv_iload_n X.1 X.2.1 dX1_path_24 rfl (lv_at hl 0 rfl) ?_
      exact wret_I X hr hlk hWσ_52 hS rr_51 h dX1_path_25
  · have h := h.2 hc
    refine lv_bipush (v := oI (-2)) X.1 X.2.1 dX1_path_7 (by decide) ?_
    exact wret_I X hr hlk hW hS ((rB_lit (-2) (by decide)).i) h dX1_path_9
/-! House.taped(I)I -/
set_option maxHeartbeats 4000000 in
set_option maxRecDepth 100000 in
theorem met_House_taped (l : Launch) {w : Wp} (hV : Hvl w) (x1 : Int) (Q : Int → St → Prop) (σ : St) (rx1 : rI x1) (h : wp_House_taped (wc w) (wtv w) x1 Q σ) : Met l yX1_taped (ws_ yX1_taped cX1_taped 2 (some .int)) rm_House_taped (PcW w σ [.ref (wad w 1 0), .int (oI x1)]) (QcI w Q) 0 0 (wA w) := by
  refine Met.ofW (cc := cX1_taped) (maxL := 2) (ret := (some .int)) (by decide) rfl ?_
  intro p e st m args below meth c s₁ B hml hv
  obtain ⟨hargs, hW, hT⟩ := hv
  have X : CallFix p m c cX1_taped 2 st _ lw_all RX1 := ⟨B.exec, B.bytes, hml, findClass_of_methodNamed B.named, fun w h => atoms_spec (ws := ws_ yX1_taped cX1_taped 2 (some .int)) B.pre w (List.mem_cons_of_mem _ h)⟩
  have hr := B.returns
  have hlk := B.notSynchronized
  have hS : va_S (wA w) st.heap st.heap [] := va_S.rf
  have vl1_0 : vl w 1 0 := hV.hv 1 rfl ⟨by omega, by show _ < (1 : Int); omega⟩
  have vl87_0 : vl w 87 0 := hV.hv 87 rfl ⟨by omega, by show _ < (1 : Int); omega⟩
  have hl := lv_entry ([.ref (wad w 1 0), .int (oI x1)]) (n := 2) (Nat.le_of_ble_eq_true rfl)
  have hfr := lg_entry_eq m ([.ref (wad w 1 0), .int (oI x1)]) 2
  rw [← hargs] at hfr
  rw [hfr]
  generalize (lg_sl ([.ref (wad w 1 0), .int (oI x1)]) ++ List.replicate (2 - (lg_sl ([.ref (wad w 1 0), .int (oI x1)])).length) Slot.unset).toArray = ls at hl ⊢
  have hl : lv_has ls 2 [(0, .ref (wad w 1 0)), (1, .int (oI x1))] := hl
  unfold wp_House_taped at h
  refine lv_aload_n X.1 X.2.1 dX1_taped_0 rfl (lv_at hl 0 rfl) ?_
  refine wg (v := .int (oI (gI σ 69 0))) X hT hW 1 5 69 vl1_0 rfl rfl (by decide) rfl (by decide) in_X1 q1075 rfl dX1_taped_1 ?_
  refine w_if_ne (tgt := 12) X ((hW.r.z 69 0 rfl).i) dX1_taped_4 (by decide) (fun hc => ?_) (fun hc => ?_)
  · have h := h.1 hc
    refine lv_iload_n X.1 X.2.1 dX1_taped_12 rfl (lv_at hl 1 rfl) ?_
    refine lv_iconst (v := oI 0) X.1 X.2.1 dX1_taped_13 rfl ?_
    refine lv_aload_n X.1 X.2.1 dX1_taped_14 rfl (lv_at hl 0 rfl) ?_
    refine wg (v := .int (oI (gI σ 88 0))) X hT hW 1 24 88 vl1_0 rfl rfl (by decide) rfl (by decide) in_X1 q1094 rfl dX1_taped_15 ?_
    refine lv_iconst (v := oI 1) X.1 X.2.1 dX1_taped_18 rfl ?_
    refine w_isub X dX1_taped_19 ?_
    refine wr_Z (rS (As := [.int (oI x1), .int (oI 0), .int (oI (w32 ((gI σ 88 0) - 1)))]) (rest := []) X hT hW hS (met_House_isIn l (w := w) x1 0 (w32 ((gI σ 88 0) - 1)) _ σ rx1 rZ_0.i (w32_r _) h) (va_cwS 3 X.2.2.2.2 (lw_S q208 q209 q131 q210) rfl rfl rfl (by decide +kernel) ⟨Nat.le_of_ble_eq_true rfl, Nat.le_of_ble_eq_true rfl⟩) rfl hl.1 rfl (by first | exact Nat.le_of_ble_eq_true rfl | simp [catK, catI, catR, catL]) dX1_taped_20 ⟨Nat.le_refl _, Nat.le_refl _⟩) hS (fun r_3 σ_4 H locs rr_3 rkσ_4 h hWσ_4 hS => ?_)
    have h := h rr_3 rkσ_4
    refine w_if_eq (tgt := 39) X rr_3.i dX1_taped_23 (by decide) (fun hc => ?_) (fun hc => ?_)
    · have h := h.1 hc
      refine lv_iconst (v := oI (-1)) X.1 X.2.1 dX1_taped_39 rfl ?_
      exact wret_I X hr hlk hWσ_4 hS ((rB_lit (-1) (by decide)).i) h dX1_taped_40
    · have h := h.2 hc
      refine lv_aload_n X.1 X.2.1 dX1_taped_26 rfl (lv_at hl 0 rfl) ?_
      refine wg (v := .ref (wad w 87 0)) X hT hWσ_4 1 23 87 vl1_0 rfl rfl (by decide) rfl (by decide) in_X1 q1093 rfl dX1_taped_27 ?_
      refine lv_iload_n X.1 X.2.1 dX1_taped_30 rfl (lv_at hl 1 rfl) ?_
      obtain ⟨bi, h⟩ := h
      refine w_bald (n := 200) X hT hWσ_4 87 vl87_0 (by decide) rfl rfl bi dX1_taped_31 ?_
      refine lv_sipush (v := oI 255) X.1 X.2.1 dX1_taped_32 (by decide) ?_
      refine w_iand X dX1_taped_35 ?_
      refine lv_goto (tgt := 40) X.1 X.2.1 dX1_taped_36 (by decide) ?_
      exact wret_I X hr hlk hWσ_4 hS (iand_r _ _) h dX1_taped_40
  · have h := h.2 hc
    refine lv_bipush (v := oI (-2)) X.1 X.2.1 dX1_taped_7 (by decide) ?_
    refine lv_goto (tgt := 40) X.1 X.2.1 dX1_taped_9 (by decide) ?_
    exact wret_I X hr hlk hW hS ((rB_lit (-2) (by decide)).i) h dX1_taped_40
/-! House.text(II)I -/
set_option maxHeartbeats 4000000 in
set_option maxRecDepth 100000 in
theorem met_House_text (l : Launch) {w : Wp} (hV : Hvl w) (x1 : Int) (x2 : Int) (Q : Int → St → Prop) (σ : St) (rx1 : rI x1) (rx2 : rI x2) (h : wp_House_text (wc w) (wtv w) x1 x2 Q σ) : Met l yX1_text (ws_ yX1_text cX1_text 3 (some .int)) rm_House_text (PcW w σ [.ref (wad w 1 0), .int (oI x1), .int (oI x2)]) (QcI w Q) 0 0 (wA w) := by
  refine Met.ofW (cc := cX1_text) (maxL := 3) (ret := (some .int)) (by decide) rfl ?_
  intro p e st m args below meth c s₁ B hml hv
  obtain ⟨hargs, hW, hT⟩ := hv
  have X : CallFix p m c cX1_text 3 st _ lw_all RX1 := ⟨B.exec, B.bytes, hml, findClass_of_methodNamed B.named, fun w h => atoms_spec (ws := ws_ yX1_text cX1_text 3 (some .int)) B.pre w (List.mem_cons_of_mem _ h)⟩
  have hr := B.returns
  have hlk := B.notSynchronized
  have hS : va_S (wA w) st.heap st.heap [] := va_S.rf
  have vl1_0 : vl w 1 0 := hV.hv 1 rfl ⟨by omega, by show _ < (1 : Int); omega⟩
  have vl10_0 : vl w 10 0 := hV.hv 10 rfl ⟨by omega, by show _ < (4 : Int); omega⟩
  have vl77_0 : vl w 77 0 := hV.hv 77 rfl ⟨by omega, by show _ < (1 : Int); omega⟩
  have hl := lv_entry ([.ref (wad w 1 0), .int (oI x1), .int (oI x2)]) (n := 3) (Nat.le_of_ble_eq_true rfl)
  have hfr := lg_entry_eq m ([.ref (wad w 1 0), .int (oI x1), .int (oI x2)]) 3
  rw [← hargs] at hfr
  rw [hfr]
  generalize (lg_sl ([.ref (wad w 1 0), .int (oI x1), .int (oI x2)]) ++ List.replicate (3 - (lg_sl ([.ref (wad w 1 0), .int (oI x1), .int (oI x2)])).length) Slot.unset).toArray = ls at hl ⊢
  have hl : lv_has ls 3 [(0, .ref (wad w 1 0)), (1, .int (oI x1)), (2, .int (oI x2))] := hl
  unfold wp_House_text at h
  refine lv_aload_n X.1 X.2.1 dX1_text_0 rfl (lv_at hl 0 rfl) ?_
  refine wg (v := .int (oI (gI σ 69 0))) X hT hW 1 5 69 vl1_0 rfl rfl (by decide) rfl (by decide) in_X1 q1075 rfl dX1_text_1 ?_
  refine w_if_ne (tgt := 10) X ((hW.r.z 69 0 rfl).i) dX1_text_4 (by decide) (fun hc => ?_) (fun hc => ?_)
  · have h := h.1 hc
    refine lv_aload_n X.1 X.2.1 dX1_text_10 rfl (lv_at hl 0 rfl) ?_
    refine lv_iload_n X.1 X.2.1 dX1_text_11 rfl (lv_at hl 1 rfl) ?_
    refine lv_aload_n X.1 X.2.1 dX1_text_12 rfl (lv_at hl 0 rfl) ?_
    refine wg (v := .ref (wad w 10 0)) X hT hW 1 14 78 vl1_0 rfl rfl (by decide) rfl (by decide) in_X1 q1084 rfl dX1_text_13 ?_
    refine wr_Z (rV (As := [.int (oI x1), .ref (wad w 10 0)]) (rest := []) X hT hW hS (met_House_read l (w := w) hV x1 0 _ σ rx1 (by omega) h) (cwV 2 X.2.2.2.2 (lw_V q1177 q1179 qs32 q131 q1180) rfl rfl rfl (by decide +kernel) ⟨Nat.le_of_ble_eq_true rfl, Nat.le_of_ble_eq_true rfl⟩) vl1_0 (by decide) rfl rfl hl.1 rfl (by first | exact Nat.le_of_ble_eq_true rfl | simp [catK, catI, catR, catL]) dX1_text_16 ⟨Nat.le_refl _, Nat.le_refl _⟩) hS (fun r_7 σ_8 H locs rr_7 rkσ_8 h hWσ_8 hS => ?_)
    have h := h rr_7 rkσ_8
    refine w_if_eq (tgt := 33) X rr_7.i dX1_text_19 (by decide) (fun hc => ?_) (fun hc => ?_)
    · have h := h.1 hc
      refine lv_bipush (v := oI (-4)) X.1 X.2.1 dX1_text_33 (by decide) ?_
      exact wret_I X hr hlk hWσ_8 hS ((rB_lit (-4) (by decide)).i) h dX1_text_35
    · have h := h.2 hc
      refine lv_aload_n X.1 X.2.1 dX1_text_22 rfl (lv_at hl 0 rfl) ?_
      refine wg (v := .ref (wad w 10 0)) X hT hWσ_8 1 14 78 vl1_0 rfl rfl (by decide) rfl (by decide) in_X1 q1084 rfl dX1_text_23 ?_
      refine wg (v := .int (oI (gI σ_8 641 0))) X hT hWσ_8 10 1 641 vl10_0 rfl rfl (by decide) rfl (by decide) in_X3 q190 rfl dX1_text_26 ?_
      refine lv_iconst (v := oI 3) X.1 X.2.1 dX1_text_29 rfl ?_
      refine w_icmp_eq (tgt := 36) X (hWσ_8.r.i 641 0 rfl) ((rB_lit 3 (by decide)).i) dX1_text_30 (by decide) (fun hc => ?_) (fun hc => ?_)
      · have h := h.1 hc
        refine lv_iload_n X.1 X.2.1 dX1_text_36 rfl (lv_at hl 2 rfl) ?_
        refine lv_iconst (v := oI 0) X.1 X.2.1 dX1_text_37 rfl ?_
        refine lv_aload_n X.1 X.2.1 dX1_text_38 rfl (lv_at hl 0 rfl) ?_
        refine lv_iload_n X.1 X.2.1 dX1_text_39 rfl (lv_at hl 1 rfl) ?_
        refine lv_iconst (v := oI 0) X.1 X.2.1 dX1_text_40 rfl ?_
        refine wr_I (rV (As := [.int (oI x1), .int (oI 0)]) (rest := [.int (oI 0), .int (oI x2)]) X hT hWσ_8 hS (met_House_piece l (w := w) hV x1 0 _ σ_8 rx1 rZ_0.i h) (cwV 2 X.2.2.2.2 (lw_V q1479 q1481 qs64 q131 q1482) rfl rfl rfl (by decide +kernel) ⟨Nat.le_of_ble_eq_true rfl, Nat.le_of_ble_eq_true rfl⟩) vl1_0 (by decide) rfl rfl hl.1 rfl (by first | exact Nat.le_of_ble_eq_true rfl | simp [catK, catI, catR, catL]) dX1_text_41 ⟨Nat.le_refl _, Nat.le_refl _⟩) hS (fun r_9 σ_10 H locs rr_9 rkσ_10 h hWσ_10 hS => ?_)
        have h := h rr_9 rkσ_10
        refine lv_iconst (v := oI 1) X.1 X.2.1 dX1_text_44 rfl ?_
        refine w_isub X dX1_text_45 ?_
        refine wr_Z (rS (As := [.int (oI x2), .int (oI 0), .int (oI (w32 (r_9 - 1)))]) (rest := []) X hT hWσ_10 hS (met_House_isIn l (w := w) x2 0 (w32 (r_9 - 1)) _ σ_10 rx2 rZ_0.i (w32_r _) h) (va_cwS 3 X.2.2.2.2 (lw_S q208 q209 q131 q210) rfl rfl rfl (by decide +kernel) ⟨Nat.le_of_ble_eq_true rfl, Nat.le_of_ble_eq_true rfl⟩) rfl hl.1 rfl (by first | exact Nat.le_of_ble_eq_true rfl | simp [catK, catI, catR, catL]) dX1_text_46 ⟨Nat.le_refl _, Nat.le_refl _⟩) hS (fun r_11 σ_12 H locs rr_11 rkσ_12 h hWσ_12 hS => ?_)
        have h := h rr_11 rkσ_12
        refine w_if_eq (tgt := 65) X rr_11.i dX1_text_49 (by decide) (fun hc => ?_) (fun hc => ?_)
        · have h := h.1 hc
          refine lv_iconst (v := oI (-1)) X.1 X.2.1 dX1_text_65 rfl ?_
          exact wret_I X hr hlk hWσ_12 hS ((rB_lit (-1) (by decide)).i) h dX1_text_66
        · have h := h.2 hc
          refine lv_aload_n X.1 X.2.1 dX1_text_52 rfl (lv_at hl 0 rfl) ?_
          refine wg (v := .ref (wad w 77 0)) X hT hWσ_12 1 13 77 vl1_0 rfl rfl (by decide) rfl (by decide) in_X1 q1083 rfl dX1_text_53 ?_
          refine lv_iload_n X.1 X.2.1 dX1_text_56 rfl (lv_at hl 2 rfl) ?_
          obtain ⟨bi, h⟩ := h
          refine w_bald (n := 64) X hT hWσ_12 77 vl77_0 (by decide) rfl rfl bi dX1_text_57 ?_
          refine lv_sipush (v := oI 255) X.1 X.2.1 dX1_text_58 (by decide) ?_
          refine w_iand X dX1_text_61 ?_
          refine lv_goto (tgt := 66) X.1 X.2.1 dX1_text_62 (by decide) ?_
          exact wret_I X hr hlk hWσ_12 hS (iand_r _ _) h dX1_text_66
      · have h := h.2 hc
        refine lv_bipush (v := oI (-4)) X.1 X.2.1 dX1_text_33 (by decide) ?_
        exact wret_I X hr hlk hWσ_8 hS ((rB_lit (-4) (by decide)).i) h dX1_text_35
  · have h := h.2 hc
    refine lv_bipush (v := oI (-2)) X.1 X.2.1 dX1_text_7 (by decide) ?_
    exact wret_I X hr hlk hW hS ((rB_lit (-2) (by decide)).i) h dX1_text_9
/-! House.attributeOf(IJ)Z -/
set_option maxHeartbeats 4000000 in
set_option maxRecDepth 100000 in
theorem met_House_attributeOf (l : Launch) {w : Wp} (hV : Hvl w) (x1 : Int) (x2 : Int) (Q : Int → St → Prop) (σ : St) (rx1 : rI x1) (rx2 : rJ x2) (h : wp_House_attributeOf (wc w) (wtv w) x1 x2 Q σ) : Met l yX1_attributeOf (ws_ yX1_attributeOf cX1_attributeOf 5 (some .boolean)) rm_House_attributeOf (PcW w σ [.ref (wad w 1 0), .int (oI x1), .long (oL x2)]) (QcZ w Q) 0 0 (wA w) := by
  refine Met.ofW (cc := cX1_attributeOf) (maxL := 5) (ret := (some .boolean)) (by decide) rfl ?_
  intro p e st m args below meth c s₁ B hml hv
  obtain ⟨hargs, hW, hT⟩ := hv
  have X : CallFix p m c cX1_attributeOf 5 st _ lw_all RX1 := ⟨B.exec, B.bytes, hml, findClass_of_methodNamed B.named, fun w h => atoms_spec (ws := ws_ yX1_attributeOf cX1_attributeOf 5 (some .boolean)) B.pre w (List.mem_cons_of_mem _ h)⟩
  have hr := B.returns
  have hlk := B.notSynchronized
  have hS : va_S (wA w) st.heap st.heap [] := va_S.rf
  have vl1_0 : vl w 1 0 := hV.hv 1 rfl ⟨by omega, by show _ < (1 : Int); omega⟩
  have vl3_0 : vl w 3 0 := hV.hv 3 rfl ⟨by omega, by show _ < (2 : Int); omega⟩
  have vl6_0 : vl w 6 0 := hV.hv 6 rfl ⟨by omega, by show _ < (2 : Int); omega⟩
  have vl8_0 : vl w 8 0 := hV.hv 8 rfl ⟨by omega, by show _ < (8 : Int); omega⟩
  have hl := lv_entry ([.ref (wad w 1 0), .int (oI x1), .long (oL x2)]) (n := 5) (Nat.le_of_ble_eq_true rfl)
  have hfr := lg_entry_eq m ([.ref (wad w 1 0), .int (oI x1), .long (oL x2)]) 5
  rw [← hargs] at hfr
  rw [hfr]
  generalize (lg_sl ([.ref (wad w 1 0), .int (oI x1), .long (oL x2)]) ++ List.replicate (5 - (lg_sl ([.ref (wad w 1 0), .int (oI x1), .long (oL x2)])).length) Slot.unset).toArray = ls at hl ⊢
  have hl : lv_has ls 5 [(0, .ref (wad w 1 0)), (1, .int (oI x1)), (2, .long (oL x2))] := hl
  unfold wp_House_attributeOf at h
  refine lv_aload_n X.1 X.2.1 dX1_attributeOf_0 rfl (lv_at hl 0 rfl) ?_
  refine wg (v := .ref (wad w 3 0)) X hT hW 1 1 65 vl1_0 rfl rfl (by decide) rfl (by decide) in_X1 q1071 rfl dX1_attributeOf_1 ?_
  refine wg (v := .ref (wad w 6 0)) X hT hW 3 2 194 vl3_0 rfl rfl (by decide) rfl (by decide) in_X5 q527 rfl dX1_attributeOf_4 ?_
  refine lv_astore (i := 4) (lv' := [(4, .ref (wad w 6 0)), (0, .ref (wad w 1 0)), (1, .int (oI x1)), (2, .long (oL x2))]) X.1 X.2.1 dX1_attributeOf_7 hl (by decide) (by first | rfl | simp [catK, catI, catR, catL]) (fun ls hl => ?_)
  refine lv_iload_n X.1 X.2.1 dX1_attributeOf_9 rfl (lv_at hl 2 rfl) ?_
  refine lv_iconst (v := oI 1) X.1 X.2.1 dX1_attributeOf_10 rfl ?_
  refine w_icmp_lt (tgt := 31) X rx1 rZ_1.i dX1_attributeOf_11 (by decide) (fun hc => ?_) (fun hc => ?_)
  · have h := h.1 hc
    refine lv_iconst (v := oI 0) X.1 X.2.1 dX1_attributeOf_31 rfl ?_
    exact wret_Z X hr hlk hW hS rZ_0 h dX1_attributeOf_32
  · have h := h.2 hc
    refine lv_aload X.1 X.2.1 dX1_attributeOf_14 (lv_at hl 0 rfl) ?_
    refine lv_iload_n X.1 X.2.1 dX1_attributeOf_16 rfl (lv_at hl 2 rfl) ?_
    refine lv_iconst (v := oI 3) X.1 X.2.1 dX1_attributeOf_17 rfl ?_
    refine wr_J (rS (As := [.int (oI x1), .int (oI 3)]) (rest := [.ref (wad w 6 0)]) X hT hW hS (met_House_keyOf l (w := w) x1 3 _ σ rx1 ((rB_lit 3 (by decide)).i) h) (va_cwS 2 X.2.2.2.2 (lw_S q1181 q894 q131 q895) rfl rfl rfl (by decide +kernel) ⟨Nat.le_of_ble_eq_true rfl, Nat.le_of_ble_eq_true rfl⟩) rfl hl.1 rfl (by first | exact Nat.le_of_ble_eq_true rfl | simp [catK, catI, catR, catL]) dX1_attributeOf_18 ⟨Nat.le_refl _, Nat.le_refl _⟩) hS (fun r_9 σ_10 H locs rr_9 rkσ_10 h hWσ_10 hS => ?_)
    have h := h rr_9 rkσ_10
    refine lv_lload_n X.1 X.2.1 dX1_attributeOf_21 rfl (lv_at hl 3 rfl) ?_
    refine wr_J (rS (As := [.long (oL x2)]) (rest := [.long (oL r_9), .ref (wad w 6 0)]) X hT hWσ_10 hS (met_Long_reverseBytes l (w := w) x2 _ σ_10 rx2 h) (va_cwS 1 X.2.2.2.2 (lw_S q1449 q1324 q148 q1325) rfl rfl rfl (by decide +kernel) ⟨Nat.le_of_ble_eq_true rfl, Nat.le_of_ble_eq_true rfl⟩) rfl hl.1 rfl (by first | exact Nat.le_of_ble_eq_true rfl | simp [catK, catI, catR, catL]) dX1_attributeOf_22 ⟨Nat.le_refl _, Nat.le_refl _⟩) hS (fun r_11 σ_12 H locs rr_11 rkσ_12 h hWσ_12 hS => ?_)
    have h := h rr_11 rkσ_12
    refine wr_Z (rV (As := [.long (oL r_9), .long (oL r_11)]) (rest := []) X hT hWσ_12 hS (met_Index_find l (w := w) hV 0 r_9 r_11 _ σ_12 (by omega) rr_9 rr_11 h) (cwV 2 X.2.2.2.2 (lw_V q1182 q902 q903 q139 q904) rfl rfl rfl (by decide +kernel) ⟨Nat.le_of_ble_eq_true rfl, Nat.le_of_ble_eq_true rfl⟩) vl6_0 (by decide) rfl rfl hl.1 rfl (by first | exact Nat.le_of_ble_eq_true rfl | simp [catK, catI, catR, catL]) dX1_attributeOf_25 ⟨Nat.le_refl _, Nat.le_refl _⟩) hS (fun r_13 σ_14 H locs rr_13 rkσ_14 h hWσ_14 hS => ?_)
    have h := h rr_13 rkσ_14
    refine w_if_ne (tgt := 33) X rr_13.i dX1_attributeOf_28 (by decide) (fun hc => ?_) (fun hc => ?_)
    · have h := h.1 hc
      refine lv_aload_n X.1 X.2.1 dX1_attributeOf_33 rfl (lv_at hl 1 rfl) ?_
      refine wg (v := .ref (wad w 3 0)) X hT hWσ_14 1 1 65 vl1_0 rfl rfl (by decide) rfl (by decide) in_X1 q1071 rfl dX1_attributeOf_34 ?_
      refine lv_aload X.1 X.2.1 dX1_attributeOf_37 (lv_at hl 0 rfl) ?_
      refine wg (v := .int (oI (gI σ_14 393 0))) X hT hWσ_14 6 9 393 vl6_0 rfl rfl (by decide) rfl (by decide) in_X8 q460 rfl dX1_attributeOf_39 ?_
      refine lv_aload X.1 X.2.1 dX1_attributeOf_42 (lv_at hl 0 rfl) ?_
      refine wg (v := .int (oI (gI σ_14 394 0))) X hT hWσ_14 6 10 394 vl6_0 rfl rfl (by decide) rfl (by decide) in_X8 q463 rfl dX1_attributeOf_44 ?_
      refine lv_aload X.1 X.2.1 dX1_attributeOf_47 (lv_at hl 0 rfl) ?_
      refine wg (v := .int (oI (gI σ_14 395 0))) X hT hWσ_14 6 11 395 vl6_0 rfl rfl (by decide) rfl (by decide) in_X8 q466 rfl dX1_attributeOf_49 ?_
      refine lv_aload_n X.1 X.2.1 dX1_attributeOf_52 rfl (lv_at hl 1 rfl) ?_
      refine wg (v := .ref (wad w 3 0)) X hT hWσ_14 1 1 65 vl1_0 rfl rfl (by decide) rfl (by decide) in_X1 q1071 rfl dX1_attributeOf_53 ?_
      refine wg (v := .ref (wad w 8 0)) X hT hWσ_14 3 6 198 vl3_0 rfl rfl (by decide) rfl (by decide) in_X5 q532 rfl dX1_attributeOf_56 ?_
      refine wr_V (rV (As := [.int (oI (gI σ_14 393 0)), .int (oI (gI σ_14 394 0)), .int (oI (gI σ_14 395 0)), .ref (wad w 8 0)]) (rest := []) X hT hWσ_14 hS (met_Store_read l (w := w) hV 0 (gI σ_14 393 0) (gI σ_14 394 0) (gI σ_14 395 0) 0 _ σ_14 (by omega) (hWσ_14.r.i 393 0 rfl) (hWσ_14.r.i 394 0 rfl) (hWσ_14.r.i 395 0 rfl) (by omega) h) (cwV 4 X.2.2.2.2 (lw_V q1183 q1184 q1185 q136 q1186) rfl rfl rfl (by decide +kernel) ⟨Nat.le_of_ble_eq_true rfl, Nat.le_of_ble_eq_true rfl⟩) vl3_0 (by decide) rfl rfl hl.1 rfl (by first | exact Nat.le_of_ble_eq_true rfl | simp [catK, catI, catR, catL]) dX1_attributeOf_59 ⟨Nat.le_refl _, Nat.le_refl _⟩) hS (fun σ_16 H locs rkσ_16 h hWσ_16 hS => ?_)
      have h := h rkσ_16
      refine lv_iconst (v := oI 1) X.1 X.2.1 dX1_attributeOf_62 rfl ?_
      exact wret_Z X hr hlk hWσ_16 hS rZ_1 h dX1_attributeOf_63
    · have h := h.2 hc
      refine lv_iconst (v := oI 0) X.1 X.2.1 dX1_attributeOf_31 rfl ?_
      exact wret_Z X hr hlk hWσ_14 hS rZ_0 h dX1_attributeOf_32
/-! House.handAttribute(JJZ)V -/
set_option maxHeartbeats 4000000 in
set_option maxRecDepth 100000 in
theorem met_House_handAttribute (l : Launch) {w : Wp} (hV : Hvl w) (x1 : Int) (x3 : Int) (x5 : Int) (Q : St → Prop) (σ : St) (rx1 : rJ x1) (rx3 : rJ x3) (rx5 : rZ x5) (h : wp_House_handAttribute (wc w) (wtv w) x1 x3 x5 Q σ) : Met l yX1_handAttribute (ws_ yX1_handAttribute cX1_handAttribute 6 none) rm_House_handAttribute (PcW w σ [.ref (wad w 1 0), .long (oL x1), .long (oL x3), .int (oI x5)]) (QcV w Q) 0 0 (wA w) := by
  refine Met.ofW (cc := cX1_handAttribute) (maxL := 6) (ret := none) (by decide) rfl ?_
  intro p e st m args below meth c s₁ B hml hv
  obtain ⟨hargs, hW, hT⟩ := hv
  have X : CallFix p m c cX1_handAttribute 6 st _ lw_all RX1 := ⟨B.exec, B.bytes, hml, findClass_of_methodNamed B.named, fun w h => atoms_spec (ws := ws_ yX1_handAttribute cX1_handAttribute 6 none) B.pre w (List.mem_cons_of_mem _ h)⟩
  have hr := B.returns
  have hlk := B.notSynchronized
  have hS : va_S (wA w) st.heap st.heap [] := va_S.rf
  have vl1_0 : vl w 1 0 := hV.hv 1 rfl ⟨by omega, by show _ < (1 : Int); omega⟩
  have vl10_0 : vl w 10 0 := hV.hv 10 rfl ⟨by omega, by show _ < (4 : Int); omega⟩
  have vl8_6 : vl w 8 6 := hV.hv 8 rfl ⟨by omega, by show _ < (8 : Int); omega⟩
  have hl := lv_entry ([.ref (wad w 1 0), .long (oL x1), .long (oL x3), .int (oI x5)]) (n := 6) (Nat.le_of_ble_eq_true rfl)
  have hfr := lg_entry_eq m ([.ref (wad w 1 0), .long (oL x1), .long (oL x3), .int (oI x5)]) 6
  rw [← hargs] at hfr
  rw [hfr]
  generalize (lg_sl ([.ref (wad w 1 0), .long (oL x1), .long (oL x3), .int (oI x5)]) ++ List.replicate (6 - (lg_sl ([.ref (wad w 1 0), .long (oL x1), .long (oL x3), .int (oI x5)])).length) Slot.unset).toArray = ls at hl ⊢
  have hl : lv_has ls 6 [(0, .ref (wad w 1 0)), (1, .long (oL x1)), (3, .long (oL x3)), (5, .int (oI x5))] := hl
  unfold wp_House_handAttribute at h
  refine lv_aload_n X.1 X.2.1 dX1_handAttribute_0 rfl (lv_at hl 0 rfl) ?_
  refine wr_V (rV (As := []) (rest := []) X hT hW hS (met_House_begin l (w := w) hV _ σ h) (cwV 0 X.2.2.2.2 (lw_V q1231 q1233 qs35 q131 q1234) rfl rfl rfl (by decide +kernel) ⟨Nat.le_of_ble_eq_true rfl, Nat.le_of_ble_eq_true rfl⟩) vl1_0 (by decide) rfl rfl hl.1 rfl (by first | exact Nat.le_of_ble_eq_true rfl | simp [catK, catI, catR, catL]) dX1_handAttribute_1 ⟨Nat.le_refl _, Nat.le_refl _⟩) hS (fun σ_20 H locs rkσ_20 h hWσ_20 hS => ?_)
  have h := h rkσ_20
  refine lv_aload_n X.1 X.2.1 dX1_handAttribute_4 rfl (lv_at hl 0 rfl) ?_
  refine wg (v := .ref (wad w 8 6)) X hT hWσ_20 1 11 75 vl1_0 rfl rfl (by decide) rfl (by decide) in_X1 q1081 rfl dX1_handAttribute_5 ?_
  refine lv_bipush (v := oI 9) X.1 X.2.1 dX1_handAttribute_8 (by decide) ?_
  refine lv_bipush (v := oI 48) X.1 X.2.1 dX1_handAttribute_10 (by decide) ?_
  refine wr_R (rV (As := [.int (oI 9), .int (oI 48)]) (rest := []) X hT hWσ_20 hS (met_Row_begin l (w := w) hV 6 9 48 _ σ_20 (by omega) ((rB_lit 9 (by decide)).i) ((rB_lit 48 (by decide)).i) h) (cwV 2 X.2.2.2.2 (lw_V q1240 q741 q742 q132 q743) rfl rfl rfl (by decide +kernel) ⟨Nat.le_of_ble_eq_true rfl, Nat.le_of_ble_eq_true rfl⟩) vl8_6 (by decide) rfl rfl hl.1 rfl (by first | exact Nat.le_of_ble_eq_true rfl | simp [catK, catI, catR, catL]) dX1_handAttribute_12 ⟨Nat.le_refl _, Nat.le_refl _⟩) hS (fun σ_22 H locs rkσ_22 h hWσ_22 hS => ?_)
  have h := h rkσ_22
  refine lv_iconst (v := oI 0) X.1 X.2.1 dX1_handAttribute_15 rfl ?_
  refine lv_aload_n X.1 X.2.1 dX1_handAttribute_16 rfl (lv_at hl 0 rfl) ?_
  refine wg (v := .ref (wad w 10 0)) X hT hWσ_22 1 14 78 vl1_0 rfl rfl (by decide) rfl (by decide) in_X1 q1084 rfl dX1_handAttribute_17 ?_
  refine wg (v := .int (oI (gI σ_22 640 0))) X hT hWσ_22 10 0 640 vl10_0 rfl rfl (by decide) rfl (by decide) in_X3 q189 rfl dX1_handAttribute_20 ?_
  refine wr_R (rV (As := [.int (oI 0), .int (oI (gI σ_22 640 0))]) (rest := []) X hT hWσ_22 hS (met_Row_put l (w := w) hV 6 0 (gI σ_22 640 0) _ σ_22 (by omega) rZ_0.i (hWσ_22.r.i 640 0 rfl) h) (cwV 2 X.2.2.2.2 (lw_V q1241 q748 q749 q132 q750) rfl rfl rfl (by decide +kernel) ⟨Nat.le_of_ble_eq_true rfl, Nat.le_of_ble_eq_true rfl⟩) vl8_6 (by decide) rfl rfl hl.1 rfl (by first | exact Nat.le_of_ble_eq_true rfl | simp [catK, catI, catR, catL]) dX1_handAttribute_23 ⟨Nat.le_refl _, Nat.le_refl _⟩) hS (fun σ_24 H locs rkσ_24 h hWσ_24 hS => ?_)
  have h := h rkσ_24
  refine lv_iconst (v := oI 4) X.1 X.2.1 dX1_handAttribute_26 rfl ?_
  refine lv_iload X.1 X.2.1 dX1_handAttribute_27 (lv_at hl 3 rfl) ?_
  refine w_cut (pc2 := 37) (st2 := [.int (oI (if x5 = 0 then (0 : Int) else (1 : Int))), .int (oI 4), .ref (wad w 8 6)]) (fun hj => ?_) ?_
  · refine w_if_eq (tgt := 36) X rx5.i dX1_handAttribute_29 (by decide) (fun hc => ?_) (fun hc => ?_)
    · refine lv_iconst (v := oI 0) X.1 X.2.1 dX1_handAttribute_36 rfl ?_
      rw [if_pos hc] at hj; exact hj
    · refine lv_iconst (v := oI 1) X.1 X.2.1 dX1_handAttribute_32 rfl ?_
      refine lv_goto (tgt := 37) X.1 X.2.1 dX1_handAttribute_33 (by decide) ?_
      rw [if_neg hc] at hj; exact hj
  refine wr_R (rV (As := [.int (oI 4), .int (oI (if x5 = 0 then (0 : Int) else (1 : Int)))]) (rest := []) X hT hWσ_24 hS (met_Row_put l (w := w) hV 6 4 (if x5 = 0 then (0 : Int) else (1 : Int)) _ σ_24 (by omega) ((rB_lit 4 (by decide)).i) ((ite_rZ rZ_0 rZ_1).i) h) (cwV 2 X.2.2.2.2 (lw_V q1241 q748 q749 q132 q750) rfl rfl rfl (by decide +kernel) ⟨Nat.le_of_ble_eq_true rfl, Nat.le_of_ble_eq_true rfl⟩) vl8_6 (by decide) rfl rfl hl.1 rfl (by first | exact Nat.le_of_ble_eq_true rfl | simp [catK, catI, catR, catL]) dX1_handAttribute_37 ⟨Nat.le_refl _, Nat.le_refl _⟩) hS (fun σ_26 H locs rkσ_26 h hWσ_26 hS => ?_)
  have h := h rkσ_26
  refine lv_bipush (v := oI 8) X.1 X.2.1 dX1_handAttribute_40 (by decide) ?_
  refine lv_lload_n X.1 X.2.1 dX1_handAttribute_42 rfl (lv_at hl 1 rfl) ?_
  refine wr_R (rV (As := [.int (oI 8), .long (oL x1)]) (rest := []) X hT hWσ_26 hS (met_Row_putLongAt l (w := w) hV 6 8 x1 _ σ_26 (by omega) ((rB_lit 8 (by decide)).i) rx1 h) (cwV 2 X.2.2.2.2 (lw_V q1242 q980 q981 q132 q982) rfl rfl rfl (by decide +kernel) ⟨Nat.le_of_ble_eq_true rfl, Nat.le_of_ble_eq_true rfl⟩) vl8_6 (by decide) rfl rfl hl.1 rfl (by first | exact Nat.le_of_ble_eq_true rfl | simp [catK, catI, catR, catL]) dX1_handAttribute_43 ⟨Nat.le_refl _, Nat.le_refl _⟩) hS (fun σ_28 H locs rkσ_28 h hWσ_28 hS => ?_)
  have h := h rkσ_28
  refine lv_bipush (v := oI 16) X.1 X.2.1 dX1_handAttribute_46 (by decide) ?_
  refine lv_lload_n X.1 X.2.1 dX1_handAttribute_48 rfl (lv_at hl 2 rfl) ?_
  refine wr_R (rV (As := [.int (oI 16), .long (oL x3)]) (rest := []) X hT hWσ_28 hS (met_Row_putLongAt l (w := w) hV 6 16 x3 _ σ_28 (by omega) ((rB_lit 16 (by decide)).i) rx3 h) (cwV 2 X.2.2.2.2 (lw_V q1242 q980 q981 q132 q982) rfl rfl rfl (by decide +kernel) ⟨Nat.le_of_ble_eq_true rfl, Nat.le_of_ble_eq_true rfl⟩) vl8_6 (by decide) rfl rfl hl.1 rfl (by first | exact Nat.le_of_ble_eq_true rfl | simp [catK, catI, catR, catL]) dX1_handAttribute_49 ⟨Nat.le_refl _, Nat.le_refl _⟩) hS (fun σ_30 H locs rkσ_30 h hWσ_30 hS => ?_)
  have h := h rkσ_30
  refine lv_pop X.1 X.2.1 dX1_handAttribute_52 rfl ?_
  refine lv_aload_n X.1 X.2.1 dX1_handAttribute_53 rfl (lv_at hl 0 rfl) ?_
  refine wg (v := .ref (wad w 8 6)) X hT hWσ_30 1 11 75 vl1_0 rfl rfl (by decide) rfl (by decide) in_X1 q1081 rfl dX1_handAttribute_54 ?_
  refine lv_lconst (v := oL 0) X.1 X.2.1 dX1_handAttribute_57 (by decide) ?_
  refine lv_iconst (v := oI 0) X.1 X.2.1 dX1_handAttribute_58 rfl ?_
  refine wr_V (rV (As := [.long (oL 0), .int (oI 0)]) (rest := []) X hT hWσ_30 hS (met_Row_close l (w := w) hV 6 0 0 _ σ_30 (by omega) (rJ_lit 0 (by decide)) rZ_0 h) (cwV 2 X.2.2.2.2 (lw_V q1243 q756 q757 q132 q758) rfl rfl rfl (by decide +kernel) ⟨Nat.le_of_ble_eq_true rfl, Nat.le_of_ble_eq_true rfl⟩) vl8_6 (by decide) rfl rfl hl.1 rfl (by first | exact Nat.le_of_ble_eq_true rfl | simp [catK, catI, catR, catL]) dX1_handAttribute_59 ⟨Nat.le_refl _, Nat.le_refl _⟩) hS (fun σ_32 H locs rkσ_32 h hWσ_32 hS => ?_)
  have h := h rkσ_32
  refine lv_aload_n X.1 X.2.1 dX1_handAttribute_62 rfl (lv_at hl 0 rfl) ?_
  refine lv_aload_n X.1 X.2.1 dX1_handAttribute_63 rfl (lv_at hl 0 rfl) ?_
  refine wg (v := .ref (wad w 10 0)) X hT hWσ_32 1 14 78 vl1_0 rfl rfl (by decide) rfl (by decide) in_X1 q1084 rfl dX1_handAttribute_64 ?_
  refine lv_iconst (v := oI 1) X.1 X.2.1 dX1_handAttribute_67 rfl ?_
  refine wr_V (rV (As := [.ref (wad w 10 0), .int (oI 1)]) (rest := []) X hT hWσ_32 hS (met_House_addInode l (w := w) hV 0 1 _ σ_32 (by omega) rZ_1 h) (cwV 2 X.2.2.2.2 (lw_V q1244 q1246 qs37 q131 q1247) rfl rfl rfl (by decide +kernel) ⟨Nat.le_of_ble_eq_true rfl, Nat.le_of_ble_eq_true rfl⟩) vl1_0 (by decide) rfl rfl hl.1 rfl (by first | exact Nat.le_of_ble_eq_true rfl | simp [catK, catI, catR, catL]) dX1_handAttribute_68 ⟨Nat.le_refl _, Nat.le_refl _⟩) hS (fun σ_34 H locs rkσ_34 h hWσ_34 hS => ?_)
  have h := h rkσ_34
  refine lv_aload_n X.1 X.2.1 dX1_handAttribute_71 rfl (lv_at hl 0 rfl) ?_
  refine wr_V (rV (As := []) (rest := []) X hT hWσ_34 hS (met_House_hand l (w := w) hV _ σ_34 h) (cwV 0 X.2.2.2.2 (lw_V q1253 q1255 qs39 q131 q1256) rfl rfl rfl (by decide +kernel) ⟨Nat.le_of_ble_eq_true rfl, Nat.le_of_ble_eq_true rfl⟩) vl1_0 (by decide) rfl rfl hl.1 rfl (by first | exact Nat.le_of_ble_eq_true rfl | simp [catK, catI, catR, catL]) dX1_handAttribute_72 ⟨Nat.le_refl _, Nat.le_refl _⟩) hS (fun σ_36 H locs rkσ_36 h hWσ_36 hS => ?_)
  have h := h rkσ_36
  exact wret_V X hr hlk hWσ_36 hS h dX1_handAttribute_75
/-! House.set(IJJ)I -/
set_option maxHeartbeats 4000000 in
set_option maxRecDepth 100000 in
theorem wk_House_set_b93 {p : Program} {l : Launch} {e : Env} {st : State} {m : MethodId} {args : Array Value} {below : List Frame} {meth : Method} {c : Code} {w : Wp} {x1 : Int} {x2 : Int} {x4 : Int} {Q : Int → St → Prop} (X : CallFix p m c cX1_set 7 st args lw_all RX1) (hr : meth.sig.returnType = (some .int)) (hlk : meth.locks = false) (hT : Tb w st) (hV : Hvl w) (rx1 : rI x1) (rx2 : rJ x2) (rx4 : rJ x4) : ∀ (y6 : Int) (σ : St) (H : Heap) (locs : List Loc) (ls : Array Slot), rI y6 → lv_has ls 7 [(0, .ref (wad w 1 0)), (2, .long (oL x2)), (4, .long (oL x4)), (6, .int (oI y6))] → Wo w σ H → va_S (wA w) st.heap H locs → wp_House_set_b93 (wc w) (wtv w) x1 x2 x4 Q y6 σ → W p l e (headSpec (ws_ yX1_set cX1_set 7 (some .int)) rm_House_set).room st m args below meth c H locs 0 0 (MQ below (QcI w Q) args st 0 0 (wA w)) (F0 m 93 ls []) := by
  have vl1_0 : vl w 1 0 := hV.hv 1 rfl ⟨by omega, by show _ < (1 : Int); omega⟩
  have vl10_0 : vl w 10 0 := hV.hv 10 rfl ⟨by omega, by show _ < (4 : Int); omega⟩
  intro y6 σ H locs ls ry6 hl hW hS h
  unfold wp_House_set_b93 at h
  refine lv_aload_n X.1 X.2.1 dX1_set_93 rfl (lv_at hl 0 rfl) ?_
  refine lv_lload_n X.1 X.2.1 dX1_set_94 rfl (lv_at hl 1 rfl) ?_
  refine lv_lload X.1 X.2.1 dX1_set_95 (lv_at hl 2 rfl) ?_
  refine lv_iconst (v := oI 0) X.1 X.2.1 dX1_set_97 rfl ?_
  refine wr_V (rV (As := [.long (oL x2), .long (oL x4), .int (oI 0)]) (rest := []) X hT hW hS (met_House_handAttribute l (w := w) hV x2 x4 0 _ σ rx2 rx4 rZ_0 h) (cwV 3 X.2.2.2.2 (lw_V q1504 q1506 qs66 q131 q1507) rfl rfl rfl (by decide +kernel) ⟨Nat.le_of_ble_eq_true rfl, Nat.le_of_ble_eq_true rfl⟩) vl1_0 (by decide) rfl rfl hl.1 rfl (by first | exact Nat.le_of_ble_eq_true rfl | simp [catK, catI, catR, catL]) dX1_set_98 ⟨Nat.le_refl _, Nat.le_refl _⟩) hS (fun σ_13 H locs rkσ_13 h hWσ_13 hS => ?_)
  have h := h rkσ_13
  refine lv_aload_n X.1 X.2.1 dX1_set_101 rfl (lv_at hl 0 rfl) ?_
  refine lv_dup X.1 X.2.1 dX1_set_102 rfl ?_
  refine wg (v := .int (oI (gI σ_13 71 0))) X hT hWσ_13 1 7 71 vl1_0 rfl rfl (by decide) rfl (by decide) in_X1 q1077 rfl dX1_set_103 ?_
  refine lv_iload X.1 X.2.1 dX1_set_106 (lv_at hl 3 rfl) ?_
  refine w_iadd X dX1_set_108 ?_
  refine wput (z := w32 ((gI σ_13 71 0) + y6)) X hT hWσ_13 hS 1 7 71 vl1_0 rfl rfl (by decide) rfl (by decide) in_X1 tyX1 tyX1_ok nmX1 q1077 rfl rfl (w32_r _) (fv0 w rfl) rfl rfl dX1_set_109 (fun H locs hN hS => ?_)
  obtain ⟨σ_14, eσ_14⟩ : ∃ x, x = sI σ_13 71 0 (w32 ((gI σ_13 71 0) + y6)) := ⟨_, rfl⟩
  have hWσ_14 : Wo w σ_14 H := eσ_14 ▸ hN
  have h := h σ_14 eσ_14
  clear hN
  refine lv_aload_n X.1 X.2.1 dX1_set_112 rfl (lv_at hl 0 rfl) ?_
  refine wg (v := .ref (wad w 10 0)) X hT hWσ_14 1 14 78 vl1_0 rfl rfl (by decide) rfl (by decide) in_X1 q1084 rfl dX1_set_113 ?_
  refine wg (v := .int (oI (gI σ_14 645 0))) X hT hWσ_14 10 5 645 vl10_0 rfl rfl (by decide) rfl (by decide) in_X3 q194 rfl dX1_set_116 ?_
  exact wret_I X hr hlk hWσ_14 hS (hWσ_14.r.i 645 0 rfl) h dX1_set_119
set_option maxHeartbeats 4000000 in
set_option maxRecDepth 100000 in
theorem wk_House_set_b75 {p : Program} {l : Launch} {e : Env} {st : State} {m : MethodId} {args : Array Value} {below : List Frame} {meth : Method} {c : Code} {w : Wp} {x1 : Int} {x2 : Int} {x4 : Int} {Q : Int → St → Prop} (X : CallFix p m c cX1_set 7 st args lw_all RX1) (hr : meth.sig.returnType = (some .int)) (hlk : meth.locks = false) (hT : Tb w st) (hV : Hvl w) (rx1 : rI x1) (rx2 : rJ x2) (rx4 : rJ x4) : ∀ (y6 : Int) (σ : St) (H : Heap) (locs : List Loc) (ls : Array Slot), rI y6 → lv_has ls 7 [(0, .ref (wad w 1 0)), (2, .long (oL x2)), (4, .long (oL x4)), (6, .int (oI y6))] → Wo w σ H → va_S (wA w) st.heap H locs → wp_House_set_b75 (wc w) (wtv w) x1 x2 x4 Q y6 σ → W p l e (headSpec (ws_ yX1_set cX1_set 7 (some .int)) rm_House_set).room st m args below meth c H locs 0 0 (MQ below (QcI w Q) args st 0 0 (wA w)) (F0 m 75 ls []) := by
  have vl1_0 : vl w 1 0 := hV.hv 1 rfl ⟨by omega, by show _ < (1 : Int); omega⟩
  have vl10_0 : vl w 10 0 := hV.hv 10 rfl ⟨by omega, by show _ < (4 : Int); omega⟩
  intro y6 σ H locs ls ry6 hl hW hS h
  unfold wp_House_set_b75 at h
  refine lv_iload X.1 X.2.1 dX1_set_75 (lv_at hl 3 rfl) ?_
  refine w_if_le (tgt := 93) X ry6 dX1_set_77 (by decide) (fun hc => ?_) (fun hc => ?_)
  · have h := h.1 hc
    exact wk_House_set_b93 X hr hlk hT hV rx1 rx2 rx4 y6 σ _ _ _ ry6 (lv_sub hl [0, 1, 2, 3] rfl) hW hS h
  · have h := h.2 hc
    refine lv_aload_n X.1 X.2.1 dX1_set_80 rfl (lv_at hl 0 rfl) ?_
    refine wg (v := .ref (wad w 10 0)) X hT hW 1 14 78 vl1_0 rfl rfl (by decide) rfl (by decide) in_X1 q1084 rfl dX1_set_81 ?_
    refine lv_dup X.1 X.2.1 dX1_set_84 rfl ?_
    refine wg (v := .int (oI (gI σ 645 0))) X hT hW 10 5 645 vl10_0 rfl rfl (by decide) rfl (by decide) in_X3 q194 rfl dX1_set_85 ?_
    refine lv_iconst (v := oI 1) X.1 X.2.1 dX1_set_88 rfl ?_
    refine w_iadd X dX1_set_89 ?_
    refine wput (z := w32 ((gI σ 645 0) + 1)) X hT hW hS 10 5 645 vl10_0 rfl rfl (by decide) rfl (by decide) in_X3 tyX3 tyX3_ok nmX3 q194 rfl rfl (w32_r _) (fv0 w rfl) rfl rfl dX1_set_90 (fun H locs hN hS => ?_)
    obtain ⟨σ_15, eσ_15⟩ : ∃ x, x = sI σ 645 0 (w32 ((gI σ 645 0) + 1)) := ⟨_, rfl⟩
    have hWσ_15 : Wo w σ_15 H := eσ_15 ▸ hN
    have h := h σ_15 eσ_15
    clear hN
    exact wk_House_set_b93 X hr hlk hT hV rx1 rx2 rx4 y6 σ_15 _ _ _ ry6 (lv_sub hl [0, 1, 2, 3] rfl) hWσ_15 hS h
set_option maxHeartbeats 4000000 in
set_option maxRecDepth 100000 in
theorem met_House_set (l : Launch) {w : Wp} (hV : Hvl w) (x1 : Int) (x2 : Int) (x4 : Int) (Q : Int → St → Prop) (σ : St) (rx1 : rI x1) (rx2 : rJ x2) (rx4 : rJ x4) (h : wp_House_set (wc w) (wtv w) x1 x2 x4 Q σ) : Met l yX1_set (ws_ yX1_set cX1_set 7 (some .int)) rm_House_set (PcW w σ [.ref (wad w 1 0), .int (oI x1), .long (oL x2), .long (oL x4)]) (QcI w Q) 0 0 (wA w) := by
  refine Met.ofW (cc := cX1_set) (maxL := 7) (ret := (some .int)) (by decide) rfl ?_
  intro p e st m args below meth c s₁ B hml hv
  obtain ⟨hargs, hW, hT⟩ := hv
  have X : CallFix p m c cX1_set 7 st _ lw_all RX1 := ⟨B.exec, B.bytes, hml, findClass_of_methodNamed B.named, fun w h => atoms_spec (ws := ws_ yX1_set cX1_set 7 (some .int)) B.pre w (List.mem_cons_of_mem _ h)⟩
  have hr := B.returns
  have hlk := B.notSynchronized
  have hS : va_S (wA w) st.heap st.heap [] := va_S.rf
  have vl1_0 : vl w 1 0 := hV.hv 1 rfl ⟨by omega, by show _ < (1 : Int); omega⟩
  have vl10_0 : vl w 10 0 := hV.hv 10 rfl ⟨by omega, by show _ < (4 : Int); omega⟩
  have hl := lv_entry ([.ref (wad w 1 0), .int (oI x1), .long (oL x2), .long (oL x4)]) (n := 7) (Nat.le_of_ble_eq_true rfl)
  have hfr := lg_entry_eq m ([.ref (wad w 1 0), .int (oI x1), .long (oL x2), .long (oL x4)]) 7
  rw [← hargs] at hfr
  rw [hfr]
  generalize (lg_sl ([.ref (wad w 1 0), .int (oI x1), .long (oL x2), .long (oL x4)]) ++ List.replicate (7 - (lg_sl ([.ref (wad w 1 0), .int (oI x1), .long (oL x2), .long (oL x4)])).length) Slot.unset).toArray = ls at hl ⊢
  have hl : lv_has ls 7 [(0, .ref (wad w 1 0)), (1, .int (oI x1)), (2, .long (oL x2)), (4, .long (oL x4))] := hl
  unfold wp_House_set at h
  refine lv_aload_n X.1 X.2.1 dX1_set_0 rfl (lv_at hl 0 rfl) ?_
  refine wg (v := .int (oI (gI σ 69 0))) X hT hW 1 5 69 vl1_0 rfl rfl (by decide) rfl (by decide) in_X1 q1075 rfl dX1_set_1 ?_
  refine w_if_ne (tgt := 10) X ((hW.r.z 69 0 rfl).i) dX1_set_4 (by decide) (fun hc => ?_) (fun hc => ?_)
  · have h := h.1 hc
    refine lv_lload_n X.1 X.2.1 dX1_set_10 rfl (lv_at hl 2 rfl) ?_
    refine wr_Z (rS (As := [.long (oL x2)]) (rest := []) X hT hW hS (met_House_isName l (w := w) x2 _ σ rx2 h) (va_cwS 1 X.2.2.2.2 (lw_S q1169 q1170 q131 q1171) rfl rfl rfl (by decide +kernel) ⟨Nat.le_of_ble_eq_true rfl, Nat.le_of_ble_eq_true rfl⟩) rfl hl.1 rfl (by first | exact Nat.le_of_ble_eq_true rfl | simp [catK, catI, catR, catL]) dX1_set_11 ⟨Nat.le_refl _, Nat.le_refl _⟩) hS (fun r_16 σ_17 H locs rr_16 rkσ_17 h hWσ_17 hS => ?_)
    have h := h rr_16 rkσ_17
    refine w_if_ne (tgt := 20) X rr_16.i dX1_set_14 (by decide) (fun hc => ?_) (fun hc => ?_)
    · have h := h.1 hc
      refine lv_aload_n X.1 X.2.1 dX1_set_20 rfl (lv_at hl 0 rfl) ?_
      refine lv_iload_n X.1 X.2.1 dX1_set_21 rfl (lv_at hl 1 rfl) ?_
      refine lv_aload_n X.1 X.2.1 dX1_set_22 rfl (lv_at hl 0 rfl) ?_
      refine wg (v := .ref (wad w 10 0)) X hT hWσ_17 1 14 78 vl1_0 rfl rfl (by decide) rfl (by decide) in_X1 q1084 rfl dX1_set_23 ?_
      refine wr_Z (rV (As := [.int (oI x1), .ref (wad w 10 0)]) (rest := []) X hT hWσ_17 hS (met_House_read l (w := w) hV x1 0 _ σ_17 rx1 (by omega) h) (cwV 2 X.2.2.2.2 (lw_V q1177 q1179 qs32 q131 q1180) rfl rfl rfl (by decide +kernel) ⟨Nat.le_of_ble_eq_true rfl, Nat.le_of_ble_eq_true rfl⟩) vl1_0 (by decide) rfl rfl hl.1 rfl (by first | exact Nat.le_of_ble_eq_true rfl | simp [catK, catI, catR, catL]) dX1_set_26 ⟨Nat.le_refl _, Nat.le_refl _⟩) hS (fun r_18 σ_19 H locs rr_18 rkσ_19 h hWσ_19 hS => ?_)
      have h := h rr_18 rkσ_19
      refine w_if_ne (tgt := 35) X rr_18.i dX1_set_29 (by decide) (fun hc => ?_) (fun hc => ?_)
      · have h := h.1 hc
        refine lv_aload_n X.1 X.2.1 dX1_set_35 rfl (lv_at hl 0 rfl) ?_
        refine lv_iload_n X.1 X.2.1 dX1_set_36 rfl (lv_at hl 1 rfl) ?_
        refine lv_lload_n X.1 X.2.1 dX1_set_37 rfl (lv_at hl 2 rfl) ?_
        refine wr_Z (rV (As := [.int (oI x1), .long (oL x2)]) (rest := []) X hT hWσ_19 hS (met_House_attributeOf l (w := w) hV x1 x2 _ σ_19 rx1 rx2 h) (cwV 2 X.2.2.2.2 (lw_V q1500 q1502 qs65 q131 q1503) rfl rfl rfl (by decide +kernel) ⟨Nat.le_of_ble_eq_true rfl, Nat.le_of_ble_eq_true rfl⟩) vl1_0 (by decide) rfl rfl hl.1 rfl (by first | exact Nat.le_of_ble_eq_true rfl | simp [catK, catI, catR, catL]) dX1_set_38 ⟨Nat.le_refl _, Nat.le_refl _⟩) hS (fun r_20 σ_21 H locs rr_20 rkσ_21 h hWσ_21 hS => ?_)
        have h := h rr_20 rkσ_21
        refine w_cut (pc2 := 51) (st2 := [.int (oI (if r_20 = 0 then (240 : Int) else (0 : Int)))]) (fun hj => ?_) ?_
        · refine w_if_eq (tgt := 48) X rr_20.i dX1_set_41 (by decide) (fun hc => ?_) (fun hc => ?_)
          · refine lv_sipush (v := oI 240) X.1 X.2.1 dX1_set_48 (by decide) ?_
            rw [if_pos hc] at hj; exact hj
          · refine lv_iconst (v := oI 0) X.1 X.2.1 dX1_set_44 rfl ?_
            refine lv_goto (tgt := 51) X.1 X.2.1 dX1_set_45 (by decide) ?_
            rw [if_neg hc] at hj; exact hj
        refine w_top (fun y6_22 ey6_22 => ?_)
        have h := h y6_22 ey6_22
        have ry6_22 : rI y6_22 := by rw [ey6_22]; exact (ite_rI (rI_lit 240 (by decide)) rZ_0.i)
        refine lv_istore (i := 6) (lv' := [(6, .int (oI y6_22)), (0, .ref (wad w 1 0)), (1, .int (oI x1)), (2, .long (oL x2)), (4, .long (oL x4))]) X.1 X.2.1 dX1_set_51 hl (by decide) (by first | rfl | simp [catK, catI, catR, catL]) (fun ls hl => ?_)
        refine lv_iload X.1 X.2.1 dX1_set_53 (lv_at hl 0 rfl) ?_
        refine w_if_le (tgt := 75) X ry6_22 dX1_set_55 (by decide) (fun hc => ?_) (fun hc => ?_)
        · have h := h.1 hc
          exact wk_House_set_b75 X hr hlk hT hV rx1 rx2 rx4 y6_22 σ_21 _ _ _ ry6_22 (lv_sub hl [1, 3, 4, 0] rfl) hWσ_21 hS h
        · have h := h.2 hc
          refine lv_aload_n X.1 X.2.1 dX1_set_58 rfl (lv_at hl 1 rfl) ?_
          refine wg (v := .int (oI (gI σ_21 71 0))) X hT hWσ_21 1 7 71 vl1_0 rfl rfl (by decide) rfl (by decide) in_X1 q1077 rfl dX1_set_59 ?_
          refine lv_iload X.1 X.2.1 dX1_set_62 (lv_at hl 0 rfl) ?_
          refine w_iadd X dX1_set_64 ?_
          refine lv_aload_n X.1 X.2.1 dX1_set_65 rfl (lv_at hl 1 rfl) ?_
          refine wg (v := .int (oI (cap (wc w)))) X hT hWσ_21 1 4 68 vl1_0 rfl rfl (by decide) rfl (by decide) in_X1 q1074 rfl dX1_set_66 ?_
          refine w_icmp_le (tgt := 75) X (w32_r _) (cin_r hT.c 68) dX1_set_69 (by decide) (fun hc => ?_) (fun hc => ?_)
          · have h := h.1 hc
            exact wk_House_set_b75 X hr hlk hT hV rx1 rx2 rx4 y6_22 σ_21 _ _ _ ry6_22 (lv_sub hl [1, 3, 4, 0] rfl) hWσ_21 hS h
          · have h := h.2 hc
            refine lv_bipush (v := oI (-10)) X.1 X.2.1 dX1_set_72 (by decide) ?_
            exact wret_I X hr hlk hWσ_21 hS ((rB_lit (-10) (by decide)).i) h dX1_set_74
      · have h := h.2 hc
        refine lv_bipush (v := oI (-4)) X.1 X.2.1 dX1_set_32 (by decide) ?_
        exact wret_I X hr hlk hWσ_19 hS ((rB_lit (-4) (by decide)).i) h dX1_set_34
    · have h := h.2 hc
      refine lv_bipush (v := oI (-3)) X.1 X.2.1 dX1_set_17 (by decide) ?_
      exact wret_I X hr hlk hWσ_17 hS ((rB_lit (-3) (by decide)).i) h dX1_set_19
  · have h := h.2 hc
    refine lv_bipush (v := oI (-2)) X.1 X.2.1 dX1_set_7 (by decide) ?_
    exact wret_I X hr hlk hW hS ((rB_lit (-2) (by decide)).i) h dX1_set_9
/-! House.drop(IJ)I -/
set_option maxHeartbeats 4000000 in
set_option maxRecDepth 100000 in
theorem met_House_drop (l : Launch) {w : Wp} (hV : Hvl w) (x1 : Int) (x2 : Int) (Q : Int → St → Prop) (σ : St) (rx1 : rI x1) (rx2 : rJ x2) (h : wp_House_drop (wc w) (wtv w) x1 x2 Q σ) : Met l yX1_drop (ws_ yX1_drop cX1_drop 4 (some .int)) rm_House_drop (PcW w σ [.ref (wad w 1 0), .int (oI x1), .long (oL x2)]) (QcI w Q) 0 0 (wA w) := by
  refine Met.ofW (cc := cX1_drop) (maxL := 4) (ret := (some .int)) (by decide) rfl ?_
  intro p e st m args below meth c s₁ B hml hv
  obtain ⟨hargs, hW, hT⟩ := hv
  have X : CallFix p m c cX1_drop 4 st _ lw_all RX1 := ⟨B.exec, B.bytes, hml, findClass_of_methodNamed B.named, fun w h => atoms_spec (ws := ws_ yX1_drop cX1_drop 4 (some .int)) B.pre w (List.mem_cons_of_mem _ h)⟩
  have hr := B.returns
  have hlk := B.notSynchronized
  have hS : va_S (wA w) st.heap st.heap [] := va_S.rf
  have vl1_0 : vl w 1 0 := hV.hv 1 rfl ⟨by omega, by show _ < (1 : Int); omega⟩
  have vl10_0 : vl w 10 0 := hV.hv 10 rfl ⟨by omega, by show _ < (4 : Int); omega⟩
  have hl := lv_entry ([.ref (wad w 1 0), .int (oI x1), .long (oL x2)]) (n := 4) (Nat.le_of_ble_eq_true rfl)
  have hfr := lg_entry_eq m ([.ref (wad w 1 0), .int (oI x1), .long (oL x2)]) 4
  rw [← hargs] at hfr
  rw [hfr]
  generalize (lg_sl ([.ref (wad w 1 0), .int (oI x1), .long (oL x2)]) ++ List.replicate (4 - (lg_sl ([.ref (wad w 1 0), .int (oI x1), .long (oL x2)])).length) Slot.unset).toArray = ls at hl ⊢
  have hl : lv_has ls 4 [(0, .ref (wad w 1 0)), (1, .int (oI x1)), (2, .long (oL x2))] := hl
  unfold wp_House_drop at h
  refine lv_aload_n X.1 X.2.1 dX1_drop_0 rfl (lv_at hl 0 rfl) ?_
  refine wg (v := .int (oI (gI σ 69 0))) X hT hW 1 5 69 vl1_0 rfl rfl (by decide) rfl (by decide) in_X1 q1075 rfl dX1_drop_1 ?_
  refine w_if_ne (tgt := 10) X ((hW.r.z 69 0 rfl).i) dX1_drop_4 (by decide) (fun hc => ?_) (fun hc => ?_)
  · have h := h.1 hc
    refine lv_lload_n X.1 X.2.1 dX1_drop_10 rfl (lv_at hl 2 rfl) ?_
    refine wr_Z (rS (As := [.long (oL x2)]) (rest := []) X hT hW hS (met_House_isName l (w := w) x2 _ σ rx2 h) (va_cwS 1 X.2.2.2.2 (lw_S q1169 q1170 q131 q1171) rfl rfl rfl (by decide +kernel) ⟨Nat.le_of_ble_eq_true rfl, Nat.le_of_ble_eq_true rfl⟩) rfl hl.1 rfl (by first | exact Nat.le_of_ble_eq_true rfl | simp [catK, catI, catR, catL]) dX1_drop_11 ⟨Nat.le_refl _, Nat.le_refl _⟩) hS (fun r_11 σ_12 H locs rr_11 rkσ_12 h hWσ_12 hS => ?_)
    have h := h rr_11 rkσ_12
    refine w_if_ne (tgt := 20) X rr_11.i dX1_drop_14 (by decide) (fun hc => ?_) (fun hc => ?_)
    · have h := h.1 hc
      refine lv_aload_n X.1 X.2.1 dX1_drop_20 rfl (lv_at hl 0 rfl) ?_
      refine lv_iload_n X.1 X.2.1 dX1_drop_21 rfl (lv_at hl 1 rfl) ?_
      refine lv_aload_n X.1 X.2.1 dX1_drop_22 rfl (lv_at hl 0 rfl) ?_
      refine wg (v := .ref (wad w 10 0)) X hT hWσ_12 1 14 78 vl1_0 rfl rfl (by decide) rfl (by decide) in_X1 q1084 rfl dX1_drop_23 ?_
      refine wr_Z (rV (As := [.int (oI x1), .ref (wad w 10 0)]) (rest := []) X hT hWσ_12 hS (met_House_read l (w := w) hV x1 0 _ σ_12 rx1 (by omega) h) (cwV 2 X.2.2.2.2 (lw_V q1177 q1179 qs32 q131 q1180) rfl rfl rfl (by decide +kernel) ⟨Nat.le_of_ble_eq_true rfl, Nat.le_of_ble_eq_true rfl⟩) vl1_0 (by decide) rfl rfl hl.1 rfl (by first | exact Nat.le_of_ble_eq_true rfl | simp [catK, catI, catR, catL]) dX1_drop_26 ⟨Nat.le_refl _, Nat.le_refl _⟩) hS (fun r_13 σ_14 H locs rr_13 rkσ_14 h hWσ_14 hS => ?_)
      have h := h rr_13 rkσ_14
      refine w_if_eq (tgt := 41) X rr_13.i dX1_drop_29 (by decide) (fun hc => ?_) (fun hc => ?_)
      · have h := h.1 hc
        refine lv_bipush (v := oI (-4)) X.1 X.2.1 dX1_drop_41 (by decide) ?_
        exact wret_I X hr hlk hWσ_14 hS ((rB_lit (-4) (by decide)).i) h dX1_drop_43
      · have h := h.2 hc
        refine lv_aload_n X.1 X.2.1 dX1_drop_32 rfl (lv_at hl 0 rfl) ?_
        refine lv_iload_n X.1 X.2.1 dX1_drop_33 rfl (lv_at hl 1 rfl) ?_
        refine lv_lload_n X.1 X.2.1 dX1_drop_34 rfl (lv_at hl 2 rfl) ?_
        refine wr_Z (rV (As := [.int (oI x1), .long (oL x2)]) (rest := []) X hT hWσ_14 hS (met_House_attributeOf l (w := w) hV x1 x2 _ σ_14 rx1 rx2 h) (cwV 2 X.2.2.2.2 (lw_V q1500 q1502 qs65 q131 q1503) rfl rfl rfl (by decide +kernel) ⟨Nat.le_of_ble_eq_true rfl, Nat.le_of_ble_eq_true rfl⟩) vl1_0 (by decide) rfl rfl hl.1 rfl (by first | exact Nat.le_of_ble_eq_true rfl | simp [catK, catI, catR, catL]) dX1_drop_35 ⟨Nat.le_refl _, Nat.le_refl _⟩) hS (fun r_15 σ_16 H locs rr_15 rkσ_16 h hWσ_16 hS => ?_)
        have h := h rr_15 rkσ_16
        refine w_if_ne (tgt := 44) X rr_15.i dX1_drop_38 (by decide) (fun hc => ?_) (fun hc => ?_)
        · have h := h.1 hc
          refine lv_aload_n X.1 X.2.1 dX1_drop_44 rfl (lv_at hl 0 rfl) ?_
          refine wg (v := .ref (wad w 10 0)) X hT hWσ_16 1 14 78 vl1_0 rfl rfl (by decide) rfl (by decide) in_X1 q1084 rfl dX1_drop_45 ?_
          refine lv_dup X.1 X.2.1 dX1_drop_48 rfl ?_
          refine wg (v := .int (oI (gI σ_16 645 0))) X hT hWσ_16 10 5 645 vl10_0 rfl rfl (by decide) rfl (by decide) in_X3 q194 rfl dX1_drop_49 ?_
          refine lv_iconst (v := oI 1) X.1 X.2.1 dX1_drop_52 rfl ?_
          refine w_isub X dX1_drop_53 ?_
          refine wput (z := w32 ((gI σ_16 645 0) - 1)) X hT hWσ_16 hS 10 5 645 vl10_0 rfl rfl (by decide) rfl (by decide) in_X3 tyX3 tyX3_ok nmX3 q194 rfl rfl (w32_r _) (fv0 w rfl) rfl rfl dX1_drop_54 (fun H locs hN hS => ?_)
          obtain ⟨σ_17, eσ_17⟩ : ∃ x, x = sI σ_16 645 0 (w32 ((gI σ_16 645 0) - 1)) := ⟨_, rfl⟩
          have hWσ_17 : Wo w σ_17 H := eσ_17 ▸ hN
          have h := h σ_17 eσ_17
          clear hN
          refine lv_aload_n X.1 X.2.1 dX1_drop_57 rfl (lv_at hl 0 rfl) ?_
          refine lv_lload_n X.1 X.2.1 dX1_drop_58 rfl (lv_at hl 2 rfl) ?_
          refine lv_lconst (v := oL 0) X.1 X.2.1 dX1_drop_59 (by decide) ?_
          refine lv_iconst (v := oI 1) X.1 X.2.1 dX1_drop_60 rfl ?_
          refine wr_V (rV (As := [.long (oL x2), .long (oL 0), .int (oI 1)]) (rest := []) X hT hWσ_17 hS (met_House_handAttribute l (w := w) hV x2 0 1 _ σ_17 rx2 (rJ_lit 0 (by decide)) rZ_1 h) (cwV 3 X.2.2.2.2 (lw_V q1504 q1506 qs66 q131 q1507) rfl rfl rfl (by decide +kernel) ⟨Nat.le_of_ble_eq_true rfl, Nat.le_of_ble_eq_true rfl⟩) vl1_0 (by decide) rfl rfl hl.1 rfl (by first | exact Nat.le_of_ble_eq_true rfl | simp [catK, catI, catR, catL]) dX1_drop_61 ⟨Nat.le_refl _, Nat.le_refl _⟩) hS (fun σ_19 H locs rkσ_19 h hWσ_19 hS => ?_)
          have h := h rkσ_19
          refine lv_aload_n X.1 X.2.1 dX1_drop_64 rfl (lv_at hl 0 rfl) ?_
          refine lv_dup X.1 X.2.1 dX1_drop_65 rfl ?_
          refine wg (v := .int (oI (gI σ_19 71 0))) X hT hWσ_19 1 7 71 vl1_0 rfl rfl (by decide) rfl (by decide) in_X1 q1077 rfl dX1_drop_66 ?_
          refine lv_sipush (v := oI 240) X.1 X.2.1 dX1_drop_69 (by decide) ?_
          refine w_isub X dX1_drop_72 ?_
          refine wput (z := w32 ((gI σ_19 71 0) - 240)) X hT hWσ_19 hS 1 7 71 vl1_0 rfl rfl (by decide) rfl (by decide) in_X1 tyX1 tyX1_ok nmX1 q1077 rfl rfl (w32_r _) (fv0 w rfl) rfl rfl dX1_drop_73 (fun H locs hN hS => ?_)
          obtain ⟨σ_20, eσ_20⟩ : ∃ x, x = sI σ_19 71 0 (w32 ((gI σ_19 71 0) - 240)) := ⟨_, rfl⟩
          have hWσ_20 : Wo w σ_20 H := eσ_20 ▸ hN
          have h := h σ_20 eσ_20
          clear hN
          refine lv_aload_n X.1 X.2.1 dX1_drop_76 rfl (lv_at hl 0 rfl) ?_
          refine wg (v := .ref (wad w 10 0)) X hT hWσ_20 1 14 78 vl1_0 rfl rfl (by decide) rfl (by decide) in_X1 q1084 rfl dX1_drop_77 ?_
          refine wg (v := .int (oI (gI σ_20 645 0))) X hT hWσ_20 10 5 645 vl10_0 rfl rfl (by decide) rfl (by decide) in_X3 q194 rfl dX1_drop_80 ?_
          exact wret_I X hr hlk hWσ_20 hS (hWσ_20.r.i 645 0 rfl) h dX1_drop_83
        · have h := h.2 hc
          refine lv_bipush (v := oI (-4)) X.1 X.2.1 dX1_drop_41 (by decide) ?_
          exact wret_I X hr hlk hWσ_16 hS ((rB_lit (-4) (by decide)).i) h dX1_drop_43
    · have h := h.2 hc
      refine lv_bipush (v := oI (-3)) X.1 X.2.1 dX1_drop_17 (by decide) ?_
      exact wret_I X hr hlk hWσ_12 hS ((rB_lit (-3) (by decide)).i) h dX1_drop_19
  · have h := h.2 hc
    refine lv_bipush (v := oI (-2)) X.1 X.2.1 dX1_drop_7 (by decide) ?_
    exact wret_I X hr hlk hW hS ((rB_lit (-2) (by decide)).i) h dX1_drop_9
/-! House.attribute(IJ)J -/
set_option maxHeartbeats 4000000 in
set_option maxRecDepth 100000 in
theorem met_House_attribute (l : Launch) {w : Wp} (hV : Hvl w) (x1 : Int) (x2 : Int) (Q : Int → St → Prop) (σ : St) (rx1 : rI x1) (rx2 : rJ x2) (h : wp_House_attribute (wc w) (wtv w) x1 x2 Q σ) : Met l yX1_attribute (ws_ yX1_attribute cX1_attribute 4 (some .long)) rm_House_attribute (PcW w σ [.ref (wad w 1 0), .int (oI x1), .long (oL x2)]) (QcJ w Q) 0 0 (wA w) := by
  refine Met.ofW (cc := cX1_attribute) (maxL := 4) (ret := (some .long)) (by decide) rfl ?_
  intro p e st m args below meth c s₁ B hml hv
  obtain ⟨hargs, hW, hT⟩ := hv
  have X : CallFix p m c cX1_attribute 4 st _ lw_all RX1 := ⟨B.exec, B.bytes, hml, findClass_of_methodNamed B.named, fun w h => atoms_spec (ws := ws_ yX1_attribute cX1_attribute 4 (some .long)) B.pre w (List.mem_cons_of_mem _ h)⟩
  have hr := B.returns
  have hlk := B.notSynchronized
  have hS : va_S (wA w) st.heap st.heap [] := va_S.rf
  have vl1_0 : vl w 1 0 := hV.hv 1 rfl ⟨by omega, by show _ < (1 : Int); omega⟩
  have vl3_0 : vl w 3 0 := hV.hv 3 rfl ⟨by omega, by show _ < (2 : Int); omega⟩
  have vl8_0 : vl w 8 0 := hV.hv 8 rfl ⟨by omega, by show _ < (8 : Int); omega⟩
  have hl := lv_entry ([.ref (wad w 1 0), .int (oI x1), .long (oL x2)]) (n := 4) (Nat.le_of_ble_eq_true rfl)
  have hfr := lg_entry_eq m ([.ref (wad w 1 0), .int (oI x1), .long (oL x2)]) 4
  rw [← hargs] at hfr
  rw [hfr]
  generalize (lg_sl ([.ref (wad w 1 0), .int (oI x1), .long (oL x2)]) ++ List.replicate (4 - (lg_sl ([.ref (wad w 1 0), .int (oI x1), .long (oL x2)])).length) Slot.unset).toArray = ls at hl ⊢
  have hl : lv_has ls 4 [(0, .ref (wad w 1 0)), (1, .int (oI x1)), (2, .long (oL x2))] := hl
  unfold wp_House_attribute at h
  refine lv_aload_n X.1 X.2.1 dX1_attribute_0 rfl (lv_at hl 0 rfl) ?_
  refine wg (v := .int (oI (gI σ 69 0))) X hT hW 1 5 69 vl1_0 rfl rfl (by decide) rfl (by decide) in_X1 q1075 rfl dX1_attribute_1 ?_
  refine w_if_eq (tgt := 38) X ((hW.r.z 69 0 rfl).i) dX1_attribute_4 (by decide) (fun hc => ?_) (fun hc => ?_)
  · have h := h.1 hc
    refine lv_lconst (v := oL 0) X.1 X.2.1 dX1_attribute_38 (by decide) ?_
    exact wret_J X hr hlk hW hS (rJ_lit 0 (by decide)) h dX1_attribute_39
  · have h := h.2 hc
    refine lv_lload_n X.1 X.2.1 dX1_attribute_7 rfl (lv_at hl 2 rfl) ?_
    refine wr_Z (rS (As := [.long (oL x2)]) (rest := []) X hT hW hS (met_House_isName l (w := w) x2 _ σ rx2 h) (va_cwS 1 X.2.2.2.2 (lw_S q1169 q1170 q131 q1171) rfl rfl rfl (by decide +kernel) ⟨Nat.le_of_ble_eq_true rfl, Nat.le_of_ble_eq_true rfl⟩) rfl hl.1 rfl (by first | exact Nat.le_of_ble_eq_true rfl | simp [catK, catI, catR, catL]) dX1_attribute_8 ⟨Nat.le_refl _, Nat.le_refl _⟩) hS (fun r_7 σ_8 H locs rr_7 rkσ_8 h hWσ_8 hS => ?_)
    have h := h rr_7 rkσ_8
    refine w_if_eq (tgt := 38) X rr_7.i dX1_attribute_11 (by decide) (fun hc => ?_) (fun hc => ?_)
    · have h := h.1 hc
      refine lv_lconst (v := oL 0) X.1 X.2.1 dX1_attribute_38 (by decide) ?_
      exact wret_J X hr hlk hWσ_8 hS (rJ_lit 0 (by decide)) h dX1_attribute_39
    · have h := h.2 hc
      refine lv_aload_n X.1 X.2.1 dX1_attribute_14 rfl (lv_at hl 0 rfl) ?_
      refine lv_iload_n X.1 X.2.1 dX1_attribute_15 rfl (lv_at hl 1 rfl) ?_
      refine lv_lload_n X.1 X.2.1 dX1_attribute_16 rfl (lv_at hl 2 rfl) ?_
      refine wr_Z (rV (As := [.int (oI x1), .long (oL x2)]) (rest := []) X hT hWσ_8 hS (met_House_attributeOf l (w := w) hV x1 x2 _ σ_8 rx1 rx2 h) (cwV 2 X.2.2.2.2 (lw_V q1500 q1502 qs65 q131 q1503) rfl rfl rfl (by decide +kernel) ⟨Nat.le_of_ble_eq_true rfl, Nat.le_of_ble_eq_true rfl⟩) vl1_0 (by decide) rfl rfl hl.1 rfl (by first | exact Nat.le_of_ble_eq_true rfl | simp [catK, catI, catR, catL]) dX1_attribute_17 ⟨Nat.le_refl _, Nat.le_refl _⟩) hS (fun r_9 σ_10 H locs rr_9 rkσ_10 h hWσ_10 hS => ?_)
      have h := h rr_9 rkσ_10
      refine w_if_eq (tgt := 38) X rr_9.i dX1_attribute_20 (by decide) (fun hc => ?_) (fun hc => ?_)
      · have h := h.1 hc
        refine lv_lconst (v := oL 0) X.1 X.2.1 dX1_attribute_38 (by decide) ?_
        exact wret_J X hr hlk hWσ_10 hS (rJ_lit 0 (by decide)) h dX1_attribute_39
      · have h := h.2 hc
        refine lv_aload_n X.1 X.2.1 dX1_attribute_23 rfl (lv_at hl 0 rfl) ?_
        refine wg (v := .ref (wad w 3 0)) X hT hWσ_10 1 1 65 vl1_0 rfl rfl (by decide) rfl (by decide) in_X1 q1071 rfl dX1_attribute_24 ?_
        refine wg (v := .ref (wad w 8 0)) X hT hWσ_10 3 6 198 vl3_0 rfl rfl (by decide) rfl (by decide) in_X5 q532 rfl dX1_attribute_27 ?_
        refine lv_bipush (v := oI 16) X.1 X.2.1 dX1_attribute_30 (by decide) ?_
        refine wr_J (rV (As := [.int (oI 16)]) (rest := []) X hT hWσ_10 hS (met_Row_getLongAt l (w := w) hV 0 16 _ σ_10 (by omega) ((rB_lit 16 (by decide)).i) h) (cwV 1 X.2.2.2.2 (lw_V q1218 q1219 q1220 q132 q1221) rfl rfl rfl (by decide +kernel) ⟨Nat.le_of_ble_eq_true rfl, Nat.le_of_ble_eq_true rfl⟩) vl8_0 (by decide) rfl rfl hl.1 rfl (by first | exact Nat.le_of_ble_eq_true rfl | simp [catK, catI, catR, catL]) dX1_attribute_32 ⟨Nat.le_refl _, Nat.le_refl _⟩) hS (fun r_11 σ_12 H locs rr_11 rkσ_12 h hWσ_12 hS => ?_)
        have h := h rr_11 rkσ_12
        refine lv_goto (tgt := 39) X.1 X.2.1 dX1_attribute_35 (by decide) ?_
        exact wret_J X hr hlk hWσ_12 hS rr_11 h dX1_attribute_39
/-! House.attributes(I)I -/
set_option maxHeartbeats 4000000 in
set_option maxRecDepth 100000 in
theorem met_House_attributes (l : Launch) {w : Wp} (hV : Hvl w) (x1 : Int) (Q : Int → St → Prop) (σ : St) (rx1 : rI x1) (h : wp_House_attributes (wc w) (wtv w) x1 Q σ) : Met l yX1_attributes (ws_ yX1_attributes cX1_attributes 2 (some .int)) rm_House_attributes (PcW w σ [.ref (wad w 1 0), .int (oI x1)]) (QcI w Q) 0 0 (wA w) := by
  refine Met.ofW (cc := cX1_attributes) (maxL := 2) (ret := (some .int)) (by decide) rfl ?_
  intro p e st m args below meth c s₁ B hml hv
  obtain ⟨hargs, hW, hT⟩ := hv
  have X : CallFix p m c cX1_attributes 2 st _ lw_all RX1 := ⟨B.exec, B.bytes, hml, findClass_of_methodNamed B.named, fun w h => atoms_spec (ws := ws_ yX1_attributes cX1_attributes 2 (some .int)) B.pre w (List.mem_cons_of_mem _ h)⟩
  have hr := B.returns
  have hlk := B.notSynchronized
  have hS : va_S (wA w) st.heap st.heap [] := va_S.rf
  have vl1_0 : vl w 1 0 := hV.hv 1 rfl ⟨by omega, by show _ < (1 : Int); omega⟩
  have vl10_0 : vl w 10 0 := hV.hv 10 rfl ⟨by omega, by show _ < (4 : Int); omega⟩
  have hl := lv_entry ([.ref (wad w 1 0), .int (oI x1)]) (n := 2) (Nat.le_of_ble_eq_true rfl)
  have hfr := lg_entry_eq m ([.ref (wad w 1 0), .int (oI x1)]) 2
  rw [← hargs] at hfr
  rw [hfr]
  generalize (lg_sl ([.ref (wad w 1 0), .int (oI x1)]) ++ List.replicate (2 - (lg_sl ([.ref (wad w 1 0), .int (oI x1)])).length) Slot.unset).toArray = ls at hl ⊢
  have hl : lv_has ls 2 [(0, .ref (wad w 1 0)), (1, .int (oI x1))] := hl
  unfold wp_House_attributes at h
  refine lv_aload_n X.1 X.2.1 dX1_attributes_0 rfl (lv_at hl 0 rfl) ?_
  refine wg (v := .int (oI (gI σ 69 0))) X hT hW 1 5 69 vl1_0 rfl rfl (by decide) rfl (by decide) in_X1 q1075 rfl dX1_attributes_1 ?_
  refine w_if_ne (tgt := 12) X ((hW.r.z 69 0 rfl).i) dX1_attributes_4 (by decide) (fun hc => ?_) (fun hc => ?_)
  · have h := h.1 hc
    refine lv_aload_n X.1 X.2.1 dX1_attributes_12 rfl (lv_at hl 0 rfl) ?_
    refine lv_iload_n X.1 X.2.1 dX1_attributes_13 rfl (lv_at hl 1 rfl) ?_
    refine lv_aload_n X.1 X.2.1 dX1_attributes_14 rfl (lv_at hl 0 rfl) ?_
    refine wg (v := .ref (wad w 10 0)) X hT hW 1 14 78 vl1_0 rfl rfl (by decide) rfl (by decide) in_X1 q1084 rfl dX1_attributes_15 ?_
    refine wr_Z (rV (As := [.int (oI x1), .ref (wad w 10 0)]) (rest := []) X hT hW hS (met_House_read l (w := w) hV x1 0 _ σ rx1 (by omega) h) (cwV 2 X.2.2.2.2 (lw_V q1177 q1179 qs32 q131 q1180) rfl rfl rfl (by decide +kernel) ⟨Nat.le_of_ble_eq_true rfl, Nat.le_of_ble_eq_true rfl⟩) vl1_0 (by decide) rfl rfl hl.1 rfl (by first | exact Nat.le_of_ble_eq_true rfl | simp [catK, catI, catR, catL]) dX1_attributes_18 ⟨Nat.le_refl _, Nat.le_refl _⟩) hS (fun r_3 σ_4 H locs rr_3 rkσ_4 h hWσ_4 hS => ?_)
    have h := h rr_3 rkσ_4
    refine w_if_eq (tgt := 34) X rr_3.i dX1_attributes_21 (by decide) (fun hc => ?_) (fun hc => ?_)
    · have h := h.1 hc
      refine lv_bipush (v := oI (-4)) X.1 X.2.1 dX1_attributes_34 (by decide) ?_
      exact wret_I X hr hlk hWσ_4 hS ((rB_lit (-4) (by decide)).i) h dX1_attributes_36
    · have h := h.2 hc
      refine lv_aload_n X.1 X.2.1 dX1_attributes_24 rfl (lv_at hl 0 rfl) ?_
      refine wg (v := .ref (wad w 10 0)) X hT hWσ_4 1 14 78 vl1_0 rfl rfl (by decide) rfl (by decide) in_X1 q1084 rfl dX1_attributes_25 ?_
      refine wg (v := .int (oI (gI σ_4 645 0))) X hT hWσ_4 10 5 645 vl10_0 rfl rfl (by decide) rfl (by decide) in_X3 q194 rfl dX1_attributes_28 ?_
      refine lv_goto (tgt := 36) X.1 X.2.1 dX1_attributes_31 (by decide) ?_
      exact wret_I X hr hlk hWσ_4 hS (hWσ_4.r.i 645 0 rfl) h dX1_attributes_36
  · have h := h.2 hc
    refine lv_bipush (v := oI (-2)) X.1 X.2.1 dX1_attributes_7 (by decide) ?_
    refine lv_goto (tgt := 36) X.1 X.2.1 dX1_attributes_9 (by decide) ?_
    exact wret_I X hr hlk hW hS ((rB_lit (-2) (by decide)).i) h dX1_attributes_36
/-! House.key(II)J -/
set_option maxHeartbeats 4000000 in
set_option maxRecDepth 100000 in
theorem wk_House_key_b83 {p : Program} {l : Launch} {e : Env} {st : State} {m : MethodId} {args : Array Value} {below : List Frame} {meth : Method} {c : Code} {w : Wp} {x1 : Int} {x2 : Int} {Q : Int → St → Prop} (X : CallFix p m c cX1_key 5 st args lw_all RX1) (hr : meth.sig.returnType = (some .long)) (hlk : meth.locks = false) (hT : Tb w st) (hV : Hvl w) (rx1 : rI x1) (rx2 : rI x2) : ∀ (σ : St) (H : Heap) (locs : List Loc) (ls : Array Slot), lv_has ls 5 [(0, .ref (wad w 1 0))] → Wo w σ H → va_S (wA w) st.heap H locs → wp_House_key_b83 (wc w) (wtv w) x1 x2 Q σ → W p l e (headSpec (ws_ yX1_key cX1_key 5 (some .long)) rm_House_key).room st m args below meth c H locs 0 0 (MQ below (QcJ w Q) args st 0 0 (wA w)) (F0 m 83 ls []) := by
  have vl1_0 : vl w 1 0 := hV.hv 1 rfl ⟨by omega, by show _ < (1 : Int); omega⟩
  have vl3_0 : vl w 3 0 := hV.hv 3 rfl ⟨by omega, by show _ < (2 : Int); omega⟩
  have vl6_0 : vl w 6 0 := hV.hv 6 rfl ⟨by omega, by show _ < (2 : Int); omega⟩
  intro σ H locs ls hl hW hS h
  unfold wp_House_key_b83 at h
  refine lv_aload_n X.1 X.2.1 dX1_key_83 rfl (lv_at hl 0 rfl) ?_
  refine wg (v := .ref (wad w 3 0)) X hT hW 1 1 65 vl1_0 rfl rfl (by decide) rfl (by decide) in_X1 q1071 rfl dX1_key_84 ?_
  refine wg (v := .ref (wad w 6 0)) X hT hW 3 2 194 vl3_0 rfl rfl (by decide) rfl (by decide) in_X5 q527 rfl dX1_key_87 ?_
  refine wg (v := .long (oL (gI σ 392 0))) X hT hW 6 8 392 vl6_0 rfl rfl (by decide) rfl (by decide) in_X8 q457 rfl dX1_key_90 ?_
  refine wr_J (rS (As := [.long (oL (gI σ 392 0))]) (rest := []) X hT hW hS (met_Long_reverseBytes l (w := w) (gI σ 392 0) _ σ (hW.r.j 392 0 rfl) h) (va_cwS 1 X.2.2.2.2 (lw_S q1449 q1324 q148 q1325) rfl rfl rfl (by decide +kernel) ⟨Nat.le_of_ble_eq_true rfl, Nat.le_of_ble_eq_true rfl⟩) rfl hl.1 rfl (by first | exact Nat.le_of_ble_eq_true rfl | simp [catK, catI, catR, catL]) dX1_key_93 ⟨Nat.le_refl _, Nat.le_refl _⟩) hS (fun r_23 σ_24 H locs rr_23 rkσ_24 h hWσ_24 hS => ?_)
  have h := h rr_23 rkσ_24
  exact wret_J X hr hlk hWσ_24 hS rr_23 h dX1_key_96
set_option maxHeartbeats 4000000 in
set_option maxRecDepth 100000 in
theorem wk_House_key_L56B {p : Program} {l : Launch} {e : Env} {st : State} {m : MethodId} {args : Array Value} {below : List Frame} {meth : Method} {c : Code} {w : Wp} {x1 : Int} {x2 : Int} {Q : Int → St → Prop} (X : CallFix p m c cX1_key 5 st args lw_all RX1) (hr : meth.sig.returnType = (some .long)) (hlk : meth.locks = false) (hT : Tb w st) (hV : Hvl w) (rx1 : rI x1) (rx2 : rI x2) (K56 : Int → Int → St → Prop) (hK56 : ∀ (y3 y4 : Int) (σ : St) (H : Heap) (locs : List Loc) (ls : Array Slot), rZ y3 → rI y4 → lv_has ls 5 [(0, .ref (wad w 1 0)), (2, .int (oI x2)), (3, .int (oI y3)), (4, .int (oI y4))] → Wo w σ H → va_S (wA w) st.heap H locs → K56 y3 y4 σ → W p l e (headSpec (ws_ yX1_key cX1_key 5 (some .long)) rm_House_key).room st m args below meth c H locs 0 0 (MQ below (QcJ w Q) args st 0 0 (wA w)) (F0 m 56 ls [])) : ∀ (y3 y4 : Int) (σ : St) (H : Heap) (locs : List Loc) (ls : Array Slot), rZ y3 → rI y4 → lv_has ls 5 [(0, .ref (wad w 1 0)), (2, .int (oI x2)), (3, .int (oI y3)), (4, .int (oI y4))] → Wo w σ H → va_S (wA w) st.heap H locs → wp_House_key_L56 (wc w) (wtv w) x1 x2 Q K56 y3 y4 σ → W p l e (headSpec (ws_ yX1_key cX1_key 5 (some .long)) rm_House_key).room st m args below meth c H locs 0 0 (MQ below (QcJ w Q) args st 0 0 (wA w)) (F0 m 56 ls []) := by
  have vl1_0 : vl w 1 0 := hV.hv 1 rfl ⟨by omega, by show _ < (1 : Int); omega⟩
  have vl3_0 : vl w 3 0 := hV.hv 3 rfl ⟨by omega, by show _ < (2 : Int); omega⟩
  have vl6_0 : vl w 6 0 := hV.hv 6 rfl ⟨by omega, by show _ < (2 : Int); omega⟩
  intro y3 y4 σ H locs ls ry3 ry4 hl hW hS h
  unfold wp_House_key_L56 at h
  refine lv_iload X.1 X.2.1 dX1_key_56 (lv_at hl 3 rfl) ?_
  refine lv_iload_n X.1 X.2.1 dX1_key_58 rfl (lv_at hl 1 rfl) ?_
  refine w_icmp_ge (tgt := 83) X ry4 rx2 dX1_key_59 (by decide) (fun hc => ?_) (fun hc => ?_)
  · have h := h.1 hc
    exact wk_House_key_b83 X hr hlk hT hV rx1 rx2 σ _ _ _ (lv_sub hl [0] rfl) hW hS h
  · have h := h.2 hc
    refine lv_iload_n X.1 X.2.1 dX1_key_62 rfl (lv_at hl 2 rfl) ?_
    refine w_if_eq (tgt := 83) X ry3.i dX1_key_63 (by decide) (fun hc => ?_) (fun hc => ?_)
    · have h := h.1 hc
      exact wk_House_key_b83 X hr hlk hT hV rx1 rx2 σ _ _ _ (lv_sub hl [0] rfl) hW hS h
    · have h := h.2 hc
      refine lv_aload_n X.1 X.2.1 dX1_key_66 rfl (lv_at hl 0 rfl) ?_
      refine wg (v := .ref (wad w 3 0)) X hT hW 1 1 65 vl1_0 rfl rfl (by decide) rfl (by decide) in_X1 q1071 rfl dX1_key_67 ?_
      refine wg (v := .ref (wad w 6 0)) X hT hW 3 2 194 vl3_0 rfl rfl (by decide) rfl (by decide) in_X5 q527 rfl dX1_key_70 ?_
      refine wr_Z (rV (As := []) (rest := []) X hT hW hS (met_Index_next l (w := w) hV 0 _ σ (by omega) h) (cwV 0 X.2.2.2.2 (lw_V q1065 q1066 q1067 q139 q1068) rfl rfl rfl (by decide +kernel) ⟨Nat.le_of_ble_eq_true rfl, Nat.le_of_ble_eq_true rfl⟩) vl6_0 (by decide) rfl rfl hl.1 rfl (by first | exact Nat.le_of_ble_eq_true rfl | simp [catK, catI, catR, catL]) dX1_key_73 ⟨Nat.le_refl _, Nat.le_refl _⟩) hS (fun r_25 σ_26 H locs rr_25 rkσ_26 h hWσ_26 hS => ?_)
      have h := h rr_25 rkσ_26
      refine lv_istore_n (i := 3) (lv' := [(3, .int (oI r_25)), (0, .ref (wad w 1 0)), (2, .int (oI x2)), (4, .int (oI y4))]) X.1 X.2.1 dX1_key_76 rfl hl (by decide) (by first | rfl | simp [catK, catI, catR, catL]) (fun ls hl => ?_)
      obtain ⟨y4_27, ey4_27⟩ : ∃ y : Int, y = w32 (y4 + 1) := ⟨_, rfl⟩
      have h := h y4_27 ey4_27
      have ry4_27 : rI y4_27 := by rw [ey4_27]; exact w32_r _
      refine lv_iinc (v := oI y4_27) (lv' := [(4, .int (oI y4_27)), (3, .int (oI r_25)), (0, .ref (wad w 1 0)), (2, .int (oI x2))]) X.1 X.2.1 dX1_key_77 hl (k := 3) rfl (by rw [ey4_27]; exact oI_add _ _) (by decide) (by first | rfl | simp [catK, catI, catR, catL]) (fun ls hl => ?_)
      refine lv_goto (tgt := 56) X.1 X.2.1 dX1_key_80 (by decide) ?_
      exact hK56 r_25 y4_27 σ_26 _ _ _ rr_25 ry4_27 (lv_sub hl [2, 3, 1, 0] rfl) hWσ_26 hS h
theorem wk_House_key_L56 {p : Program} {l : Launch} {e : Env} {st : State} {m : MethodId} {args : Array Value} {below : List Frame} {meth : Method} {c : Code} {w : Wp} {x1 : Int} {x2 : Int} {Q : Int → St → Prop} (X : CallFix p m c cX1_key 5 st args lw_all RX1) (hr : meth.sig.returnType = (some .long)) (hlk : meth.locks = false) (hT : Tb w st) (hV : Hvl w) (rx1 : rI x1) (rx2 : rI x2) : ∀ (y3 y4 : Int) (σ : St) (H : Heap) (locs : List Loc) (ls : Array Slot), rZ y3 → rI y4 → lv_has ls 5 [(0, .ref (wad w 1 0)), (2, .int (oI x2)), (3, .int (oI y3)), (4, .int (oI y4))] → Wo w σ H → va_S (wA w) st.heap H locs → lQ2 (wp_House_key_L56 (wc w) (wtv w) x1 x2 Q) y3 y4 σ → W p l e (headSpec (ws_ yX1_key cX1_key 5 (some .long)) rm_House_key).room st m args below meth c H locs 0 0 (MQ below (QcJ w Q) args st 0 0 (wA w)) (F0 m 56 ls []) := by
  intro y3 y4 σ H locs ls ry3 ry4 hl hW hS h
  obtain ⟨fu, h⟩ := h
  induction fu generalizing y3 y4 σ H locs ls with
  | zero => exact h.elim
  | succ fu ih =>
    exact wk_House_key_L56B X hr hlk hT hV rx1 rx2 (lq2 (wp_House_key_L56 (wc w) (wtv w) x1 x2 Q) fu) (fun y3 y4 σ H locs ls ry3 ry4 hl hW hS h => ih y3 y4 σ H locs ls ry3 ry4 hl hW hS h) y3 y4 σ H locs ls ry3 ry4 hl hW hS h
set_option maxHeartbeats 4000000 in
set_option maxRecDepth 100000 in
theorem met_House_key (l : Launch) {w : Wp} (hV : Hvl w) (x1 : Int) (x2 : Int) (Q : Int → St → Prop) (σ : St) (rx1 : rI x1) (rx2 : rI x2) (h : wp_House_key (wc w) (wtv w) x1 x2 Q σ) : Met l yX1_key (ws_ yX1_key cX1_key 5 (some .long)) rm_House_key (PcW w σ [.ref (wad w 1 0), .int (oI x1), .int (oI x2)]) (QcJ w Q) 0 0 (wA w) := by
  refine Met.ofW (cc := cX1_key) (maxL := 5) (ret := (some .long)) (by decide) rfl ?_
  intro p e st m args below meth c s₁ B hml hv
  obtain ⟨hargs, hW, hT⟩ := hv
  have X : CallFix p m c cX1_key 5 st _ lw_all RX1 := ⟨B.exec, B.bytes, hml, findClass_of_methodNamed B.named, fun w h => atoms_spec (ws := ws_ yX1_key cX1_key 5 (some .long)) B.pre w (List.mem_cons_of_mem _ h)⟩
  have hr := B.returns
  have hlk := B.notSynchronized
  have hS : va_S (wA w) st.heap st.heap [] := va_S.rf
  have vl1_0 : vl w 1 0 := hV.hv 1 rfl ⟨by omega, by show _ < (1 : Int); omega⟩
  have vl10_0 : vl w 10 0 := hV.hv 10 rfl ⟨by omega, by show _ < (4 : Int); omega⟩
  have vl3_0 : vl w 3 0 := hV.hv 3 rfl ⟨by omega, by show _ < (2 : Int); omega⟩
  have vl6_0 : vl w 6 0 := hV.hv 6 rfl ⟨by omega, by show _ < (2 : Int); omega⟩
  have hl := lv_entry ([.ref (wad w 1 0), .int (oI x1), .int (oI x2)]) (n := 5) (Nat.le_of_ble_eq_true rfl)
  have hfr := lg_entry_eq m ([.ref (wad w 1 0), .int (oI x1), .int (oI x2)]) 5
  rw [← hargs] at hfr
  rw [hfr]
  generalize (lg_sl ([.ref (wad w 1 0), .int (oI x1), .int (oI x2)]) ++ List.replicate (5 - (lg_sl ([.ref (wad w 1 0), .int (oI x1), .int (oI x2)])).length) Slot.unset).toArray = ls at hl ⊢
  have hl : lv_has ls 5 [(0, .ref (wad w 1 0)), (1, .int (oI x1)), (2, .int (oI x2))] := hl
  unfold wp_House_key at h
  refine lv_aload_n X.1 X.2.1 dX1_key_0 rfl (lv_at hl 0 rfl) ?_
  refine wg (v := .int (oI (gI σ 69 0))) X hT hW 1 5 69 vl1_0 rfl rfl (by decide) rfl (by decide) in_X1 q1075 rfl dX1_key_1 ?_
  refine w_if_eq (tgt := 34) X ((hW.r.z 69 0 rfl).i) dX1_key_4 (by decide) (fun hc => ?_) (fun hc => ?_)
  · have h := h.1 hc
    refine lv_lconst (v := oL 0) X.1 X.2.1 dX1_key_34 (by decide) ?_
    exact wret_J X hr hlk hW hS (rJ_lit 0 (by decide)) h dX1_key_35
  · have h := h.2 hc
    refine lv_iload_n X.1 X.2.1 dX1_key_7 rfl (lv_at hl 2 rfl) ?_
    refine w_if_lt (tgt := 34) X rx2 dX1_key_8 (by decide) (fun hc => ?_) (fun hc => ?_)
    · have h := h.1 hc
      refine lv_lconst (v := oL 0) X.1 X.2.1 dX1_key_34 (by decide) ?_
      exact wret_J X hr hlk hW hS (rJ_lit 0 (by decide)) h dX1_key_35
    · have h := h.2 hc
      refine lv_aload_n X.1 X.2.1 dX1_key_11 rfl (lv_at hl 0 rfl) ?_
      refine lv_iload_n X.1 X.2.1 dX1_key_12 rfl (lv_at hl 1 rfl) ?_
      refine lv_aload_n X.1 X.2.1 dX1_key_13 rfl (lv_at hl 0 rfl) ?_
      refine wg (v := .ref (wad w 10 0)) X hT hW 1 14 78 vl1_0 rfl rfl (by decide) rfl (by decide) in_X1 q1084 rfl dX1_key_14 ?_
      refine wr_Z (rV (As := [.int (oI x1), .ref (wad w 10 0)]) (rest := []) X hT hW hS (met_House_read l (w := w) hV x1 0 _ σ rx1 (by omega) h) (cwV 2 X.2.2.2.2 (lw_V q1177 q1179 qs32 q131 q1180) rfl rfl rfl (by decide +kernel) ⟨Nat.le_of_ble_eq_true rfl, Nat.le_of_ble_eq_true rfl⟩) vl1_0 (by decide) rfl rfl hl.1 rfl (by first | exact Nat.le_of_ble_eq_true rfl | simp [catK, catI, catR, catL]) dX1_key_17 ⟨Nat.le_refl _, Nat.le_refl _⟩) hS (fun r_28 σ_29 H locs rr_28 rkσ_29 h hWσ_29 hS => ?_)
      have h := h rr_28 rkσ_29
      refine w_if_eq (tgt := 34) X rr_28.i dX1_key_20 (by decide) (fun hc => ?_) (fun hc => ?_)
      · have h := h.1 hc
        refine lv_lconst (v := oL 0) X.1 X.2.1 dX1_key_34 (by decide) ?_
        exact wret_J X hr hlk hWσ_29 hS (rJ_lit 0 (by decide)) h dX1_key_35
      · have h := h.2 hc
        refine lv_iload_n X.1 X.2.1 dX1_key_23 rfl (lv_at hl 2 rfl) ?_
        refine lv_aload_n X.1 X.2.1 dX1_key_24 rfl (lv_at hl 0 rfl) ?_
        refine wg (v := .ref (wad w 10 0)) X hT hWσ_29 1 14 78 vl1_0 rfl rfl (by decide) rfl (by decide) in_X1 q1084 rfl dX1_key_25 ?_
        refine wg (v := .int (oI (gI σ_29 645 0))) X hT hWσ_29 10 5 645 vl10_0 rfl rfl (by decide) rfl (by decide) in_X3 q194 rfl dX1_key_28 ?_
        refine w_icmp_lt (tgt := 36) X rx2 (hWσ_29.r.i 645 0 rfl) dX1_key_31 (by decide) (fun hc => ?_) (fun hc => ?_)
        · have h := h.1 hc
          refine lv_aload_n X.1 X.2.1 dX1_key_36 rfl (lv_at hl 0 rfl) ?_
          refine wg (v := .ref (wad w 3 0)) X hT hWσ_29 1 1 65 vl1_0 rfl rfl (by decide) rfl (by decide) in_X1 q1071 rfl dX1_key_37 ?_
          refine wg (v := .ref (wad w 6 0)) X hT hWσ_29 3 2 194 vl3_0 rfl rfl (by decide) rfl (by decide) in_X5 q527 rfl dX1_key_40 ?_
          refine lv_iload_n X.1 X.2.1 dX1_key_43 rfl (lv_at hl 1 rfl) ?_
          refine lv_iconst (v := oI 3) X.1 X.2.1 dX1_key_44 rfl ?_
          refine wr_J (rS (As := [.int (oI x1), .int (oI 3)]) (rest := [.ref (wad w 6 0)]) X hT hWσ_29 hS (met_House_keyOf l (w := w) x1 3 _ σ_29 rx1 ((rB_lit 3 (by decide)).i) h) (va_cwS 2 X.2.2.2.2 (lw_S q1181 q894 q131 q895) rfl rfl rfl (by decide +kernel) ⟨Nat.le_of_ble_eq_true rfl, Nat.le_of_ble_eq_true rfl⟩) rfl hl.1 rfl (by first | exact Nat.le_of_ble_eq_true rfl | simp [catK, catI, catR, catL]) dX1_key_45 ⟨Nat.le_refl _, Nat.le_refl _⟩) hS (fun r_30 σ_31 H locs rr_30 rkσ_31 h hWσ_31 hS => ?_)
          have h := h rr_30 rkσ_31
          refine lv_lconst (v := oL 0) X.1 X.2.1 dX1_key_48 (by decide) ?_
          refine wr_Z (rV (As := [.long (oL r_30), .long (oL 0)]) (rest := []) X hT hWσ_31 hS (met_Index_seek l (w := w) hV 0 r_30 0 _ σ_31 (by omega) rr_30 (rJ_lit 0 (by decide)) h) (cwV 2 X.2.2.2.2 (lw_V q1064 q906 q907 q139 q908) rfl rfl rfl (by decide +kernel) ⟨Nat.le_of_ble_eq_true rfl, Nat.le_of_ble_eq_true rfl⟩) vl6_0 (by decide) rfl rfl hl.1 rfl (by first | exact Nat.le_of_ble_eq_true rfl | simp [catK, catI, catR, catL]) dX1_key_49 ⟨Nat.le_refl _, Nat.le_refl _⟩) hS (fun r_32 σ_33 H locs rr_32 rkσ_33 h hWσ_33 hS => ?_)
          have h := h rr_32 rkσ_33
          refine lv_istore_n (i := 3) (lv' := [(3, .int (oI r_32)), (0, .ref (wad w 1 0)), (1, .int (oI x1)), (2, .int (oI x2))]) X.1 X.2.1 dX1_key_52 rfl hl (by decide) (by first | rfl | simp [catK, catI, catR, catL]) (fun ls hl => ?_)
          refine lv_iconst (v := oI 0) X.1 X.2.1 dX1_key_53 rfl ?_
          refine lv_istore (i := 4) (lv' := [(4, .int (oI 0)), (3, .int (oI r_32)), (0, .ref (wad w 1 0)), (1, .int (oI x1)), (2, .int (oI x2))]) X.1 X.2.1 dX1_key_54 hl (by decide) (by first | rfl | simp [catK, catI, catR, catL]) (fun ls hl => ?_)
          exact wk_House_key_L56 X hr hlk hT hV rx1 rx2 r_32 0 σ_33 _ _ _ rr_32 rZ_0.i (lv_sub hl [2, 4, 1, 0] rfl) hWσ_33 hS h
        · have h := h.2 hc
          refine lv_lconst (v := oL 0) X.1 X.2.1 dX1_key_34 (by decide) ?_
          exact wret_J X hr hlk hWσ_29 hS (rJ_lit 0 (by decide)) h dX1_key_35
/-! House.kind(I)I -/
set_option maxHeartbeats 4000000 in
set_option maxRecDepth 100000 in
theorem met_House_kind (l : Launch) {w : Wp} (hV : Hvl w) (x1 : Int) (Q : Int → St → Prop) (σ : St) (rx1 : rI x1) (h : wp_House_kind (wc w) (wtv w) x1 Q σ) : Met l yX1_kind (ws_ yX1_kind cX1_kind 2 (some .int)) rm_House_kind (PcW w σ [.ref (wad w 1 0), .int (oI x1)]) (QcI w Q) 0 0 (wA w) := by
  refine Met.ofW (cc := cX1_kind) (maxL := 2) (ret := (some .int)) (by decide) rfl ?_
  intro p e st m args below meth c s₁ B hml hv
  obtain ⟨hargs, hW, hT⟩ := hv
  have X : CallFix p m c cX1_kind 2 st _ lw_all RX1 := ⟨B.exec, B.bytes, hml, findClass_of_methodNamed B.named, fun w h => atoms_spec (ws := ws_ yX1_kind cX1_kind 2 (some .int)) B.pre w (List.mem_cons_of_mem _ h)⟩
  have hr := B.returns
  have hlk := B.notSynchronized
  have hS : va_S (wA w) st.heap st.heap [] := va_S.rf
  have vl1_0 : vl w 1 0 := hV.hv 1 rfl ⟨by omega, by show _ < (1 : Int); omega⟩
  have vl10_0 : vl w 10 0 := hV.hv 10 rfl ⟨by omega, by show _ < (4 : Int); omega⟩
  have hl := lv_entry ([.ref (wad w 1 0), .int (oI x1)]) (n := 2) (Nat.le_of_ble_eq_true rfl)
  have hfr := lg_entry_eq m ([.ref (wad w 1 0), .int (oI x1)]) 2
  rw [← hargs] at hfr
  rw [hfr]
  generalize (lg_sl ([.ref (wad w 1 0), .int (oI x1)]) ++ List.replicate (2 - (lg_sl ([.ref (wad w 1 0), .int (oI x1)])).length) Slot.unset).toArray = ls at hl ⊢
  have hl : lv_has ls 2 [(0, .ref (wad w 1 0)), (1, .int (oI x1))] := hl
  unfold wp_House_kind at h
  refine lv_aload_n X.1 X.2.1 dX1_kind_0 rfl (lv_at hl 0 rfl) ?_
  refine wg (v := .int (oI (gI σ 69 0))) X hT hW 1 5 69 vl1_0 rfl rfl (by decide) rfl (by decide) in_X1 q1075 rfl dX1_kind_1 ?_
  refine w_if_ne (tgt := 12) X ((hW.r.z 69 0 rfl).i) dX1_kind_4 (by decide) (fun hc => ?_) (fun hc => ?_)
  · have h := h.1 hc
    refine lv_aload_n X.1 X.2.1 dX1_kind_12 rfl (lv_at hl 0 rfl) ?_
    refine lv_iload_n X.1 X.2.1 dX1_kind_13 rfl (lv_at hl 1 rfl) ?_
    refine lv_aload_n X.1 X.2.1 dX1_kind_14 rfl (lv_at hl 0 rfl) ?_
    refine wg (v := .ref (wad w 10 0)) X hT hW 1 14 78 vl1_0 rfl rfl (by decide) rfl (by decide) in_X1 q1084 rfl dX1_kind_15 ?_
    refine wr_Z (rV (As := [.int (oI x1), .ref (wad w 10 0)]) (rest := []) X hT hW hS (met_House_read l (w := w) hV x1 0 _ σ rx1 (by omega) h) (cwV 2 X.2.2.2.2 (lw_V q1177 q1179 qs32 q131 q1180) rfl rfl rfl (by decide +kernel) ⟨Nat.le_of_ble_eq_true rfl, Nat.le_of_ble_eq_true rfl⟩) vl1_0 (by decide) rfl rfl hl.1 rfl (by first | exact Nat.le_of_ble_eq_true rfl | simp [catK, catI, catR, catL]) dX1_kind_18 ⟨Nat.le_refl _, Nat.le_refl _⟩) hS (fun r_3 σ_4 H locs rr_3 rkσ_4 h hWσ_4 hS => ?_)
    have h := h rr_3 rkσ_4
    refine w_if_eq (tgt := 34) X rr_3.i dX1_kind_21 (by decide) (fun hc => ?_) (fun hc => ?_)
    · have h := h.1 hc
      refine lv_iconst (v := oI 0) X.1 X.2.1 dX1_kind_34 rfl ?_
      exact wret_I X hr hlk hWσ_4 hS rZ_0.i h dX1_kind_35
    · have h := h.2 hc
      refine lv_aload_n X.1 X.2.1 dX1_kind_24 rfl (lv_at hl 0 rfl) ?_
      refine wg (v := .ref (wad w 10 0)) X hT hWσ_4 1 14 78 vl1_0 rfl rfl (by decide) rfl (by decide) in_X1 q1084 rfl dX1_kind_25 ?_
      refine wg (v := .int (oI (gI σ_4 641 0))) X hT hWσ_4 10 1 641 vl10_0 rfl rfl (by decide) rfl (by decide) in_X3 q190 rfl dX1_kind_28 ?_
      refine lv_goto (tgt := 35) X.1 X.2.1 dX1_kind_31 (by decide) ?_
      exact wret_I X hr hlk hWσ_4 hS (hWσ_4.r.i 641 0 rfl) h dX1_kind_35
  · have h := h.2 hc
    refine lv_bipush (v := oI (-2)) X.1 X.2.1 dX1_kind_7 (by decide) ?_
    refine lv_goto (tgt := 35) X.1 X.2.1 dX1_kind_9 (by decide) ?_
    exact wret_I X hr hlk hW hS ((rB_lit (-2) (by decide)).i) h dX1_kind_35
/-! House.count(I)I -/
set_option maxHeartbeats 4000000 in
set_option maxRecDepth 100000 in
theorem met_House_count_2 (l : Launch) {w : Wp} (hV : Hvl w) (x1 : Int) (Q : Int → St → Prop) (σ : St) (rx1 : rI x1) (h : wp_House_count_2 (wc w) (wtv w) x1 Q σ) : Met l yX1_count_2 (ws_ yX1_count_2 cX1_count_2 2 (some .int)) rm_House_count_2 (PcW w σ [.ref (wad w 1 0), .int (oI x1)]) (QcI w Q) 0 0 (wA w) := by
  refine Met.ofW (cc := cX1_count_2) (maxL := 2) (ret := (some .int)) (by decide) rfl ?_
  intro p e st m args below meth c s₁ B hml hv
  obtain ⟨hargs, hW, hT⟩ := hv
  have X : CallFix p m c cX1_count_2 2 st _ lw_all RX1 := ⟨B.exec, B.bytes, hml, findClass_of_methodNamed B.named, fun w h => atoms_spec (ws := ws_ yX1_count_2 cX1_count_2 2 (some .int)) B.pre w (List.mem_cons_of_mem _ h)⟩
  have hr := B.returns
  have hlk := B.notSynchronized
  have hS : va_S (wA w) st.heap st.heap [] := va_S.rf
  have vl1_0 : vl w 1 0 := hV.hv 1 rfl ⟨by omega, by show _ < (1 : Int); omega⟩
  have vl10_0 : vl w 10 0 := hV.hv 10 rfl ⟨by omega, by show _ < (4 : Int); omega⟩
  have hl := lv_entry ([.ref (wad w 1 0), .int (oI x1)]) (n := 2) (Nat.le_of_ble_eq_true rfl)
  have hfr := lg_entry_eq m ([.ref (wad w 1 0), .int (oI x1)]) 2
  rw [← hargs] at hfr
  rw [hfr]
  generalize (lg_sl ([.ref (wad w 1 0), .int (oI x1)]) ++ List.replicate (2 - (lg_sl ([.ref (wad w 1 0), .int (oI x1)])).length) Slot.unset).toArray = ls at hl ⊢
  have hl : lv_has ls 2 [(0, .ref (wad w 1 0)), (1, .int (oI x1))] := hl
  unfold wp_House_count_2 at h
  refine lv_aload_n X.1 X.2.1 dX1_count_2_0 rfl (lv_at hl 0 rfl) ?_
  refine wg (v := .int (oI (gI σ 69 0))) X hT hW 1 5 69 vl1_0 rfl rfl (by decide) rfl (by decide) in_X1 q1075 rfl dX1_count_2_1 ?_
  refine w_if_ne (tgt := 10) X ((hW.r.z 69 0 rfl).i) dX1_count_2_4 (by decide) (fun hc => ?_) (fun hc => ?_)
  · have h := h.1 hc
    refine lv_aload_n X.1 X.2.1 dX1_count_2_10 rfl (lv_at hl 0 rfl) ?_
    refine lv_iload_n X.1 X.2.1 dX1_count_2_11 rfl (lv_at hl 1 rfl) ?_
    refine lv_aload_n X.1 X.2.1 dX1_count_2_12 rfl (lv_at hl 0 rfl) ?_
    refine wg (v := .ref (wad w 10 0)) X hT hW 1 14 78 vl1_0 rfl rfl (by decide) rfl (by decide) in_X1 q1084 rfl dX1_count_2_13 ?_
    refine wr_Z (rV (As := [.int (oI x1), .ref (wad w 10 0)]) (rest := []) X hT hW hS (met_House_read l (w := w) hV x1 0 _ σ rx1 (by omega) h) (cwV 2 X.2.2.2.2 (lw_V q1177 q1179 qs32 q131 q1180) rfl rfl rfl (by decide +kernel) ⟨Nat.le_of_ble_eq_true rfl, Nat.le_of_ble_eq_true rfl⟩) vl1_0 (by decide) rfl rfl hl.1 rfl (by first | exact Nat.le_of_ble_eq_true rfl | simp [catK, catI, catR, catL]) dX1_count_2_16 ⟨Nat.le_refl _, Nat.le_refl _⟩) hS (fun r_3 σ_4 H locs rr_3 rkσ_4 h hWσ_4 hS => ?_)
    have h := h rr_3 rkσ_4
    refine w_if_ne (tgt := 25) X rr_3.i dX1_count_2_19 (by decide) (fun hc => ?_) (fun hc => ?_)
    · have h := h.1 hc
      refine lv_aload_n X.1 X.2.1 dX1_count_2_25 rfl (lv_at hl 0 rfl) ?_
      refine wg (v := .ref (wad w 10 0)) X hT hWσ_4 1 14 78 vl1_0 rfl rfl (by decide) rfl (by decide) in_X1 q1084 rfl dX1_count_2_26 ?_
      refine wg (v := .int (oI (gI σ_4 641 0))) X hT hWσ_4 10 1 641 vl10_0 rfl rfl (by decide) rfl (by decide) in_X3 q190 rfl dX1_count_2_29 ?_
      refine lv_iconst (v := oI 1) X.1 X.2.1 dX1_count_2_32 rfl ?_
      refine w_icmp_ne (tgt := 46) X (hWσ_4.r.i 641 0 rfl) rZ_1.i dX1_count_2_33 (by decide) (fun hc => ?_) (fun hc => ?_)
      · have h := h.1 hc
        refine lv_aload_n X.1 X.2.1 dX1_count_2_46 rfl (lv_at hl 0 rfl) ?_
        refine wg (v := .ref (wad w 10 0)) X hT hWσ_4 1 14 78 vl1_0 rfl rfl (by decide) rfl (by decide) in_X1 q1084 rfl dX1_count_2_47 ?_
        refine wg (v := .int (oI (gI σ_4 642 0))) X hT hWσ_4 10 2 642 vl10_0 rfl rfl (by decide) rfl (by decide) in_X3 q191 rfl dX1_count_2_50 ?_
        exact wret_I X hr hlk hWσ_4 hS (hWσ_4.r.i 642 0 rfl) h dX1_count_2_53
      · have h := h.2 hc
        refine lv_aload_n X.1 X.2.1 dX1_count_2_36 rfl (lv_at hl 0 rfl) ?_
        refine wg (v := .ref (wad w 10 0)) X hT hWσ_4 1 14 78 vl1_0 rfl rfl (by decide) rfl (by decide) in_X1 q1084 rfl dX1_count_2_37 ?_
        refine wg (v := .int (oI (gI σ_4 644 0))) X hT hWσ_4 10 4 644 vl10_0 rfl rfl (by decide) rfl (by decide) in_X3 q193 rfl dX1_count_2_40 ?_
        refine lv_goto (tgt := 53) X.1 X.2.1 dX1_count_2_43 (by decide) ?_
        exact wret_I X hr hlk hWσ_4 hS (hWσ_4.r.i 644 0 rfl) h dX1_count_2_53
    · have h := h.2 hc
      refine lv_bipush (v := oI (-4)) X.1 X.2.1 dX1_count_2_22 (by decide) ?_
      exact wret_I X hr hlk hWσ_4 hS ((rB_lit (-4) (by decide)).i) h dX1_count_2_24
  · have h := h.2 hc
    refine lv_bipush (v := oI (-2)) X.1 X.2.1 dX1_count_2_7 (by decide) ?_
    exact wret_I X hr hlk hW hS ((rB_lit (-2) (by decide)).i) h dX1_count_2_9
/-! House.size(I)I -/
set_option maxHeartbeats 4000000 in
set_option maxRecDepth 100000 in
theorem met_House_size (l : Launch) {w : Wp} (hV : Hvl w) (x1 : Int) (Q : Int → St → Prop) (σ : St) (rx1 : rI x1) (h : wp_House_size (wc w) (wtv w) x1 Q σ) : Met l yX1_size (ws_ yX1_size cX1_size 2 (some .int)) rm_House_size (PcW w σ [.ref (wad w 1 0), .int (oI x1)]) (QcI w Q) 0 0 (wA w) := by
  refine Met.ofW (cc := cX1_size) (maxL := 2) (ret := (some .int)) (by decide) rfl ?_
  intro p e st m args below meth c s₁ B hml hv
  obtain ⟨hargs, hW, hT⟩ := hv
  have X : CallFix p m c cX1_size 2 st _ lw_all RX1 := ⟨B.exec, B.bytes, hml, findClass_of_methodNamed B.named, fun w h => atoms_spec (ws := ws_ yX1_size cX1_size 2 (some .int)) B.pre w (List.mem_cons_of_mem _ h)⟩
  have hr := B.returns
  have hlk := B.notSynchronized
  have hS : va_S (wA w) st.heap st.heap [] := va_S.rf
  have vl1_0 : vl w 1 0 := hV.hv 1 rfl ⟨by omega, by show _ < (1 : Int); omega⟩
  have vl10_0 : vl w 10 0 := hV.hv 10 rfl ⟨by omega, by show _ < (4 : Int); omega⟩
  have hl := lv_entry ([.ref (wad w 1 0), .int (oI x1)]) (n := 2) (Nat.le_of_ble_eq_true rfl)
  have hfr := lg_entry_eq m ([.ref (wad w 1 0), .int (oI x1)]) 2
  rw [← hargs] at hfr
  rw [hfr]
  generalize (lg_sl ([.ref (wad w 1 0), .int (oI x1)]) ++ List.replicate (2 - (lg_sl ([.ref (wad w 1 0), .int (oI x1)])).length) Slot.unset).toArray = ls at hl ⊢
  have hl : lv_has ls 2 [(0, .ref (wad w 1 0)), (1, .int (oI x1))] := hl
  unfold wp_House_size at h
  refine lv_aload_n X.1 X.2.1 dX1_size_0 rfl (lv_at hl 0 rfl) ?_
  refine wg (v := .int (oI (gI σ 69 0))) X hT hW 1 5 69 vl1_0 rfl rfl (by decide) rfl (by decide) in_X1 q1075 rfl dX1_size_1 ?_
  refine w_if_ne (tgt := 10) X ((hW.r.z 69 0 rfl).i) dX1_size_4 (by decide) (fun hc => ?_) (fun hc => ?_)
  · have h := h.1 hc
    refine lv_aload_n X.1 X.2.1 dX1_size_10 rfl (lv_at hl 0 rfl) ?_
    refine lv_iload_n X.1 X.2.1 dX1_size_11 rfl (lv_at hl 1 rfl) ?_
    refine lv_aload_n X.1 X.2.1 dX1_size_12 rfl (lv_at hl 0 rfl) ?_
    refine wg (v := .ref (wad w 10 0)) X hT hW 1 14 78 vl1_0 rfl rfl (by decide) rfl (by decide) in_X1 q1084 rfl dX1_size_13 ?_
    refine wr_Z (rV (As := [.int (oI x1), .ref (wad w 10 0)]) (rest := []) X hT hW hS (met_House_read l (w := w) hV x1 0 _ σ rx1 (by omega) h) (cwV 2 X.2.2.2.2 (lw_V q1177 q1179 qs32 q131 q1180) rfl rfl rfl (by decide +kernel) ⟨Nat.le_of_ble_eq_true rfl, Nat.le_of_ble_eq_true rfl⟩) vl1_0 (by decide) rfl rfl hl.1 rfl (by first | exact Nat.le_of_ble_eq_true rfl | simp [catK, catI, catR, catL]) dX1_size_16 ⟨Nat.le_refl _, Nat.le_refl _⟩) hS (fun r_3 σ_4 H locs rr_3 rkσ_4 h hWσ_4 hS => ?_)
    have h := h rr_3 rkσ_4
    refine w_if_ne (tgt := 25) X rr_3.i dX1_size_19 (by decide) (fun hc => ?_) (fun hc => ?_)
    · have h := h.1 hc
      refine lv_aload_n X.1 X.2.1 dX1_size_25 rfl (lv_at hl 0 rfl) ?_
      refine wg (v := .ref (wad w 10 0)) X hT hWσ_4 1 14 78 vl1_0 rfl rfl (by decide) rfl (by decide) in_X1 q1084 rfl dX1_size_26 ?_
      refine wg (v := .int (oI (gI σ_4 641 0))) X hT hWσ_4 10 1 641 vl10_0 rfl rfl (by decide) rfl (by decide) in_X3 q190 rfl dX1_size_29 ?_
      refine lv_iconst (v := oI 1) X.1 X.2.1 dX1_size_32 rfl ?_
      refine w_icmp_ne (tgt := 41) X (hWσ_4.r.i 641 0 rfl) rZ_1.i dX1_size_33 (by decide) (fun hc => ?_) (fun hc => ?_)
      · have h := h.1 hc
        refine lv_aload_n X.1 X.2.1 dX1_size_41 rfl (lv_at hl 0 rfl) ?_
        refine wg (v := .ref (wad w 10 0)) X hT hWσ_4 1 14 78 vl1_0 rfl rfl (by decide) rfl (by decide) in_X1 q1084 rfl dX1_size_42 ?_
        refine wg (v := .int (oI (gI σ_4 643 0))) X hT hWσ_4 10 3 643 vl10_0 rfl rfl (by decide) rfl (by decide) in_X3 q192 rfl dX1_size_45 ?_
        exact wret_I X hr hlk hWσ_4 hS (hWσ_4.r.i 643 0 rfl) h dX1_size_48
      · have h := h.2 hc
        refine lv_bipush (v := oI (-7)) X.1 X.2.1 dX1_size_36 (by decide) ?_
        refine lv_goto (tgt := 48) X.1 X.2.1 dX1_size_38 (by decide) ?_
        exact wret_I X hr hlk hWσ_4 hS ((rB_lit (-7) (by decide)).i) h dX1_size_48
    · have h := h.2 hc
      refine lv_bipush (v := oI (-4)) X.1 X.2.1 dX1_size_22 (by decide) ?_
      exact wret_I X hr hlk hWσ_4 hS ((rB_lit (-4) (by decide)).i) h dX1_size_24
  · have h := h.2 hc
    refine lv_bipush (v := oI (-2)) X.1 X.2.1 dX1_size_7 (by decide) ?_
    exact wret_I X hr hlk hW hS ((rB_lit (-2) (by decide)).i) h dX1_size_9
/-! House.open(I)I -/
set_option maxHeartbeats 4000000 in
set_option maxRecDepth 100000 in
theorem wk_House_open_L78B {p : Program} {l : Launch} {e : Env} {st : State} {m : MethodId} {args : Array Value} {below : List Frame} {meth : Method} {c : Code} {w : Wp} {x1 : Int} {Q : Int → St → Prop} (X : CallFix p m c cX1_open 3 st args lw_all RX1) (hr : meth.sig.returnType = (some .int)) (hlk : meth.locks = false) (hT : Tb w st) (hV : Hvl w) (rx1 : rI x1) (K78 : Int → St → Prop) (hK78 : ∀ (y2 : Int) (σ : St) (H : Heap) (locs : List Loc) (ls : Array Slot), rI y2 → lv_has ls 3 [(0, .ref (wad w 1 0)), (1, .int (oI x1)), (2, .int (oI y2))] → Wo w σ H → va_S (wA w) st.heap H locs → K78 y2 σ → W p l e (headSpec (ws_ yX1_open cX1_open 3 (some .int)) rm_House_open).room st m args below meth c H locs 0 0 (MQ below (QcI w Q) args st 0 0 (wA w)) (F0 m 78 ls [])) : ∀ (y2 : Int) (σ : St) (H : Heap) (locs : List Loc) (ls : Array Slot), rI y2 → lv_has ls 3 [(0, .ref (wad w 1 0)), (1, .int (oI x1)), (2, .int (oI y2))] → Wo w σ H → va_S (wA w) st.heap H locs → wp_House_open_L78 (wc w) (wtv w) x1 Q K78 y2 σ → W p l e (headSpec (ws_ yX1_open cX1_open 3 (some .int)) rm_House_open).room st m args below meth c H locs 0 0 (MQ below (QcI w Q) args st 0 0 (wA w)) (F0 m 78 ls []) := by
  have vl1_0 : vl w 1 0 := hV.hv 1 rfl ⟨by omega, by show _ < (1 : Int); omega⟩
  have vl70_0 : vl w 70 0 := hV.hv 70 rfl ⟨by omega, by show _ < (1 : Int); omega⟩
  intro y2 σ H locs ls ry2 hl hW hS h
  unfold wp_House_open_L78 at h
  refine lv_iload_n X.1 X.2.1 dX1_open_78 rfl (lv_at hl 2 rfl) ?_
  refine lv_bipush (v := oI 8) X.1 X.2.1 dX1_open_79 (by decide) ?_
  refine w_icmp_ge (tgt := 108) X ry2 ((rB_lit 8 (by decide)).i) dX1_open_81 (by decide) (fun hc => ?_) (fun hc => ?_)
  · have h := h.1 hc
    refine lv_bipush (v := oI (-10)) X.1 X.2.1 dX1_open_108 (by decide) ?_
    exact wret_I X hr hlk hW hS ((rB_lit (-10) (by decide)).i) h dX1_open_110
  · have h := h.2 hc
    refine lv_aload_n X.1 X.2.1 dX1_open_84 rfl (lv_at hl 0 rfl) ?_
    refine wg (v := .ref (wad w 70 0)) X hT hW 1 6 70 vl1_0 rfl rfl (by decide) rfl (by decide) in_X1 q1076 rfl dX1_open_85 ?_
    refine lv_iload_n X.1 X.2.1 dX1_open_88 rfl (lv_at hl 2 rfl) ?_
    obtain ⟨bi, h⟩ := h
    refine w_iald (n := 8) X hT hW 70 vl70_0 (by decide) rfl rfl bi dX1_open_89 ?_
    refine w_if_ne (tgt := 102) X (hW.r.ai 70 0 y2 rfl) dX1_open_90 (by decide) (fun hc => ?_) (fun hc => ?_)
    · have h := h.1 hc
      obtain ⟨y2_9, ey2_9⟩ : ∃ y : Int, y = w32 (y2 + 1) := ⟨_, rfl⟩
      have h := h y2_9 ey2_9
      have ry2_9 : rI y2_9 := by rw [ey2_9]; exact w32_r _
      refine lv_iinc (v := oI y2_9) (lv' := [(2, .int (oI y2_9)), (0, .ref (wad w 1 0)), (1, .int (oI x1))]) X.1 X.2.1 dX1_open_102 hl (k := 2) rfl (by rw [ey2_9]; exact oI_add _ _) (by decide) (by first | rfl | simp [catK, catI, catR, catL]) (fun ls hl => ?_)
      refine lv_goto (tgt := 78) X.1 X.2.1 dX1_open_105 (by decide) ?_
      exact hK78 y2_9 σ _ _ _ ry2_9 (lv_sub hl [1, 2, 0] rfl) hW hS h
    · have h := h.2 hc
      refine lv_aload_n X.1 X.2.1 dX1_open_93 rfl (lv_at hl 0 rfl) ?_
      refine wg (v := .ref (wad w 70 0)) X hT hW 1 6 70 vl1_0 rfl rfl (by decide) rfl (by decide) in_X1 q1076 rfl dX1_open_94 ?_
      refine lv_iload_n X.1 X.2.1 dX1_open_97 rfl (lv_at hl 2 rfl) ?_
      refine lv_iload_n X.1 X.2.1 dX1_open_98 rfl (lv_at hl 1 rfl) ?_
      obtain ⟨bi, h⟩ := h
      refine w_iast (n := 8) X hT hW hS 70 vl70_0 (by decide) rfl rfl bi rx1 dX1_open_99 (fun H locs hN hS => ?_)
      obtain ⟨σ_10, eσ_10⟩ : ∃ x, x = sA σ 70 0 y2 x1 := ⟨_, rfl⟩
      have hWσ_10 : Wo w σ_10 H := eσ_10 ▸ hN
      have h := h σ_10 eσ_10
      clear hN
      refine lv_iload_n X.1 X.2.1 dX1_open_100 rfl (lv_at hl 2 rfl) ?_
      exact wret_I X hr hlk hWσ_10 hS ry2 h dX1_open_101
theorem wk_House_open_L78 {p : Program} {l : Launch} {e : Env} {st : State} {m : MethodId} {args : Array Value} {below : List Frame} {meth : Method} {c : Code} {w : Wp} {x1 : Int} {Q : Int → St → Prop} (X : CallFix p m c cX1_open 3 st args lw_all RX1) (hr : meth.sig.returnType = (some .int)) (hlk : meth.locks = false) (hT : Tb w st) (hV : Hvl w) (rx1 : rI x1) : ∀ (y2 : Int) (σ : St) (H : Heap) (locs : List Loc) (ls : Array Slot), rI y2 → lv_has ls 3 [(0, .ref (wad w 1 0)), (1, .int (oI x1)), (2, .int (oI y2))] → Wo w σ H → va_S (wA w) st.heap H locs → lQ1 (wp_House_open_L78 (wc w) (wtv w) x1 Q) y2 σ → W p l e (headSpec (ws_ yX1_open cX1_open 3 (some .int)) rm_House_open).room st m args below meth c H locs 0 0 (MQ below (QcI w Q) args st 0 0 (wA w)) (F0 m 78 ls []) := by
  intro y2 σ H locs ls ry2 hl hW hS h
  obtain ⟨fu, h⟩ := h
  induction fu generalizing y2 σ H locs ls with
  | zero => exact h.elim
  | succ fu ih =>
    exact wk_House_open_L78B X hr hlk hT hV rx1 (lq1 (wp_House_open_L78 (wc w) (wtv w) x1 Q) fu) (fun y2 σ H locs ls ry2 hl hW hS h => ih y2 σ H locs ls ry2 hl hW hS h) y2 σ H locs ls ry2 hl hW hS h
set_option maxHeartbeats 4000000 in
set_option maxRecDepth 100000 in
theorem wk_House_open_b46 {p : Program} {l : Launch} {e : Env} {st : State} {m : MethodId} {args : Array Value} {below : List Frame} {meth : Method} {c : Code} {w : Wp} {x1 : Int} {Q : Int → St → Prop} (X : CallFix p m c cX1_open 3 st args lw_all RX1) (hr : meth.sig.returnType = (some .int)) (hlk : meth.locks = false) (hT : Tb w st) (hV : Hvl w) (rx1 : rI x1) : ∀ (σ : St) (H : Heap) (locs : List Loc) (ls : Array Slot), lv_has ls 3 [(0, .ref (wad w 1 0)), (1, .int (oI x1))] → Wo w σ H → va_S (wA w) st.heap H locs → wp_House_open_b46 (wc w) (wtv w) x1 Q σ → W p l e (headSpec (ws_ yX1_open cX1_open 3 (some .int)) rm_House_open).room st m args below meth c H locs 0 0 (MQ below (QcI w Q) args st 0 0 (wA w)) (F0 m 46 ls []) := by
  have vl1_0 : vl w 1 0 := hV.hv 1 rfl ⟨by omega, by show _ < (1 : Int); omega⟩
  have vl10_0 : vl w 10 0 := hV.hv 10 rfl ⟨by omega, by show _ < (4 : Int); omega⟩
  intro σ H locs ls hl hW hS h
  unfold wp_House_open_b46 at h
  refine lv_aload_n X.1 X.2.1 dX1_open_46 rfl (lv_at hl 0 rfl) ?_
  refine wg (v := .ref (wad w 10 0)) X hT hW 1 14 78 vl1_0 rfl rfl (by decide) rfl (by decide) in_X1 q1084 rfl dX1_open_47 ?_
  refine wg (v := .int (oI (gI σ 641 0))) X hT hW 10 1 641 vl10_0 rfl rfl (by decide) rfl (by decide) in_X3 q190 rfl dX1_open_50 ?_
  refine lv_iconst (v := oI 2) X.1 X.2.1 dX1_open_53 rfl ?_
  refine w_icmp_eq (tgt := 76) X (hW.r.i 641 0 rfl) ((rB_lit 2 (by decide)).i) dX1_open_54 (by decide) (fun hc => ?_) (fun hc => ?_)
  · have h := h.1 hc
    refine lv_iconst (v := oI 0) X.1 X.2.1 dX1_open_76 rfl ?_
    refine lv_istore_n (i := 2) (lv' := [(2, .int (oI 0)), (0, .ref (wad w 1 0)), (1, .int (oI x1))]) X.1 X.2.1 dX1_open_77 rfl hl (by decide) (by first | rfl | simp [catK, catI, catR, catL]) (fun ls hl => ?_)
    exact wk_House_open_L78 X hr hlk hT hV rx1 0 σ _ _ _ rZ_0.i (lv_sub hl [1, 2, 0] rfl) hW hS h
  · have h := h.2 hc
    refine lv_aload_n X.1 X.2.1 dX1_open_57 rfl (lv_at hl 0 rfl) ?_
    refine wg (v := .ref (wad w 10 0)) X hT hW 1 14 78 vl1_0 rfl rfl (by decide) rfl (by decide) in_X1 q1084 rfl dX1_open_58 ?_
    refine wg (v := .int (oI (gI σ 641 0))) X hT hW 10 1 641 vl10_0 rfl rfl (by decide) rfl (by decide) in_X3 q190 rfl dX1_open_61 ?_
    refine lv_iconst (v := oI 1) X.1 X.2.1 dX1_open_64 rfl ?_
    refine w_cut (pc2 := 75) (st2 := [.int (oI (if (gI σ 641 0) = 1 then (-7 : Int) else (-11 : Int)))]) (fun hj => ?_) ?_
    · refine w_icmp_ne (tgt := 73) X (hW.r.i 641 0 rfl) rZ_1.i dX1_open_65 (by decide) (fun hc => ?_) (fun hc => ?_)
      · refine lv_bipush (v := oI (-11)) X.1 X.2.1 dX1_open_73 (by decide) ?_
        rw [if_neg hc] at hj; exact hj
      · refine lv_bipush (v := oI (-7)) X.1 X.2.1 dX1_open_68 (by decide) ?_
        refine lv_goto (tgt := 75) X.1 X.2.1 dX1_open_70 (by decide) ?_
        rw [if_pos hc] at hj; exact hj
    exact wret_I X hr hlk hW hS (ite_rI ((rB_lit (-7) (by decide)).i) ((rB_lit (-11) (by decide)).i)) h dX1_open_75
set_option maxHeartbeats 4000000 in
set_option maxRecDepth 100000 in
theorem met_House_open (l : Launch) {w : Wp} (hV : Hvl w) (x1 : Int) (Q : Int → St → Prop) (σ : St) (rx1 : rI x1) (h : wp_House_open (wc w) (wtv w) x1 Q σ) : Met l yX1_open (ws_ yX1_open cX1_open 3 (some .int)) rm_House_open (PcW w σ [.ref (wad w 1 0), .int (oI x1)]) (QcI w Q) 0 0 (wA w) := by
  refine Met.ofW (cc := cX1_open) (maxL := 3) (ret := (some .int)) (by decide) rfl ?_
  intro p e st m args below meth c s₁ B hml hv
  obtain ⟨hargs, hW, hT⟩ := hv
  have X : CallFix p m c cX1_open 3 st _ lw_all RX1 := ⟨B.exec, B.bytes, hml, findClass_of_methodNamed B.named, fun w h => atoms_spec (ws := ws_ yX1_open cX1_open 3 (some .int)) B.pre w (List.mem_cons_of_mem _ h)⟩
  have hr := B.returns
  have hlk := B.notSynchronized
  have hS : va_S (wA w) st.heap st.heap [] := va_S.rf
  have vl1_0 : vl w 1 0 := hV.hv 1 rfl ⟨by omega, by show _ < (1 : Int); omega⟩
  have vl10_0 : vl w 10 0 := hV.hv 10 rfl ⟨by omega, by show _ < (4 : Int); omega⟩
  have hl := lv_entry ([.ref (wad w 1 0), .int (oI x1)]) (n := 3) (Nat.le_of_ble_eq_true rfl)
  have hfr := lg_entry_eq m ([.ref (wad w 1 0), .int (oI x1)]) 3
  rw [← hargs] at hfr
  rw [hfr]
  generalize (lg_sl ([.ref (wad w 1 0), .int (oI x1)]) ++ List.replicate (3 - (lg_sl ([.ref (wad w 1 0), .int (oI x1)])).length) Slot.unset).toArray = ls at hl ⊢
  have hl : lv_has ls 3 [(0, .ref (wad w 1 0)), (1, .int (oI x1))] := hl
  unfold wp_House_open at h
  refine lv_aload_n X.1 X.2.1 dX1_open_0 rfl (lv_at hl 0 rfl) ?_
  refine wg (v := .int (oI (gI σ 69 0))) X hT hW 1 5 69 vl1_0 rfl rfl (by decide) rfl (by decide) in_X1 q1075 rfl dX1_open_1 ?_
  refine w_if_ne (tgt := 10) X ((hW.r.z 69 0 rfl).i) dX1_open_4 (by decide) (fun hc => ?_) (fun hc => ?_)
  · have h := h.1 hc
    refine lv_aload_n X.1 X.2.1 dX1_open_10 rfl (lv_at hl 0 rfl) ?_
    refine lv_iload_n X.1 X.2.1 dX1_open_11 rfl (lv_at hl 1 rfl) ?_
    refine lv_aload_n X.1 X.2.1 dX1_open_12 rfl (lv_at hl 0 rfl) ?_
    refine wg (v := .ref (wad w 10 0)) X hT hW 1 14 78 vl1_0 rfl rfl (by decide) rfl (by decide) in_X1 q1084 rfl dX1_open_13 ?_
    refine wr_Z (rV (As := [.int (oI x1), .ref (wad w 10 0)]) (rest := []) X hT hW hS (met_House_read l (w := w) hV x1 0 _ σ rx1 (by omega) h) (cwV 2 X.2.2.2.2 (lw_V q1177 q1179 qs32 q131 q1180) rfl rfl rfl (by decide +kernel) ⟨Nat.le_of_ble_eq_true rfl, Nat.le_of_ble_eq_true rfl⟩) vl1_0 (by decide) rfl rfl hl.1 rfl (by first | exact Nat.le_of_ble_eq_true rfl | simp [catK, catI, catR, catL]) dX1_open_16 ⟨Nat.le_refl _, Nat.le_refl _⟩) hS (fun r_11 σ_12 H locs rr_11 rkσ_12 h hWσ_12 hS => ?_)
    have h := h rr_11 rkσ_12
    refine w_if_eq (tgt := 43) X rr_11.i dX1_open_19 (by decide) (fun hc => ?_) (fun hc => ?_)
    · have h := h.1 hc
      refine lv_bipush (v := oI (-4)) X.1 X.2.1 dX1_open_43 (by decide) ?_
      exact wret_I X hr hlk hWσ_12 hS ((rB_lit (-4) (by decide)).i) h dX1_open_45
    · have h := h.2 hc
      refine lv_aload_n X.1 X.2.1 dX1_open_22 rfl (lv_at hl 0 rfl) ?_
      refine wg (v := .ref (wad w 10 0)) X hT hWσ_12 1 14 78 vl1_0 rfl rfl (by decide) rfl (by decide) in_X1 q1084 rfl dX1_open_23 ?_
      refine wg (v := .int (oI (gI σ_12 641 0))) X hT hWσ_12 10 1 641 vl10_0 rfl rfl (by decide) rfl (by decide) in_X3 q190 rfl dX1_open_26 ?_
      refine lv_iconst (v := oI 2) X.1 X.2.1 dX1_open_29 rfl ?_
      refine w_icmp_ne (tgt := 46) X (hWσ_12.r.i 641 0 rfl) ((rB_lit 2 (by decide)).i) dX1_open_30 (by decide) (fun hc => ?_) (fun hc => ?_)
      · have h := h.1 hc
        exact wk_House_open_b46 X hr hlk hT hV rx1 σ_12 _ _ _ (lv_sub hl [0, 1] rfl) hWσ_12 hS h
      · have h := h.2 hc
        refine lv_aload_n X.1 X.2.1 dX1_open_33 rfl (lv_at hl 0 rfl) ?_
        refine wg (v := .ref (wad w 10 0)) X hT hWσ_12 1 14 78 vl1_0 rfl rfl (by decide) rfl (by decide) in_X1 q1084 rfl dX1_open_34 ?_
        refine wg (v := .int (oI (gI σ_12 642 0))) X hT hWσ_12 10 2 642 vl10_0 rfl rfl (by decide) rfl (by decide) in_X3 q191 rfl dX1_open_37 ?_
        refine w_if_ne (tgt := 46) X (hWσ_12.r.i 642 0 rfl) dX1_open_40 (by decide) (fun hc => ?_) (fun hc => ?_)
        · have h := h.1 hc
          exact wk_House_open_b46 X hr hlk hT hV rx1 σ_12 _ _ _ (lv_sub hl [0, 1] rfl) hWσ_12 hS h
        · have h := h.2 hc
          refine lv_bipush (v := oI (-4)) X.1 X.2.1 dX1_open_43 (by decide) ?_
          exact wret_I X hr hlk hWσ_12 hS ((rB_lit (-4) (by decide)).i) h dX1_open_45
  · have h := h.2 hc
    refine lv_bipush (v := oI (-2)) X.1 X.2.1 dX1_open_7 (by decide) ?_
    exact wret_I X hr hlk hW hS ((rB_lit (-2) (by decide)).i) h dX1_open_9
/-! House.isHandle(I)Z -/
set_option maxHeartbeats 4000000 in
set_option maxRecDepth 100000 in
theorem met_House_isHandle (l : Launch) {w : Wp} (hV : Hvl w) (x1 : Int) (Q : Int → St → Prop) (σ : St) (rx1 : rI x1) (h : wp_House_isHandle (wc w) (wtv w) x1 Q σ) : Met l yX1_isHandle (ws_ yX1_isHandle cX1_isHandle 2 (some .boolean)) rm_House_isHandle (PcW w σ [.ref (wad w 1 0), .int (oI x1)]) (QcZ w Q) 0 0 (wA w) := by
  refine Met.ofW (cc := cX1_isHandle) (maxL := 2) (ret := (some .boolean)) (by decide) rfl ?_
  intro p e st m args below meth c s₁ B hml hv
  obtain ⟨hargs, hW, hT⟩ := hv
  have X : CallFix p m c cX1_isHandle 2 st _ lw_all RX1 := ⟨B.exec, B.bytes, hml, findClass_of_methodNamed B.named, fun w h => atoms_spec (ws := ws_ yX1_isHandle cX1_isHandle 2 (some .boolean)) B.pre w (List.mem_cons_of_mem _ h)⟩
  have hr := B.returns
  have hlk := B.notSynchronized
  have hS : va_S (wA w) st.heap st.heap [] := va_S.rf
  have vl1_0 : vl w 1 0 := hV.hv 1 rfl ⟨by omega, by show _ < (1 : Int); omega⟩
  have vl70_0 : vl w 70 0 := hV.hv 70 rfl ⟨by omega, by show _ < (1 : Int); omega⟩
  have hl := lv_entry ([.ref (wad w 1 0), .int (oI x1)]) (n := 2) (Nat.le_of_ble_eq_true rfl)
  have hfr := lg_entry_eq m ([.ref (wad w 1 0), .int (oI x1)]) 2
  rw [← hargs] at hfr
  rw [hfr]
  generalize (lg_sl ([.ref (wad w 1 0), .int (oI x1)]) ++ List.replicate (2 - (lg_sl ([.ref (wad w 1 0), .int (oI x1)])).length) Slot.unset).toArray = ls at hl ⊢
  have hl : lv_has ls 2 [(0, .ref (wad w 1 0)), (1, .int (oI x1))] := hl
  unfold wp_House_isHandle at h
  refine lv_iload_n X.1 X.2.1 dX1_isHandle_0 rfl (lv_at hl 1 rfl) ?_
  refine lv_iconst (v := oI 0) X.1 X.2.1 dX1_isHandle_1 rfl ?_
  refine lv_bipush (v := oI 7) X.1 X.2.1 dX1_isHandle_2 (by decide) ?_
  refine wr_Z (rS (As := [.int (oI x1), .int (oI 0), .int (oI 7)]) (rest := []) X hT hW hS (met_House_isIn l (w := w) x1 0 7 _ σ rx1 rZ_0.i ((rB_lit 7 (by decide)).i) h) (va_cwS 3 X.2.2.2.2 (lw_S q208 q209 q131 q210) rfl rfl rfl (by decide +kernel) ⟨Nat.le_of_ble_eq_true rfl, Nat.le_of_ble_eq_true rfl⟩) rfl hl.1 rfl (by first | exact Nat.le_of_ble_eq_true rfl | simp [catK, catI, catR, catL]) dX1_isHandle_4 ⟨Nat.le_refl _, Nat.le_refl _⟩) hS (fun r_3 σ_4 H locs rr_3 rkσ_4 h hWσ_4 hS => ?_)
  have h := h rr_3 rkσ_4
  refine w_if_eq (tgt := 23) X rr_3.i dX1_isHandle_7 (by decide) (fun hc => ?_) (fun hc => ?_)
  · have h := h.1 hc
    refine lv_iconst (v := oI 0) X.1 X.2.1 dX1_isHandle_23 rfl ?_
    exact wret_Z X hr hlk hWσ_4 hS rZ_0 h dX1_isHandle_24
  · have h := h.2 hc
    refine lv_aload_n X.1 X.2.1 dX1_isHandle_10 rfl (lv_at hl 0 rfl) ?_
    refine wg (v := .ref (wad w 70 0)) X hT hWσ_4 1 6 70 vl1_0 rfl rfl (by decide) rfl (by decide) in_X1 q1076 rfl dX1_isHandle_11 ?_
    refine lv_iload_n X.1 X.2.1 dX1_isHandle_14 rfl (lv_at hl 1 rfl) ?_
    obtain ⟨bi, h⟩ := h
    refine w_iald (n := 8) X hT hWσ_4 70 vl70_0 (by decide) rfl rfl bi dX1_isHandle_15 ?_
    refine w_if_le (tgt := 23) X (hWσ_4.r.ai 70 0 x1 rfl) dX1_isHandle_16 (by decide) (fun hc => ?_) (fun hc => ?_)
    · have h := h.1 hc
      refine lv_iconst (v := oI 0) X.1 X.2.1 dX1_isHandle_23 rfl ?_
      exact wret_Z X hr hlk hWσ_4 hS rZ_0 h dX1_isHandle_24
    · have h := h.2 hc
      refine lv_iconst (v := oI 1) X.1 X.2.1 dX1_isHandle_19 rfl ?_
      refine lv_goto (tgt := 24) X.1 X.2.1 dX1_isHandle_20 (by decide) ?_
      exact wret_Z X hr hlk hWσ_4 hS rZ_1 h dX1_isHandle_24
/-! House.close(I)I -/
set_option maxHeartbeats 4000000 in
set_option maxRecDepth 100000 in
theorem met_House_close (l : Launch) {w : Wp} (hV : Hvl w) (x1 : Int) (Q : Int → St → Prop) (σ : St) (rx1 : rI x1) (h : wp_House_close (wc w) (wtv w) x1 Q σ) : Met l yX1_close (ws_ yX1_close cX1_close 3 (some .int)) rm_House_close (PcW w σ [.ref (wad w 1 0), .int (oI x1)]) (QcI w Q) 0 0 (wA w) := by
  refine Met.ofW (cc := cX1_close) (maxL := 3) (ret := (some .int)) (by decide) rfl ?_
  intro p e st m args below meth c s₁ B hml hv
  obtain ⟨hargs, hW, hT⟩ := hv
  have X : CallFix p m c cX1_close 3 st _ lw_all RX1 := ⟨B.exec, B.bytes, hml, findClass_of_methodNamed B.named, fun w h => atoms_spec (ws := ws_ yX1_close cX1_close 3 (some .int)) B.pre w (List.mem_cons_of_mem _ h)⟩
  have hr := B.returns
  have hlk := B.notSynchronized
  have hS : va_S (wA w) st.heap st.heap [] := va_S.rf
  have vl1_0 : vl w 1 0 := hV.hv 1 rfl ⟨by omega, by show _ < (1 : Int); omega⟩
  have vl10_0 : vl w 10 0 := hV.hv 10 rfl ⟨by omega, by show _ < (4 : Int); omega⟩
  have vl70_0 : vl w 70 0 := hV.hv 70 rfl ⟨by omega, by show _ < (1 : Int); omega⟩
  have hl := lv_entry ([.ref (wad w 1 0), .int (oI x1)]) (n := 3) (Nat.le_of_ble_eq_true rfl)
  have hfr := lg_entry_eq m ([.ref (wad w 1 0), .int (oI x1)]) 3
  rw [← hargs] at hfr
  rw [hfr]
  generalize (lg_sl ([.ref (wad w 1 0), .int (oI x1)]) ++ List.replicate (3 - (lg_sl ([.ref (wad w 1 0), .int (oI x1)])).length) Slot.unset).toArray = ls at hl ⊢
  have hl : lv_has ls 3 [(0, .ref (wad w 1 0)), (1, .int (oI x1))] := hl
  unfold wp_House_close at h
  refine lv_aload_n X.1 X.2.1 dX1_close_0 rfl (lv_at hl 0 rfl) ?_
  refine wg (v := .int (oI (gI σ 69 0))) X hT hW 1 5 69 vl1_0 rfl rfl (by decide) rfl (by decide) in_X1 q1075 rfl dX1_close_1 ?_
  refine w_if_ne (tgt := 10) X ((hW.r.z 69 0 rfl).i) dX1_close_4 (by decide) (fun hc => ?_) (fun hc => ?_)
  · have h := h.1 hc
    refine lv_aload_n X.1 X.2.1 dX1_close_10 rfl (lv_at hl 0 rfl) ?_
    refine lv_iload_n X.1 X.2.1 dX1_close_11 rfl (lv_at hl 1 rfl) ?_
    refine wr_Z (rV (As := [.int (oI x1)]) (rest := []) X hT hW hS (met_House_isHandle l (w := w) hV x1 _ σ rx1 h) (cwV 1 X.2.2.2.2 (lw_V q1544 q1546 qs67 q131 q1547) rfl rfl rfl (by decide +kernel) ⟨Nat.le_of_ble_eq_true rfl, Nat.le_of_ble_eq_true rfl⟩) vl1_0 (by decide) rfl rfl hl.1 rfl (by first | exact Nat.le_of_ble_eq_true rfl | simp [catK, catI, catR, catL]) dX1_close_12 ⟨Nat.le_refl _, Nat.le_refl _⟩) hS (fun r_20 σ_21 H locs rr_20 rkσ_21 h hWσ_21 hS => ?_)
    have h := h rr_20 rkσ_21
    refine w_if_ne (tgt := 21) X rr_20.i dX1_close_15 (by decide) (fun hc => ?_) (fun hc => ?_)
    · have h := h.1 hc
      refine lv_aload_n X.1 X.2.1 dX1_close_21 rfl (lv_at hl 0 rfl) ?_
      refine wg (v := .ref (wad w 70 0)) X hT hWσ_21 1 6 70 vl1_0 rfl rfl (by decide) rfl (by decide) in_X1 q1076 rfl dX1_close_22 ?_
      refine lv_iload_n X.1 X.2.1 dX1_close_25 rfl (lv_at hl 1 rfl) ?_
      obtain ⟨bi, h⟩ := h
      refine w_iald (n := 8) X hT hWσ_21 70 vl70_0 (by decide) rfl rfl bi dX1_close_26 ?_
      refine w_top (fun y2_22 ey2_22 => ?_)
      have h := h y2_22 ey2_22
      have ry2_22 : rI y2_22 := by rw [ey2_22]; exact (hWσ_21.r.ai 70 0 x1 rfl)
      refine lv_istore_n (i := 2) (lv' := [(2, .int (oI y2_22)), (0, .ref (wad w 1 0)), (1, .int (oI x1))]) X.1 X.2.1 dX1_close_27 rfl hl (by decide) (by first | rfl | simp [catK, catI, catR, catL]) (fun ls hl => ?_)
      refine lv_aload_n X.1 X.2.1 dX1_close_28 rfl (lv_at hl 1 rfl) ?_
      refine wg (v := .ref (wad w 70 0)) X hT hWσ_21 1 6 70 vl1_0 rfl rfl (by decide) rfl (by decide) in_X1 q1076 rfl dX1_close_29 ?_
      refine lv_iload_n X.1 X.2.1 dX1_close_32 rfl (lv_at hl 2 rfl) ?_
      refine lv_iconst (v := oI 0) X.1 X.2.1 dX1_close_33 rfl ?_
      obtain ⟨bi, h⟩ := h
      refine w_iast (n := 8) X hT hWσ_21 hS 70 vl70_0 (by decide) rfl rfl bi rZ_0.i dX1_close_34 (fun H locs hN hS => ?_)
      obtain ⟨σ_23, eσ_23⟩ : ∃ x, x = sA σ_21 70 0 x1 0 := ⟨_, rfl⟩
      have hWσ_23 : Wo w σ_23 H := eσ_23 ▸ hN
      have h := h σ_23 eσ_23
      clear hN
      refine lv_aload_n X.1 X.2.1 dX1_close_35 rfl (lv_at hl 1 rfl) ?_
      refine lv_iload_n X.1 X.2.1 dX1_close_36 rfl (lv_at hl 0 rfl) ?_
      refine lv_aload_n X.1 X.2.1 dX1_close_37 rfl (lv_at hl 1 rfl) ?_
      refine wg (v := .ref (wad w 10 0)) X hT hWσ_23 1 14 78 vl1_0 rfl rfl (by decide) rfl (by decide) in_X1 q1084 rfl dX1_close_38 ?_
      refine wr_Z (rV (As := [.int (oI y2_22), .ref (wad w 10 0)]) (rest := []) X hT hWσ_23 hS (met_House_read l (w := w) hV y2_22 0 _ σ_23 ry2_22 (by omega) h) (cwV 2 X.2.2.2.2 (lw_V q1177 q1179 qs32 q131 q1180) rfl rfl rfl (by decide +kernel) ⟨Nat.le_of_ble_eq_true rfl, Nat.le_of_ble_eq_true rfl⟩) vl1_0 (by decide) rfl rfl hl.1 rfl (by first | exact Nat.le_of_ble_eq_true rfl | simp [catK, catI, catR, catL]) dX1_close_41 ⟨Nat.le_refl _, Nat.le_refl _⟩) hS (fun r_24 σ_25 H locs rr_24 rkσ_25 h hWσ_25 hS => ?_)
      have h := h rr_24 rkσ_25
      refine lv_pop X.1 X.2.1 dX1_close_44 rfl ?_
      refine lv_aload_n X.1 X.2.1 dX1_close_45 rfl (lv_at hl 1 rfl) ?_
      refine wg (v := .ref (wad w 10 0)) X hT hWσ_25 1 14 78 vl1_0 rfl rfl (by decide) rfl (by decide) in_X1 q1084 rfl dX1_close_46 ?_
      refine wg (v := .int (oI (gI σ_25 642 0))) X hT hWσ_25 10 2 642 vl10_0 rfl rfl (by decide) rfl (by decide) in_X3 q191 rfl dX1_close_49 ?_
      refine w_if_gt (tgt := 63) X (hWσ_25.r.i 642 0 rfl) dX1_close_52 (by decide) (fun hc => ?_) (fun hc => ?_)
      · have h := h.1 hc
        refine lv_iconst (v := oI 0) X.1 X.2.1 dX1_close_63 rfl ?_
        exact wret_I X hr hlk hWσ_25 hS rZ_0.i h dX1_close_64
      · have h := h.2 hc
        refine lv_aload_n X.1 X.2.1 dX1_close_55 rfl (lv_at hl 1 rfl) ?_
        refine lv_iload_n X.1 X.2.1 dX1_close_56 rfl (lv_at hl 0 rfl) ?_
        refine wr_Z (rV (As := [.int (oI y2_22)]) (rest := []) X hT hWσ_25 hS (met_House_isOpen l (w := w) hV y2_22 _ σ_25 ry2_22 h) (cwV 1 X.2.2.2.2 (lw_V q1412 q1414 qs56 q131 q1415) rfl rfl rfl (by decide +kernel) ⟨Nat.le_of_ble_eq_true rfl, Nat.le_of_ble_eq_true rfl⟩) vl1_0 (by decide) rfl rfl hl.1 rfl (by first | exact Nat.le_of_ble_eq_true rfl | simp [catK, catI, catR, catL]) dX1_close_57 ⟨Nat.le_refl _, Nat.le_refl _⟩) hS (fun r_26 σ_27 H locs rr_26 rkσ_27 h hWσ_27 hS => ?_)
        have h := h rr_26 rkσ_27
        refine w_if_eq (tgt := 65) X rr_26.i dX1_close_60 (by decide) (fun hc => ?_) (fun hc => ?_)
        · have h := h.1 hc
          refine lv_aload_n X.1 X.2.1 dX1_close_65 rfl (lv_at hl 1 rfl) ?_
          refine lv_dup X.1 X.2.1 dX1_close_66 rfl ?_
          refine wg (v := .int (oI (gI σ_27 71 0))) X hT hWσ_27 1 7 71 vl1_0 rfl rfl (by decide) rfl (by decide) in_X1 q1077 rfl dX1_close_67 ?_
          refine lv_aload_n X.1 X.2.1 dX1_close_70 rfl (lv_at hl 1 rfl) ?_
          refine lv_iload_n X.1 X.2.1 dX1_close_71 rfl (lv_at hl 0 rfl) ?_
          refine wr_I (rV (As := [.int (oI y2_22)]) (rest := [.int (oI (gI σ_27 71 0)), .ref (wad w 1 0)]) X hT hWσ_27 hS (met_House_roomOf l (w := w) hV y2_22 _ σ_27 ry2_22 h) (cwV 1 X.2.2.2.2 (lw_V q1416 q1418 qs57 q131 q1419) rfl rfl rfl (by decide +kernel) ⟨Nat.le_of_ble_eq_true rfl, Nat.le_of_ble_eq_true rfl⟩) vl1_0 (by decide) rfl rfl hl.1 rfl (by first | exact Nat.le_of_ble_eq_true rfl | simp [catK, catI, catR, catL]) dX1_close_72 ⟨Nat.le_refl _, Nat.le_refl _⟩) hS (fun r_28 σ_29 H locs rr_28 rkσ_29 h hWσ_29 hS => ?_)
          have h := h rr_28 rkσ_29
          refine w_isub X dX1_close_75 ?_
          refine wput (z := w32 ((gI σ_27 71 0) - r_28)) X hT hWσ_29 hS 1 7 71 vl1_0 rfl rfl (by decide) rfl (by decide) in_X1 tyX1 tyX1_ok nmX1 q1077 rfl rfl (w32_r _) (fv0 w rfl) rfl rfl dX1_close_76 (fun H locs hN hS => ?_)
          obtain ⟨σ_30, eσ_30⟩ : ∃ x, x = sI σ_29 71 0 (w32 ((gI σ_27 71 0) - r_28)) := ⟨_, rfl⟩
          have hWσ_30 : Wo w σ_30 H := eσ_30 ▸ hN
          have h := h σ_30 eσ_30
          clear hN
          refine lv_aload_n X.1 X.2.1 dX1_close_79 rfl (lv_at hl 1 rfl) ?_
          refine lv_dup X.1 X.2.1 dX1_close_80 rfl ?_
          refine wg (v := .int (oI (gI σ_30 72 0))) X hT hWσ_30 1 8 72 vl1_0 rfl rfl (by decide) rfl (by decide) in_X1 q1078 rfl dX1_close_81 ?_
          refine lv_iconst (v := oI 1) X.1 X.2.1 dX1_close_84 rfl ?_
          refine w_isub X dX1_close_85 ?_
          refine wput (z := w32 ((gI σ_30 72 0) - 1)) X hT hWσ_30 hS 1 8 72 vl1_0 rfl rfl (by decide) rfl (by decide) in_X1 tyX1 tyX1_ok nmX1 q1078 rfl rfl (w32_r _) (fv0 w rfl) rfl rfl dX1_close_86 (fun H locs hN hS => ?_)
          obtain ⟨σ_31, eσ_31⟩ : ∃ x, x = sI σ_30 72 0 (w32 ((gI σ_30 72 0) - 1)) := ⟨_, rfl⟩
          have hWσ_31 : Wo w σ_31 H := eσ_31 ▸ hN
          have h := h σ_31 eσ_31
          clear hN
          refine lv_aload_n X.1 X.2.1 dX1_close_89 rfl (lv_at hl 1 rfl) ?_
          refine wg (v := .ref (wad w 10 0)) X hT hWσ_31 1 14 78 vl1_0 rfl rfl (by decide) rfl (by decide) in_X1 q1084 rfl dX1_close_90 ?_
          refine lv_iconst (v := oI 0) X.1 X.2.1 dX1_close_93 rfl ?_
          refine wput (z := 0) X hT hWσ_31 hS 10 1 641 vl10_0 rfl rfl (by decide) rfl (by decide) in_X3 tyX3 tyX3_ok nmX3 q190 rfl rfl rZ_0.i (fv0 w rfl) rfl rfl dX1_close_94 (fun H locs hN hS => ?_)
          obtain ⟨σ_32, eσ_32⟩ : ∃ x, x = sI σ_31 641 0 0 := ⟨_, rfl⟩
          have hWσ_32 : Wo w σ_32 H := eσ_32 ▸ hN
          have h := h σ_32 eσ_32
          clear hN
          refine lv_aload_n X.1 X.2.1 dX1_close_97 rfl (lv_at hl 1 rfl) ?_
          refine wr_V (rV (As := []) (rest := []) X hT hWσ_32 hS (met_House_begin l (w := w) hV _ σ_32 h) (cwV 0 X.2.2.2.2 (lw_V q1231 q1233 qs35 q131 q1234) rfl rfl rfl (by decide +kernel) ⟨Nat.le_of_ble_eq_true rfl, Nat.le_of_ble_eq_true rfl⟩) vl1_0 (by decide) rfl rfl hl.1 rfl (by first | exact Nat.le_of_ble_eq_true rfl | simp [catK, catI, catR, catL]) dX1_close_98 ⟨Nat.le_refl _, Nat.le_refl _⟩) hS (fun σ_34 H locs rkσ_34 h hWσ_34 hS => ?_)
          have h := h rkσ_34
          refine lv_aload_n X.1 X.2.1 dX1_close_101 rfl (lv_at hl 1 rfl) ?_
          refine lv_aload_n X.1 X.2.1 dX1_close_102 rfl (lv_at hl 1 rfl) ?_
          refine wg (v := .ref (wad w 10 0)) X hT hWσ_34 1 14 78 vl1_0 rfl rfl (by decide) rfl (by decide) in_X1 q1084 rfl dX1_close_103 ?_
          refine lv_iconst (v := oI 1) X.1 X.2.1 dX1_close_106 rfl ?_
          refine wr_V (rV (As := [.ref (wad w 10 0), .int (oI 1)]) (rest := []) X hT hWσ_34 hS (met_House_addInode l (w := w) hV 0 1 _ σ_34 (by omega) rZ_1 h) (cwV 2 X.2.2.2.2 (lw_V q1244 q1246 qs37 q131 q1247) rfl rfl rfl (by decide +kernel) ⟨Nat.le_of_ble_eq_true rfl, Nat.le_of_ble_eq_true rfl⟩) vl1_0 (by decide) rfl rfl hl.1 rfl (by first | exact Nat.le_of_ble_eq_true rfl | simp [catK, catI, catR, catL]) dX1_close_107 ⟨Nat.le_refl _, Nat.le_refl _⟩) hS (fun σ_36 H locs rkσ_36 h hWσ_36 hS => ?_)
          have h := h rkσ_36
          refine lv_aload_n X.1 X.2.1 dX1_close_110 rfl (lv_at hl 1 rfl) ?_
          refine wr_V (rV (As := []) (rest := []) X hT hWσ_36 hS (met_House_hand l (w := w) hV _ σ_36 h) (cwV 0 X.2.2.2.2 (lw_V q1253 q1255 qs39 q131 q1256) rfl rfl rfl (by decide +kernel) ⟨Nat.le_of_ble_eq_true rfl, Nat.le_of_ble_eq_true rfl⟩) vl1_0 (by decide) rfl rfl hl.1 rfl (by first | exact Nat.le_of_ble_eq_true rfl | simp [catK, catI, catR, catL]) dX1_close_111 ⟨Nat.le_refl _, Nat.le_refl _⟩) hS (fun σ_38 H locs rkσ_38 h hWσ_38 hS => ?_)
          have h := h rkσ_38
          refine lv_iconst (v := oI 1) X.1 X.2.1 dX1_close_114 rfl ?_
          exact wret_I X hr hlk hWσ_38 hS rZ_1.i h dX1_close_115
        · have h := h.2 hc
          refine lv_iconst (v := oI 0) X.1 X.2.1 dX1_close_63 rfl ?_
          exact wret_I X hr hlk hWσ_27 hS rZ_0.i h dX1_close_64
    · have h := h.2 hc
      refine lv_bipush (v := oI (-3)) X.1 X.2.1 dX1_close_18 (by decide) ?_
      exact wret_I X hr hlk hWσ_21 hS ((rB_lit (-3) (by decide)).i) h dX1_close_20
  · have h := h.2 hc
    refine lv_bipush (v := oI (-2)) X.1 X.2.1 dX1_close_7 (by decide) ?_
    exact wret_I X hr hlk hW hS ((rB_lit (-2) (by decide)).i) h dX1_close_9
/-! House.opened(I)I -/
set_option maxHeartbeats 4000000 in
set_option maxRecDepth 100000 in
theorem met_House_opened (l : Launch) {w : Wp} (hV : Hvl w) (x1 : Int) (Q : Int → St → Prop) (σ : St) (rx1 : rI x1) (h : wp_House_opened (wc w) (wtv w) x1 Q σ) : Met l yX1_opened (ws_ yX1_opened cX1_opened 2 (some .int)) rm_House_opened (PcW w σ [.ref (wad w 1 0), .int (oI x1)]) (QcI w Q) 0 0 (wA w) := by
  refine Met.ofW (cc := cX1_opened) (maxL := 2) (ret := (some .int)) (by decide) rfl ?_
  intro p e st m args below meth c s₁ B hml hv
  obtain ⟨hargs, hW, hT⟩ := hv
  have X : CallFix p m c cX1_opened 2 st _ lw_all RX1 := ⟨B.exec, B.bytes, hml, findClass_of_methodNamed B.named, fun w h => atoms_spec (ws := ws_ yX1_opened cX1_opened 2 (some .int)) B.pre w (List.mem_cons_of_mem _ h)⟩
  have hr := B.returns
  have hlk := B.notSynchronized
  have hS : va_S (wA w) st.heap st.heap [] := va_S.rf
  have vl1_0 : vl w 1 0 := hV.hv 1 rfl ⟨by omega, by show _ < (1 : Int); omega⟩
  have vl70_0 : vl w 70 0 := hV.hv 70 rfl ⟨by omega, by show _ < (1 : Int); omega⟩
  have hl := lv_entry ([.ref (wad w 1 0), .int (oI x1)]) (n := 2) (Nat.le_of_ble_eq_true rfl)
  have hfr := lg_entry_eq m ([.ref (wad w 1 0), .int (oI x1)]) 2
  rw [← hargs] at hfr
  rw [hfr]
  generalize (lg_sl ([.ref (wad w 1 0), .int (oI x1)]) ++ List.replicate (2 - (lg_sl ([.ref (wad w 1 0), .int (oI x1)])).length) Slot.unset).toArray = ls at hl ⊢
  have hl : lv_has ls 2 [(0, .ref (wad w 1 0)), (1, .int (oI x1))] := hl
  unfold wp_House_opened at h
  refine lv_aload_n X.1 X.2.1 dX1_opened_0 rfl (lv_at hl 0 rfl) ?_
  refine wg (v := .int (oI (gI σ 69 0))) X hT hW 1 5 69 vl1_0 rfl rfl (by decide) rfl (by decide) in_X1 q1075 rfl dX1_opened_1 ?_
  refine w_if_ne (tgt := 12) X ((hW.r.z 69 0 rfl).i) dX1_opened_4 (by decide) (fun hc => ?_) (fun hc => ?_)
  · have h := h.1 hc
    refine lv_aload_n X.1 X.2.1 dX1_opened_12 rfl (lv_at hl 0 rfl) ?_
    refine lv_iload_n X.1 X.2.1 dX1_opened_13 rfl (lv_at hl 1 rfl) ?_
    refine wr_Z (rV (As := [.int (oI x1)]) (rest := []) X hT hW hS (met_House_isHandle l (w := w) hV x1 _ σ rx1 h) (cwV 1 X.2.2.2.2 (lw_V q1544 q1546 qs67 q131 q1547) rfl rfl rfl (by decide +kernel) ⟨Nat.le_of_ble_eq_true rfl, Nat.le_of_ble_eq_true rfl⟩) vl1_0 (by decide) rfl rfl hl.1 rfl (by first | exact Nat.le_of_ble_eq_true rfl | simp [catK, catI, catR, catL]) dX1_opened_14 ⟨Nat.le_refl _, Nat.le_refl _⟩) hS (fun r_3 σ_4 H locs rr_3 rkσ_4 h hWσ_4 hS => ?_)
    have h := h rr_3 rkσ_4
    refine w_if_eq (tgt := 29) X rr_3.i dX1_opened_17 (by decide) (fun hc => ?_) (fun hc => ?_)
    · have h := h.1 hc
      refine lv_iconst (v := oI (-1)) X.1 X.2.1 dX1_opened_29 rfl ?_
      exact wret_I X hr hlk hWσ_4 hS ((rB_lit (-1) (by decide)).i) h dX1_opened_30
    · have h := h.2 hc
      refine lv_aload_n X.1 X.2.1 dX1_opened_20 rfl (lv_at hl 0 rfl) ?_
      refine wg (v := .ref (wad w 70 0)) X hT hWσ_4 1 6 70 vl1_0 rfl rfl (by decide) rfl (by decide) in_X1 q1076 rfl dX1_opened_21 ?_
      refine lv_iload_n X.1 X.2.1 dX1_opened_24 rfl (lv_at hl 1 rfl) ?_
      obtain ⟨bi, h⟩ := h
      refine w_iald (n := 8) X hT hWσ_4 70 vl70_0 (by decide) rfl rfl bi dX1_opened_25 ?_
      refine lv_goto (tgt := 30) X.1 X.2.1 dX1_opened_26 (by decide) ?_
      exact wret_I X hr hlk hWσ_4 hS (hWσ_4.r.ai 70 0 x1 rfl) h dX1_opened_30
  · have h := h.2 hc
    refine lv_bipush (v := oI (-2)) X.1 X.2.1 dX1_opened_7 (by decide) ?_
    refine lv_goto (tgt := 30) X.1 X.2.1 dX1_opened_9 (by decide) ?_
    exact wret_I X hr hlk hW hS ((rB_lit (-2) (by decide)).i) h dX1_opened_30
/-! House.byteOf(IJI)B -/
set_option maxHeartbeats 4000000 in
set_option maxRecDepth 100000 in
theorem met_House_byteOf (l : Launch) {w : Wp} (hV : Hvl w) (x1 : Int) (x2 : Int) (x4 : Int) (Q : Int → St → Prop) (σ : St) (rx1 : rI x1) (rx2 : rJ x2) (rx4 : rI x4) (h : wp_House_byteOf (wc w) (wtv w) x1 x2 x4 Q σ) : Met l yX1_byteOf (ws_ yX1_byteOf cX1_byteOf 5 (some .byte)) rm_House_byteOf (PcW w σ [.ref (wad w 1 0), .int (oI x1), .long (oL x2), .int (oI x4)]) (QcB w Q) 0 0 (wA w) := by
  refine Met.ofW (cc := cX1_byteOf) (maxL := 5) (ret := (some .byte)) (by decide) rfl ?_
  intro p e st m args below meth c s₁ B hml hv
  obtain ⟨hargs, hW, hT⟩ := hv
  have X : CallFix p m c cX1_byteOf 5 st _ lw_all RX1 := ⟨B.exec, B.bytes, hml, findClass_of_methodNamed B.named, fun w h => atoms_spec (ws := ws_ yX1_byteOf cX1_byteOf 5 (some .byte)) B.pre w (List.mem_cons_of_mem _ h)⟩
  have hr := B.returns
  have hlk := B.notSynchronized
  have hS : va_S (wA w) st.heap st.heap [] := va_S.rf
  have vl1_0 : vl w 1 0 := hV.hv 1 rfl ⟨by omega, by show _ < (1 : Int); omega⟩
  have vl85_0 : vl w 85 0 := hV.hv 85 rfl ⟨by omega, by show _ < (1 : Int); omega⟩
  have hl := lv_entry ([.ref (wad w 1 0), .int (oI x1), .long (oL x2), .int (oI x4)]) (n := 5) (Nat.le_of_ble_eq_true rfl)
  have hfr := lg_entry_eq m ([.ref (wad w 1 0), .int (oI x1), .long (oL x2), .int (oI x4)]) 5
  rw [← hargs] at hfr
  rw [hfr]
  generalize (lg_sl ([.ref (wad w 1 0), .int (oI x1), .long (oL x2), .int (oI x4)]) ++ List.replicate (5 - (lg_sl ([.ref (wad w 1 0), .int (oI x1), .long (oL x2), .int (oI x4)])).length) Slot.unset).toArray = ls at hl ⊢
  have hl : lv_has ls 5 [(0, .ref (wad w 1 0)), (1, .int (oI x1)), (2, .long (oL x2)), (4, .int (oI x4))] := hl
  unfold wp_House_byteOf at h
  refine lv_iload_n X.1 X.2.1 dX1_byteOf_0 rfl (lv_at hl 1 rfl) ?_
  refine w_if_ne (tgt := 16) X rx1 dX1_byteOf_1 (by decide) (fun hc => ?_) (fun hc => ?_)
  · have h := h.1 hc
    refine lv_iload_n X.1 X.2.1 dX1_byteOf_16 rfl (lv_at hl 1 rfl) ?_
    refine lv_iconst (v := oI 1) X.1 X.2.1 dX1_byteOf_17 rfl ?_
    refine w_icmp_ne (tgt := 35) X rx1 rZ_1.i dX1_byteOf_18 (by decide) (fun hc => ?_) (fun hc => ?_)
    · have h := h.1 hc
      refine lv_aload_n X.1 X.2.1 dX1_byteOf_35 rfl (lv_at hl 0 rfl) ?_
      refine wg (v := .ref (wad w 85 0)) X hT hW 1 21 85 vl1_0 rfl rfl (by decide) rfl (by decide) in_X1 q1091 rfl dX1_byteOf_36 ?_
      refine lv_iload X.1 X.2.1 dX1_byteOf_39 (lv_at hl 3 rfl) ?_
      obtain ⟨bi, h⟩ := h
      refine w_bald (n := 2048) X hT hW 85 vl85_0 (by decide) rfl rfl bi dX1_byteOf_41 ?_
      exact wret_B X hr hlk hW hS (hW.r.ab 85 0 x4 rfl) h dX1_byteOf_42
    · have h := h.2 hc
      refine lv_lload_n X.1 X.2.1 dX1_byteOf_21 rfl (lv_at hl 2 rfl) ?_
      refine w_ldc2 X (z := 7) q1566 (by decide) dX1_byteOf_22 ?_
      refine lv_iload X.1 X.2.1 dX1_byteOf_25 (lv_at hl 3 rfl) ?_
      refine w_i2l X rx4 dX1_byteOf_27 ?_
      refine w_lmul X dX1_byteOf_28 ?_
      refine w_ladd X dX1_byteOf_29 ?_
      refine w_l2i X dX1_byteOf_30 ?_
      refine w_i2b X dX1_byteOf_31 ?_
      refine lv_goto (tgt := 42) X.1 X.2.1 dX1_byteOf_32 (by decide) ?_
      exact wret_B X hr hlk hW hS (b8_r _) h dX1_byteOf_42
  · have h := h.2 hc
    refine lv_lload_n X.1 X.2.1 dX1_byteOf_4 rfl (lv_at hl 2 rfl) ?_
    refine lv_bipush (v := oI 8) X.1 X.2.1 dX1_byteOf_5 (by decide) ?_
    refine lv_iload X.1 X.2.1 dX1_byteOf_7 (lv_at hl 3 rfl) ?_
    refine w_imul X dX1_byteOf_9 ?_
    refine w_lushr X dX1_byteOf_10 ?_
    refine w_l2i X dX1_byteOf_11 ?_
    refine w_i2b X dX1_byteOf_12 ?_
    refine lv_goto (tgt := 42) X.1 X.2.1 dX1_byteOf_13 (by decide) ?_
    exact wret_B X hr hlk hW hS (b8_r _) h dX1_byteOf_42
/-! House.put(IIIIJ)I -/
set_option maxHeartbeats 4000000 in
set_option maxRecDepth 100000 in
theorem wk_House_put_L110B {p : Program} {l : Launch} {e : Env} {st : State} {m : MethodId} {args : Array Value} {below : List Frame} {meth : Method} {c : Code} {w : Wp} {x1 : Int} {x2 : Int} {x3 : Int} {x4 : Int} {x5 : Int} {Q : Int → St → Prop} (X : CallFix p m c cX1_put 15 st args lw_all RX1) (hr : meth.sig.returnType = (some .int)) (hlk : meth.locks = false) (hT : Tb w st) (hV : Hvl w) (rx1 : rI x1) (rx2 : rI x2) (rx3 : rI x3) (rx4 : rI x4) (rx5 : rJ x5) (K3 : Int → St → Prop) (K110 : Int → Int → Int → Int → Int → Int → Int → St → Prop) (hK3 : ∀ (y7 : Int) (σ : St) (H : Heap) (locs : List Loc) (ls : Array Slot), rI y7 → lv_has ls 15 [(0, .ref (wad w 1 0)), (1, .int (oI x1)), (2, .int (oI x2)), (3, .int (oI x3)), (4, .int (oI x4)), (5, .long (oL x5)), (7, .int (oI y7))] → Wo w σ H → va_S (wA w) st.heap H locs → K3 y7 σ → W p l e (headSpec (ws_ yX1_put cX1_put 15 (some .int)) rm_House_put).room st m args below meth c H locs 0 0 (MQ below (QcI w Q) args st 0 0 (wA w)) (F0 m 3 ls [])) (hK110 : ∀ (y7 y8 y9 y10 y12 y13 y14 : Int) (σ : St) (H : Heap) (locs : List Loc) (ls : Array Slot), rI y7 → rI y8 → rI y9 → rI y10 → rI y12 → rI y13 → rI y14 → lv_has ls 15 [(0, .ref (wad w 1 0)), (1, .int (oI x1)), (2, .int (oI x2)), (3, .int (oI x3)), (4, .int (oI x4)), (5, .long (oL x5)), (7, .int (oI y7)), (8, .int (oI y8)), (9, .int (oI y9)), (10, .int (oI y10)), (12, .int (oI y12)), (13, .int (oI y13)), (14, .int (oI y14))] → Wo w σ H → va_S (wA w) st.heap H locs → K110 y7 y8 y9 y10 y12 y13 y14 σ → W p l e (headSpec (ws_ yX1_put cX1_put 15 (some .int)) rm_House_put).room st m args below meth c H locs 0 0 (MQ below (QcI w Q) args st 0 0 (wA w)) (F0 m 110 ls [])) : ∀ (y7 y8 y9 y10 y12 y13 y14 : Int) (σ : St) (H : Heap) (locs : List Loc) (ls : Array Slot), rI y7 → rI y8 → rI y9 → rI y10 → rI y12 → rI y13 → rI y14 → lv_has ls 15 [(0, .ref (wad w 1 0)), (1, .int (oI x1)), (2, .int (oI x2)), (3, .int (oI x3)), (4, .int (oI x4)), (5, .long (oL x5)), (7, .int (oI y7)), (8, .int (oI y8)), (9, .int (oI y9)), (10, .int (oI y10)), (12, .int (oI y12)), (13, .int (oI y13)), (14, .int (oI y14))] → Wo w σ H → va_S (wA w) st.heap H locs → wp_House_put_L110 (wc w) (wtv w) x1 x2 x3 x4 x5 Q K3 K110 y7 y8 y9 y10 y12 y13 y14 σ → W p l e (headSpec (ws_ yX1_put cX1_put 15 (some .int)) rm_House_put).room st m args below meth c H locs 0 0 (MQ below (QcI w Q) args st 0 0 (wA w)) (F0 m 110 ls []) := by
  have vl1_0 : vl w 1 0 := hV.hv 1 rfl ⟨by omega, by show _ < (1 : Int); omega⟩
  have vl10_0 : vl w 10 0 := hV.hv 10 rfl ⟨by omega, by show _ < (4 : Int); omega⟩
  have vl77_0 : vl w 77 0 := hV.hv 77 rfl ⟨by omega, by show _ < (1 : Int); omega⟩
  intro y7 y8 y9 y10 y12 y13 y14 σ H locs ls ry7 ry8 ry9 ry10 ry12 ry13 ry14 hl hW hS h
  unfold wp_House_put_L110 at h
  refine lv_iload X.1 X.2.1 dX1_put_110 (lv_at hl 12 rfl) ?_
  refine lv_iload X.1 X.2.1 dX1_put_112 (lv_at hl 9 rfl) ?_
  refine w_icmp_ge (tgt := 146) X ry14 ry10 dX1_put_114 (by decide) (fun hc => ?_) (fun hc => ?_)
  · have h := h.1 hc
    refine lv_aload_n X.1 X.2.1 dX1_put_146 rfl (lv_at hl 0 rfl) ?_
    refine lv_iload_n X.1 X.2.1 dX1_put_147 rfl (lv_at hl 1 rfl) ?_
    refine lv_aload_n X.1 X.2.1 dX1_put_148 rfl (lv_at hl 0 rfl) ?_
    refine wg (v := .ref (wad w 10 0)) X hT hW 1 14 78 vl1_0 rfl rfl (by decide) rfl (by decide) in_X1 q1084 rfl dX1_put_149 ?_
    refine wr_Z (rV (As := [.int (oI x1), .ref (wad w 10 0)]) (rest := []) X hT hW hS (met_House_read l (w := w) hV x1 0 _ σ rx1 (by omega) h) (cwV 2 X.2.2.2.2 (lw_V q1177 q1179 qs32 q131 q1180) rfl rfl rfl (by decide +kernel) ⟨Nat.le_of_ble_eq_true rfl, Nat.le_of_ble_eq_true rfl⟩) vl1_0 (by decide) rfl rfl hl.1 rfl (by first | exact Nat.le_of_ble_eq_true rfl | simp [catK, catI, catR, catL]) dX1_put_152 ⟨Nat.le_refl _, Nat.le_refl _⟩) hS (fun r_85 σ_86 H locs rr_85 rkσ_86 h hWσ_86 hS => ?_)
    have h := h rr_85 rkσ_86
    refine lv_pop X.1 X.2.1 dX1_put_155 rfl ?_
    refine lv_aload_n X.1 X.2.1 dX1_put_156 rfl (lv_at hl 0 rfl) ?_
    refine wg (v := .ref (wad w 10 0)) X hT hWσ_86 1 14 78 vl1_0 rfl rfl (by decide) rfl (by decide) in_X1 q1084 rfl dX1_put_157 ?_
    refine lv_aload_n X.1 X.2.1 dX1_put_160 rfl (lv_at hl 0 rfl) ?_
    refine wg (v := .ref (wad w 10 0)) X hT hWσ_86 1 14 78 vl1_0 rfl rfl (by decide) rfl (by decide) in_X1 q1084 rfl dX1_put_161 ?_
    refine wg (v := .int (oI (gI σ_86 643 0))) X hT hWσ_86 10 3 643 vl10_0 rfl rfl (by decide) rfl (by decide) in_X3 q192 rfl dX1_put_164 ?_
    refine lv_iload_n X.1 X.2.1 dX1_put_167 rfl (lv_at hl 2 rfl) ?_
    refine lv_iload X.1 X.2.1 dX1_put_168 (lv_at hl 6 rfl) ?_
    refine w_iadd X dX1_put_170 ?_
    refine lv_iload X.1 X.2.1 dX1_put_171 (lv_at hl 9 rfl) ?_
    refine w_iadd X dX1_put_173 ?_
    refine w_mmax X (hWσ_86.r.i 643 0 rfl) (w32_r _) hl.1 q1561 q924 q149 q925 (Nat.le_of_ble_eq_true rfl) (Nat.le_of_ble_eq_true rfl) (Nat.le_refl _) (Nat.le_refl _) dX1_put_174 ?_
    refine wput (z := max (gI σ_86 643 0) (w32 ((w32 (x2 + y7)) + y10))) X hT hWσ_86 hS 10 3 643 vl10_0 rfl rfl (by decide) rfl (by decide) in_X3 tyX3 tyX3_ok nmX3 q192 rfl rfl (max_rI (hWσ_86.r.i 643 0 rfl) (w32_r _)) (fv0 w rfl) rfl rfl dX1_put_177 (fun H locs hN hS => ?_)
    obtain ⟨σ_87, eσ_87⟩ : ∃ x, x = sI σ_86 643 0 (max (gI σ_86 643 0) (w32 ((w32 (x2 + y7)) + y10))) := ⟨_, rfl⟩
    have hWσ_87 : Wo w σ_87 H := eσ_87 ▸ hN
    have h := h σ_87 eσ_87
    clear hN
    refine lv_aload_n X.1 X.2.1 dX1_put_180 rfl (lv_at hl 0 rfl) ?_
    refine wr_V (rV (As := []) (rest := []) X hT hWσ_87 hS (met_House_begin l (w := w) hV _ σ_87 h) (cwV 0 X.2.2.2.2 (lw_V q1231 q1233 qs35 q131 q1234) rfl rfl rfl (by decide +kernel) ⟨Nat.le_of_ble_eq_true rfl, Nat.le_of_ble_eq_true rfl⟩) vl1_0 (by decide) rfl rfl hl.1 rfl (by first | exact Nat.le_of_ble_eq_true rfl | simp [catK, catI, catR, catL]) dX1_put_181 ⟨Nat.le_refl _, Nat.le_refl _⟩) hS (fun σ_89 H locs rkσ_89 h hWσ_89 hS => ?_)
    have h := h rkσ_89
    refine lv_aload_n X.1 X.2.1 dX1_put_184 rfl (lv_at hl 0 rfl) ?_
    refine lv_iload_n X.1 X.2.1 dX1_put_185 rfl (lv_at hl 1 rfl) ?_
    refine lv_iload X.1 X.2.1 dX1_put_186 (lv_at hl 7 rfl) ?_
    refine lv_iload X.1 X.2.1 dX1_put_188 (lv_at hl 10 rfl) ?_
    refine wr_V (rV (As := [.int (oI x1), .int (oI y8), .int (oI y12)]) (rest := []) X hT hWσ_89 hS (met_House_addPiece l (w := w) hV x1 y8 y12 _ σ_89 rx1 ry8 ry12 h) (cwV 3 X.2.2.2.2 (lw_V q1249 q1251 qs38 q131 q1252) rfl rfl rfl (by decide +kernel) ⟨Nat.le_of_ble_eq_true rfl, Nat.le_of_ble_eq_true rfl⟩) vl1_0 (by decide) rfl rfl hl.1 rfl (by first | exact Nat.le_of_ble_eq_true rfl | simp [catK, catI, catR, catL]) dX1_put_190 ⟨Nat.le_refl _, Nat.le_refl _⟩) hS (fun σ_91 H locs rkσ_91 h hWσ_91 hS => ?_)
    have h := h rkσ_91
    refine lv_aload_n X.1 X.2.1 dX1_put_193 rfl (lv_at hl 0 rfl) ?_
    refine lv_aload_n X.1 X.2.1 dX1_put_194 rfl (lv_at hl 0 rfl) ?_
    refine wg (v := .ref (wad w 10 0)) X hT hWσ_91 1 14 78 vl1_0 rfl rfl (by decide) rfl (by decide) in_X1 q1084 rfl dX1_put_195 ?_
    refine lv_iconst (v := oI 1) X.1 X.2.1 dX1_put_198 rfl ?_
    refine wr_V (rV (As := [.ref (wad w 10 0), .int (oI 1)]) (rest := []) X hT hWσ_91 hS (met_House_addInode l (w := w) hV 0 1 _ σ_91 (by omega) rZ_1 h) (cwV 2 X.2.2.2.2 (lw_V q1244 q1246 qs37 q131 q1247) rfl rfl rfl (by decide +kernel) ⟨Nat.le_of_ble_eq_true rfl, Nat.le_of_ble_eq_true rfl⟩) vl1_0 (by decide) rfl rfl hl.1 rfl (by first | exact Nat.le_of_ble_eq_true rfl | simp [catK, catI, catR, catL]) dX1_put_199 ⟨Nat.le_refl _, Nat.le_refl _⟩) hS (fun σ_93 H locs rkσ_93 h hWσ_93 hS => ?_)
    have h := h rkσ_93
    refine lv_aload_n X.1 X.2.1 dX1_put_202 rfl (lv_at hl 0 rfl) ?_
    refine wr_V (rV (As := []) (rest := []) X hT hWσ_93 hS (met_House_hand l (w := w) hV _ σ_93 h) (cwV 0 X.2.2.2.2 (lw_V q1253 q1255 qs39 q131 q1256) rfl rfl rfl (by decide +kernel) ⟨Nat.le_of_ble_eq_true rfl, Nat.le_of_ble_eq_true rfl⟩) vl1_0 (by decide) rfl rfl hl.1 rfl (by first | exact Nat.le_of_ble_eq_true rfl | simp [catK, catI, catR, catL]) dX1_put_203 ⟨Nat.le_refl _, Nat.le_refl _⟩) hS (fun σ_95 H locs rkσ_95 h hWσ_95 hS => ?_)
    have h := h rkσ_95
    refine lv_aload_n X.1 X.2.1 dX1_put_206 rfl (lv_at hl 0 rfl) ?_
    refine lv_dup X.1 X.2.1 dX1_put_207 rfl ?_
    refine wg (v := .int (oI (gI σ_95 71 0))) X hT hWσ_95 1 7 71 vl1_0 rfl rfl (by decide) rfl (by decide) in_X1 q1077 rfl dX1_put_208 ?_
    refine lv_iload X.1 X.2.1 dX1_put_211 (lv_at hl 11 rfl) ?_
    refine w_iadd X dX1_put_213 ?_
    refine wput (z := w32 ((gI σ_95 71 0) + y13)) X hT hWσ_95 hS 1 7 71 vl1_0 rfl rfl (by decide) rfl (by decide) in_X1 tyX1 tyX1_ok nmX1 q1077 rfl rfl (w32_r _) (fv0 w rfl) rfl rfl dX1_put_214 (fun H locs hN hS => ?_)
    obtain ⟨σ_96, eσ_96⟩ : ∃ x, x = sI σ_95 71 0 (w32 ((gI σ_95 71 0) + y13)) := ⟨_, rfl⟩
    have hWσ_96 : Wo w σ_96 H := eσ_96 ▸ hN
    have h := h σ_96 eσ_96
    clear hN
    refine lv_iload X.1 X.2.1 dX1_put_217 (lv_at hl 6 rfl) ?_
    refine lv_iload X.1 X.2.1 dX1_put_219 (lv_at hl 9 rfl) ?_
    refine w_iadd X dX1_put_221 ?_
    refine w_top (fun y7_97 ey7_97 => ?_)
    have h := h y7_97 ey7_97
    have ry7_97 : rI y7_97 := by rw [ey7_97]; exact (w32_r _)
    refine lv_istore (i := 7) (lv' := [(7, .int (oI y7_97)), (0, .ref (wad w 1 0)), (1, .int (oI x1)), (2, .int (oI x2)), (3, .int (oI x3)), (4, .int (oI x4)), (5, .long (oL x5)), (8, .int (oI y8)), (9, .int (oI y9)), (10, .int (oI y10)), (12, .int (oI y12)), (13, .int (oI y13)), (14, .int (oI y14))]) X.1 X.2.1 dX1_put_222 hl (by decide) (by first | rfl | simp [catK, catI, catR, catL]) (fun ls hl => ?_)
    refine lv_goto (tgt := 3) X.1 X.2.1 dX1_put_224 (by decide) ?_
    exact hK3 y7_97 σ_96 _ _ _ ry7_97 (lv_sub hl [1, 2, 3, 4, 5, 6, 0] rfl) hWσ_96 hS h
  · have h := h.2 hc
    refine lv_aload_n X.1 X.2.1 dX1_put_117 rfl (lv_at hl 0 rfl) ?_
    refine wg (v := .ref (wad w 77 0)) X hT hW 1 13 77 vl1_0 rfl rfl (by decide) rfl (by decide) in_X1 q1083 rfl dX1_put_118 ?_
    refine lv_iload X.1 X.2.1 dX1_put_121 (lv_at hl 8 rfl) ?_
    refine lv_iload X.1 X.2.1 dX1_put_123 (lv_at hl 12 rfl) ?_
    refine w_iadd X dX1_put_125 ?_
    refine lv_aload_n X.1 X.2.1 dX1_put_126 rfl (lv_at hl 0 rfl) ?_
    refine lv_iload X.1 X.2.1 dX1_put_127 (lv_at hl 4 rfl) ?_
    refine lv_lload X.1 X.2.1 dX1_put_129 (lv_at hl 5 rfl) ?_
    refine lv_iload X.1 X.2.1 dX1_put_131 (lv_at hl 6 rfl) ?_
    refine lv_iload X.1 X.2.1 dX1_put_133 (lv_at hl 12 rfl) ?_
    refine w_iadd X dX1_put_135 ?_
    refine wr_B (rV (As := [.int (oI x4), .long (oL x5), .int (oI (w32 (y7 + y14)))]) (rest := [.int (oI (w32 (y9 + y14))), .ref (wad w 77 0)]) X hT hW hS (met_House_byteOf l (w := w) hV x4 x5 (w32 (y7 + y14)) _ σ rx4 rx5 (w32_r _) h) (cwV 3 X.2.2.2.2 (lw_V q1562 q1564 qs69 q131 q1565) rfl rfl rfl (by decide +kernel) ⟨Nat.le_of_ble_eq_true rfl, Nat.le_of_ble_eq_true rfl⟩) vl1_0 (by decide) rfl rfl hl.1 rfl (by first | exact Nat.le_of_ble_eq_true rfl | simp [catK, catI, catR, catL]) dX1_put_136 ⟨Nat.le_refl _, Nat.le_refl _⟩) hS (fun r_98 σ_99 H locs rr_98 rkσ_99 h hWσ_99 hS => ?_)
    have h := h rr_98 rkσ_99
    obtain ⟨bi, h⟩ := h
    refine w_bast (n := 64) X hT hWσ_99 hS 77 vl77_0 (by decide) rfl rfl bi rr_98 dX1_put_139 (fun H locs hN hS => ?_)
    obtain ⟨σ_100, eσ_100⟩ : ∃ x, x = sA σ_99 77 0 (w32 (y9 + y14)) r_98 := ⟨_, rfl⟩
    have hWσ_100 : Wo w σ_100 H := eσ_100 ▸ hN
    have h := h σ_100 eσ_100
    clear hN
    obtain ⟨y14_101, ey14_101⟩ : ∃ y : Int, y = w32 (y14 + 1) := ⟨_, rfl⟩
    have h := h y14_101 ey14_101
    have ry14_101 : rI y14_101 := by rw [ey14_101]; exact w32_r _
    refine lv_iinc (v := oI y14_101) (lv' := [(14, .int (oI y14_101)), (0, .ref (wad w 1 0)), (1, .int (oI x1)), (2, .int (oI x2)), (3, .int (oI x3)), (4, .int (oI x4)), (5, .long (oL x5)), (7, .int (oI y7)), (8, .int (oI y8)), (9, .int (oI y9)), (10, .int (oI y10)), (12, .int (oI y12)), (13, .int (oI y13))]) X.1 X.2.1 dX1_put_140 hl (k := 12) rfl (by rw [ey14_101]; exact oI_add _ _) (by decide) (by first | rfl | simp [catK, catI, catR, catL]) (fun ls hl => ?_)
    refine lv_goto (tgt := 110) X.1 X.2.1 dX1_put_143 (by decide) ?_
    exact hK110 y7 y8 y9 y10 y12 y13 y14_101 σ_100 _ _ _ ry7 ry8 ry9 ry10 ry12 ry13 ry14_101 (lv_sub hl [1, 2, 3, 4, 5, 6, 7, 8, 9, 10, 11, 12, 0] rfl) hWσ_100 hS h
theorem wk_House_put_L110 {p : Program} {l : Launch} {e : Env} {st : State} {m : MethodId} {args : Array Value} {below : List Frame} {meth : Method} {c : Code} {w : Wp} {x1 : Int} {x2 : Int} {x3 : Int} {x4 : Int} {x5 : Int} {Q : Int → St → Prop} (X : CallFix p m c cX1_put 15 st args lw_all RX1) (hr : meth.sig.returnType = (some .int)) (hlk : meth.locks = false) (hT : Tb w st) (hV : Hvl w) (rx1 : rI x1) (rx2 : rI x2) (rx3 : rI x3) (rx4 : rI x4) (rx5 : rJ x5) (K3 : Int → St → Prop) (hK3 : ∀ (y7 : Int) (σ : St) (H : Heap) (locs : List Loc) (ls : Array Slot), rI y7 → lv_has ls 15 [(0, .ref (wad w 1 0)), (1, .int (oI x1)), (2, .int (oI x2)), (3, .int (oI x3)), (4, .int (oI x4)), (5, .long (oL x5)), (7, .int (oI y7))] → Wo w σ H → va_S (wA w) st.heap H locs → K3 y7 σ → W p l e (headSpec (ws_ yX1_put cX1_put 15 (some .int)) rm_House_put).room st m args below meth c H locs 0 0 (MQ below (QcI w Q) args st 0 0 (wA w)) (F0 m 3 ls [])) : ∀ (y7 y8 y9 y10 y12 y13 y14 : Int) (σ : St) (H : Heap) (locs : List Loc) (ls : Array Slot), rI y7 → rI y8 → rI y9 → rI y10 → rI y12 → rI y13 → rI y14 → lv_has ls 15 [(0, .ref (wad w 1 0)), (1, .int (oI x1)), (2, .int (oI x2)), (3, .int (oI x3)), (4, .int (oI x4)), (5, .long (oL x5)), (7, .int (oI y7)), (8, .int (oI y8)), (9, .int (oI y9)), (10, .int (oI y10)), (12, .int (oI y12)), (13, .int (oI y13)), (14, .int (oI y14))] → Wo w σ H → va_S (wA w) st.heap H locs → lQ7 (wp_House_put_L110 (wc w) (wtv w) x1 x2 x3 x4 x5 Q K3) y7 y8 y9 y10 y12 y13 y14 σ → W p l e (headSpec (ws_ yX1_put cX1_put 15 (some .int)) rm_House_put).room st m args below meth c H locs 0 0 (MQ below (QcI w Q) args st 0 0 (wA w)) (F0 m 110 ls []) := by
  intro y7 y8 y9 y10 y12 y13 y14 σ H locs ls ry7 ry8 ry9 ry10 ry12 ry13 ry14 hl hW hS h
  obtain ⟨fu, h⟩ := h
  induction fu generalizing y7 y8 y9 y10 y12 y13 y14 σ H locs ls with
  | zero => exact h.elim
  | succ fu ih =>
    exact wk_House_put_L110B X hr hlk hT hV rx1 rx2 rx3 rx4 rx5 K3 (lq7 (wp_House_put_L110 (wc w) (wtv w) x1 x2 x3 x4 x5 Q K3) fu) hK3 (fun y7 y8 y9 y10 y12 y13 y14 σ H locs ls ry7 ry8 ry9 ry10 ry12 ry13 ry14 hl hW hS h => ih y7 y8 y9 y10 y12 y13 y14 σ H locs ls ry7 ry8 ry9 ry10 ry12 ry13 ry14 hl hW hS h) y7 y8 y9 y10 y12 y13 y14 σ H locs ls ry7 ry8 ry9 ry10 ry12 ry13 ry14 hl hW hS h
set_option maxHeartbeats 4000000 in
set_option maxRecDepth 100000 in
theorem wk_House_put_b107 {p : Program} {l : Launch} {e : Env} {st : State} {m : MethodId} {args : Array Value} {below : List Frame} {meth : Method} {c : Code} {w : Wp} {x1 : Int} {x2 : Int} {x3 : Int} {x4 : Int} {x5 : Int} {Q : Int → St → Prop} (X : CallFix p m c cX1_put 15 st args lw_all RX1) (hr : meth.sig.returnType = (some .int)) (hlk : meth.locks = false) (hT : Tb w st) (hV : Hvl w) (rx1 : rI x1) (rx2 : rI x2) (rx3 : rI x3) (rx4 : rI x4) (rx5 : rJ x5) (K3 : Int → St → Prop) (hK3 : ∀ (y7 : Int) (σ : St) (H : Heap) (locs : List Loc) (ls : Array Slot), rI y7 → lv_has ls 15 [(0, .ref (wad w 1 0)), (1, .int (oI x1)), (2, .int (oI x2)), (3, .int (oI x3)), (4, .int (oI x4)), (5, .long (oL x5)), (7, .int (oI y7))] → Wo w σ H → va_S (wA w) st.heap H locs → K3 y7 σ → W p l e (headSpec (ws_ yX1_put cX1_put 15 (some .int)) rm_House_put).room st m args below meth c H locs 0 0 (MQ below (QcI w Q) args st 0 0 (wA w)) (F0 m 3 ls [])) : ∀ (y7 y8 y9 y10 y12 y13 : Int) (σ : St) (H : Heap) (locs : List Loc) (ls : Array Slot), rI y7 → rI y8 → rI y9 → rI y10 → rI y12 → rI y13 → lv_has ls 15 [(0, .ref (wad w 1 0)), (1, .int (oI x1)), (2, .int (oI x2)), (3, .int (oI x3)), (4, .int (oI x4)), (5, .long (oL x5)), (7, .int (oI y7)), (8, .int (oI y8)), (9, .int (oI y9)), (10, .int (oI y10)), (12, .int (oI y12)), (13, .int (oI y13))] → Wo w σ H → va_S (wA w) st.heap H locs → wp_House_put_b107 (wc w) (wtv w) x1 x2 x3 x4 x5 Q K3 y7 y8 y9 y10 y12 y13 σ → W p l e (headSpec (ws_ yX1_put cX1_put 15 (some .int)) rm_House_put).room st m args below meth c H locs 0 0 (MQ below (QcI w Q) args st 0 0 (wA w)) (F0 m 107 ls []) := by

  intro y7 y8 y9 y10 y12 y13 σ H locs ls ry7 ry8 ry9 ry10 ry12 ry13 hl hW hS h
  unfold wp_House_put_b107 at h
  refine lv_iconst (v := oI 0) X.1 X.2.1 dX1_put_107 rfl ?_
  refine lv_istore (i := 14) (lv' := [(14, .int (oI 0)), (0, .ref (wad w 1 0)), (1, .int (oI x1)), (2, .int (oI x2)), (3, .int (oI x3)), (4, .int (oI x4)), (5, .long (oL x5)), (7, .int (oI y7)), (8, .int (oI y8)), (9, .int (oI y9)), (10, .int (oI y10)), (12, .int (oI y12)), (13, .int (oI y13))]) X.1 X.2.1 dX1_put_108 hl (by decide) (by first | rfl | simp [catK, catI, catR, catL]) (fun ls hl => ?_)
  exact wk_House_put_L110 X hr hlk hT hV rx1 rx2 rx3 rx4 rx5 K3 hK3 y7 y8 y9 y10 y12 y13 0 σ _ _ _ ry7 ry8 ry9 ry10 ry12 ry13 rZ_0.i (lv_sub hl [1, 2, 3, 4, 5, 6, 7, 8, 9, 10, 11, 12, 0] rfl) hW hS h
set_option maxHeartbeats 4000000 in
set_option maxRecDepth 100000 in
theorem wk_House_put_L3B {p : Program} {l : Launch} {e : Env} {st : State} {m : MethodId} {args : Array Value} {below : List Frame} {meth : Method} {c : Code} {w : Wp} {x1 : Int} {x2 : Int} {x3 : Int} {x4 : Int} {x5 : Int} {Q : Int → St → Prop} (X : CallFix p m c cX1_put 15 st args lw_all RX1) (hr : meth.sig.returnType = (some .int)) (hlk : meth.locks = false) (hT : Tb w st) (hV : Hvl w) (rx1 : rI x1) (rx2 : rI x2) (rx3 : rI x3) (rx4 : rI x4) (rx5 : rJ x5) (K3 : Int → St → Prop) (hK3 : ∀ (y7 : Int) (σ : St) (H : Heap) (locs : List Loc) (ls : Array Slot), rI y7 → lv_has ls 15 [(0, .ref (wad w 1 0)), (1, .int (oI x1)), (2, .int (oI x2)), (3, .int (oI x3)), (4, .int (oI x4)), (5, .long (oL x5)), (7, .int (oI y7))] → Wo w σ H → va_S (wA w) st.heap H locs → K3 y7 σ → W p l e (headSpec (ws_ yX1_put cX1_put 15 (some .int)) rm_House_put).room st m args below meth c H locs 0 0 (MQ below (QcI w Q) args st 0 0 (wA w)) (F0 m 3 ls [])) : ∀ (y7 : Int) (σ : St) (H : Heap) (locs : List Loc) (ls : Array Slot), rI y7 → lv_has ls 15 [(0, .ref (wad w 1 0)), (1, .int (oI x1)), (2, .int (oI x2)), (3, .int (oI x3)), (4, .int (oI x4)), (5, .long (oL x5)), (7, .int (oI y7))] → Wo w σ H → va_S (wA w) st.heap H locs → wp_House_put_L3 (wc w) (wtv w) x1 x2 x3 x4 x5 Q K3 y7 σ → W p l e (headSpec (ws_ yX1_put cX1_put 15 (some .int)) rm_House_put).room st m args below meth c H locs 0 0 (MQ below (QcI w Q) args st 0 0 (wA w)) (F0 m 3 ls []) := by
  have vl1_0 : vl w 1 0 := hV.hv 1 rfl ⟨by omega, by show _ < (1 : Int); omega⟩
  intro y7 σ H locs ls ry7 hl hW hS h
  unfold wp_House_put_L3 at h
  refine lv_iload X.1 X.2.1 dX1_put_3 (lv_at hl 6 rfl) ?_
  refine lv_iload_n X.1 X.2.1 dX1_put_5 rfl (lv_at hl 3 rfl) ?_
  refine w_icmp_ge (tgt := 227) X ry7 rx3 dX1_put_6 (by decide) (fun hc => ?_) (fun hc => ?_)
  · have h := h.1 hc
    refine lv_iload_n X.1 X.2.1 dX1_put_227 rfl (lv_at hl 3 rfl) ?_
    exact wret_I X hr hlk hW hS rx3 h dX1_put_228
  · have h := h.2 hc
    refine lv_iload_n X.1 X.2.1 dX1_put_9 rfl (lv_at hl 2 rfl) ?_
    refine lv_iload X.1 X.2.1 dX1_put_10 (lv_at hl 6 rfl) ?_
    refine w_iadd X dX1_put_12 ?_
    refine lv_bipush (v := oI 64) X.1 X.2.1 dX1_put_13 (by decide) ?_
    refine w_idiv X (w32_r _) ((rB_lit 64 (by decide)).i) (by decide) dX1_put_15 ?_
    refine w_top (fun y8_102 ey8_102 => ?_)
    have h := h y8_102 ey8_102
    have ry8_102 : rI y8_102 := by rw [ey8_102]; exact (jdv_r _ _)
    refine lv_istore (i := 8) (lv' := [(8, .int (oI y8_102)), (0, .ref (wad w 1 0)), (1, .int (oI x1)), (2, .int (oI x2)), (3, .int (oI x3)), (4, .int (oI x4)), (5, .long (oL x5)), (7, .int (oI y7))]) X.1 X.2.1 dX1_put_16 hl (by decide) (by first | rfl | simp [catK, catI, catR, catL]) (fun ls hl => ?_)
    refine lv_iload_n X.1 X.2.1 dX1_put_18 rfl (lv_at hl 3 rfl) ?_
    refine lv_iload X.1 X.2.1 dX1_put_19 (lv_at hl 7 rfl) ?_
    refine w_iadd X dX1_put_21 ?_
    refine lv_bipush (v := oI 64) X.1 X.2.1 dX1_put_22 (by decide) ?_
    refine w_irem X (w32_r _) ((rB_lit 64 (by decide)).i) (by decide) dX1_put_24 ?_
    refine w_top (fun y9_103 ey9_103 => ?_)
    have h := h y9_103 ey9_103
    have ry9_103 : rI y9_103 := by rw [ey9_103]; exact (jrm_r _ _)
    refine lv_istore (i := 9) (lv' := [(9, .int (oI y9_103)), (8, .int (oI y8_102)), (0, .ref (wad w 1 0)), (1, .int (oI x1)), (2, .int (oI x2)), (3, .int (oI x3)), (4, .int (oI x4)), (5, .long (oL x5)), (7, .int (oI y7))]) X.1 X.2.1 dX1_put_25 hl (by decide) (by first | rfl | simp [catK, catI, catR, catL]) (fun ls hl => ?_)
    refine lv_iload_n X.1 X.2.1 dX1_put_27 rfl (lv_at hl 5 rfl) ?_
    refine lv_iload X.1 X.2.1 dX1_put_28 (lv_at hl 8 rfl) ?_
    refine w_isub X dX1_put_30 ?_
    refine lv_bipush (v := oI 64) X.1 X.2.1 dX1_put_31 (by decide) ?_
    refine lv_iload X.1 X.2.1 dX1_put_33 (lv_at hl 0 rfl) ?_
    refine w_isub X dX1_put_35 ?_
    refine w_mmin X (w32_r _) (w32_r _) hl.1 q1560 q1188 q149 q1189 (Nat.le_of_ble_eq_true rfl) (Nat.le_of_ble_eq_true rfl) (Nat.le_refl _) (Nat.le_refl _) dX1_put_36 ?_
    refine w_top (fun y10_104 ey10_104 => ?_)
    have h := h y10_104 ey10_104
    have ry10_104 : rI y10_104 := by rw [ey10_104]; exact (min_rI (w32_r _) (w32_r _))
    refine lv_istore (i := 10) (lv' := [(10, .int (oI y10_104)), (9, .int (oI y9_103)), (8, .int (oI y8_102)), (0, .ref (wad w 1 0)), (1, .int (oI x1)), (2, .int (oI x2)), (3, .int (oI x3)), (4, .int (oI x4)), (5, .long (oL x5)), (7, .int (oI y7))]) X.1 X.2.1 dX1_put_39 hl (by decide) (by first | rfl | simp [catK, catI, catR, catL]) (fun ls hl => ?_)
    refine lv_aload_n X.1 X.2.1 dX1_put_41 rfl (lv_at hl 3 rfl) ?_
    refine lv_iload_n X.1 X.2.1 dX1_put_42 rfl (lv_at hl 4 rfl) ?_
    refine lv_iload X.1 X.2.1 dX1_put_43 (lv_at hl 2 rfl) ?_
    refine wr_I (rV (As := [.int (oI x1), .int (oI y8_102)]) (rest := []) X hT hW hS (met_House_piece l (w := w) hV x1 y8_102 _ σ rx1 ry8_102 h) (cwV 2 X.2.2.2.2 (lw_V q1479 q1481 qs64 q131 q1482) rfl rfl rfl (by decide +kernel) ⟨Nat.le_of_ble_eq_true rfl, Nat.le_of_ble_eq_true rfl⟩) vl1_0 (by decide) rfl rfl hl.1 rfl (by first | exact Nat.le_of_ble_eq_true rfl | simp [catK, catI, catR, catL]) dX1_put_45 ⟨Nat.le_refl _, Nat.le_refl _⟩) hS (fun r_105 σ_106 H locs rr_105 rkσ_106 h hWσ_106 hS => ?_)
    have h := h rr_105 rkσ_106
    refine lv_istore (i := 11) (lv' := [(11, .int (oI r_105)), (10, .int (oI y10_104)), (9, .int (oI y9_103)), (8, .int (oI y8_102)), (0, .ref (wad w 1 0)), (1, .int (oI x1)), (2, .int (oI x2)), (3, .int (oI x3)), (4, .int (oI x4)), (5, .long (oL x5)), (7, .int (oI y7))]) X.1 X.2.1 dX1_put_48 hl (by decide) (by first | rfl | simp [catK, catI, catR, catL]) (fun ls hl => ?_)
    refine lv_iload X.1 X.2.1 dX1_put_50 (lv_at hl 0 rfl) ?_
    refine lv_iload X.1 X.2.1 dX1_put_52 (lv_at hl 2 rfl) ?_
    refine lv_iload X.1 X.2.1 dX1_put_54 (lv_at hl 1 rfl) ?_
    refine w_iadd X dX1_put_56 ?_
    refine w_mmax X rr_105 (w32_r _) hl.1 q1561 q924 q149 q925 (Nat.le_of_ble_eq_true rfl) (Nat.le_of_ble_eq_true rfl) (Nat.le_refl _) (Nat.le_refl _) dX1_put_57 ?_
    refine w_top (fun y12_107 ey12_107 => ?_)
    have h := h y12_107 ey12_107
    have ry12_107 : rI y12_107 := by rw [ey12_107]; exact (max_rI rr_105 (w32_r _))
    refine lv_istore (i := 12) (lv' := [(12, .int (oI y12_107)), (11, .int (oI r_105)), (10, .int (oI y10_104)), (9, .int (oI y9_103)), (8, .int (oI y8_102)), (0, .ref (wad w 1 0)), (1, .int (oI x1)), (2, .int (oI x2)), (3, .int (oI x3)), (4, .int (oI x4)), (5, .long (oL x5)), (7, .int (oI y7))]) X.1 X.2.1 dX1_put_60 hl (by decide) (by first | rfl | simp [catK, catI, catR, catL]) (fun ls hl => ?_)
    refine lv_iload X.1 X.2.1 dX1_put_62 (lv_at hl 0 rfl) ?_
    refine wr_I (rS (As := [.int (oI y12_107)]) (rest := []) X hT hWσ_106 hS (met_House_itemOf l (w := w) y12_107 _ σ_106 ry12_107 h) (va_cwS 1 X.2.2.2.2 (lw_S q1227 q1228 q131 q1229) rfl rfl rfl (by decide +kernel) ⟨Nat.le_of_ble_eq_true rfl, Nat.le_of_ble_eq_true rfl⟩) rfl hl.1 rfl (by first | exact Nat.le_of_ble_eq_true rfl | simp [catK, catI, catR, catL]) dX1_put_64 ⟨Nat.le_refl _, Nat.le_refl _⟩) hS (fun r_108 σ_109 H locs rr_108 rkσ_109 h hWσ_109 hS => ?_)
    have h := h rr_108 rkσ_109
    refine lv_iload X.1 X.2.1 dX1_put_67 (lv_at hl 1 rfl) ?_
    refine wr_I (rS (As := [.int (oI r_105)]) (rest := [.int (oI r_108)]) X hT hWσ_109 hS (met_House_itemOf l (w := w) r_105 _ σ_109 rr_105 h) (va_cwS 1 X.2.2.2.2 (lw_S q1227 q1228 q131 q1229) rfl rfl rfl (by decide +kernel) ⟨Nat.le_of_ble_eq_true rfl, Nat.le_of_ble_eq_true rfl⟩) rfl hl.1 rfl (by first | exact Nat.le_of_ble_eq_true rfl | simp [catK, catI, catR, catL]) dX1_put_69 ⟨Nat.le_refl _, Nat.le_refl _⟩) hS (fun r_110 σ_111 H locs rr_110 rkσ_111 h hWσ_111 hS => ?_)
    have h := h rr_110 rkσ_111
    refine w_isub X dX1_put_72 ?_
    refine w_top (fun y13_112 ey13_112 => ?_)
    have h := h y13_112 ey13_112
    have ry13_112 : rI y13_112 := by rw [ey13_112]; exact (w32_r _)
    refine lv_istore (i := 13) (lv' := [(13, .int (oI y13_112)), (12, .int (oI y12_107)), (11, .int (oI r_105)), (10, .int (oI y10_104)), (9, .int (oI y9_103)), (8, .int (oI y8_102)), (0, .ref (wad w 1 0)), (1, .int (oI x1)), (2, .int (oI x2)), (3, .int (oI x3)), (4, .int (oI x4)), (5, .long (oL x5)), (7, .int (oI y7))]) X.1 X.2.1 dX1_put_73 hl (by decide) (by first | rfl | simp [catK, catI, catR, catL]) (fun ls hl => ?_)
    refine lv_iload X.1 X.2.1 dX1_put_75 (lv_at hl 0 rfl) ?_
    refine w_if_le (tgt := 107) X ry13_112 dX1_put_77 (by decide) (fun hc => ?_) (fun hc => ?_)
    · have h := h.1 hc
      exact wk_House_put_b107 X hr hlk hT hV rx1 rx2 rx3 rx4 rx5 K3 hK3 y7 y8_102 y9_103 y10_104 y12_107 y13_112 σ_111 _ _ _ ry7 ry8_102 ry9_103 ry10_104 ry12_107 ry13_112 (lv_sub hl [6, 7, 8, 9, 10, 11, 12, 5, 4, 3, 1, 0] rfl) hWσ_111 hS h
    · have h := h.2 hc
      refine lv_aload_n X.1 X.2.1 dX1_put_80 rfl (lv_at hl 6 rfl) ?_
      refine wg (v := .int (oI (gI σ_111 71 0))) X hT hWσ_111 1 7 71 vl1_0 rfl rfl (by decide) rfl (by decide) in_X1 q1077 rfl dX1_put_81 ?_
      refine lv_iload X.1 X.2.1 dX1_put_84 (lv_at hl 0 rfl) ?_
      refine w_iadd X dX1_put_86 ?_
      refine lv_aload_n X.1 X.2.1 dX1_put_87 rfl (lv_at hl 6 rfl) ?_
      refine wg (v := .int (oI (cap (wc w)))) X hT hWσ_111 1 4 68 vl1_0 rfl rfl (by decide) rfl (by decide) in_X1 q1074 rfl dX1_put_88 ?_
      refine w_icmp_le (tgt := 107) X (w32_r _) (cin_r hT.c 68) dX1_put_91 (by decide) (fun hc => ?_) (fun hc => ?_)
      · have h := h.1 hc
        exact wk_House_put_b107 X hr hlk hT hV rx1 rx2 rx3 rx4 rx5 K3 hK3 y7 y8_102 y9_103 y10_104 y12_107 y13_112 σ_111 _ _ _ ry7 ry8_102 ry9_103 ry10_104 ry12_107 ry13_112 (lv_sub hl [6, 7, 8, 9, 10, 11, 12, 5, 4, 3, 1, 0] rfl) hWσ_111 hS h
      · have h := h.2 hc
        refine lv_iload X.1 X.2.1 dX1_put_94 (lv_at hl 12 rfl) ?_
        refine w_if_ne (tgt := 104) X ry7 dX1_put_96 (by decide) (fun hc => ?_) (fun hc => ?_)
        · have h := h.1 hc
          refine lv_iload X.1 X.2.1 dX1_put_104 (lv_at hl 12 rfl) ?_
          exact wret_I X hr hlk hWσ_111 hS ry7 h dX1_put_106
        · have h := h.2 hc
          refine lv_bipush (v := oI (-10)) X.1 X.2.1 dX1_put_99 (by decide) ?_
          refine lv_goto (tgt := 106) X.1 X.2.1 dX1_put_101 (by decide) ?_
          exact wret_I X hr hlk hWσ_111 hS ((rB_lit (-10) (by decide)).i) h dX1_put_106
theorem wk_House_put_L3 {p : Program} {l : Launch} {e : Env} {st : State} {m : MethodId} {args : Array Value} {below : List Frame} {meth : Method} {c : Code} {w : Wp} {x1 : Int} {x2 : Int} {x3 : Int} {x4 : Int} {x5 : Int} {Q : Int → St → Prop} (X : CallFix p m c cX1_put 15 st args lw_all RX1) (hr : meth.sig.returnType = (some .int)) (hlk : meth.locks = false) (hT : Tb w st) (hV : Hvl w) (rx1 : rI x1) (rx2 : rI x2) (rx3 : rI x3) (rx4 : rI x4) (rx5 : rJ x5) : ∀ (y7 : Int) (σ : St) (H : Heap) (locs : List Loc) (ls : Array Slot), rI y7 → lv_has ls 15 [(0, .ref (wad w 1 0)), (1, .int (oI x1)), (2, .int (oI x2)), (3, .int (oI x3)), (4, .int (oI x4)), (5, .long (oL x5)), (7, .int (oI y7))] → Wo w σ H → va_S (wA w) st.heap H locs → lQ1 (wp_House_put_L3 (wc w) (wtv w) x1 x2 x3 x4 x5 Q) y7 σ → W p l e (headSpec (ws_ yX1_put cX1_put 15 (some .int)) rm_House_put).room st m args below meth c H locs 0 0 (MQ below (QcI w Q) args st 0 0 (wA w)) (F0 m 3 ls []) := by
  intro y7 σ H locs ls ry7 hl hW hS h
  obtain ⟨fu, h⟩ := h
  induction fu generalizing y7 σ H locs ls with
  | zero => exact h.elim
  | succ fu ih =>
    exact wk_House_put_L3B X hr hlk hT hV rx1 rx2 rx3 rx4 rx5 (lq1 (wp_House_put_L3 (wc w) (wtv w) x1 x2 x3 x4 x5 Q) fu) (fun y7 σ H locs ls ry7 hl hW hS h => ih y7 σ H locs ls ry7 hl hW hS h) y7 σ H locs ls ry7 hl hW hS h
set_option maxHeartbeats 4000000 in
set_option maxRecDepth 100000 in
theorem met_House_put (l : Launch) {w : Wp} (hV : Hvl w) (x1 : Int) (x2 : Int) (x3 : Int) (x4 : Int) (x5 : Int) (Q : Int → St → Prop) (σ : St) (rx1 : rI x1) (rx2 : rI x2) (rx3 : rI x3) (rx4 : rI x4) (rx5 : rJ x5) (h : wp_House_put (wc w) (wtv w) x1 x2 x3 x4 x5 Q σ) : Met l yX1_put (ws_ yX1_put cX1_put 15 (some .int)) rm_House_put (PcW w σ [.ref (wad w 1 0), .int (oI x1), .int (oI x2), .int (oI x3), .int (oI x4), .long (oL x5)]) (QcI w Q) 0 0 (wA w) := by
  refine Met.ofW (cc := cX1_put) (maxL := 15) (ret := (some .int)) (by decide) rfl ?_
  intro p e st m args below meth c s₁ B hml hv
  obtain ⟨hargs, hW, hT⟩ := hv
  have X : CallFix p m c cX1_put 15 st _ lw_all RX1 := ⟨B.exec, B.bytes, hml, findClass_of_methodNamed B.named, fun w h => atoms_spec (ws := ws_ yX1_put cX1_put 15 (some .int)) B.pre w (List.mem_cons_of_mem _ h)⟩
  have hr := B.returns
  have hlk := B.notSynchronized
  have hS : va_S (wA w) st.heap st.heap [] := va_S.rf
  have vl1_0 : vl w 1 0 := hV.hv 1 rfl ⟨by omega, by show _ < (1 : Int); omega⟩
  have hl := lv_entry ([.ref (wad w 1 0), .int (oI x1), .int (oI x2), .int (oI x3), .int (oI x4), .long (oL x5)]) (n := 15) (Nat.le_of_ble_eq_true rfl)
  have hfr := lg_entry_eq m ([.ref (wad w 1 0), .int (oI x1), .int (oI x2), .int (oI x3), .int (oI x4), .long (oL x5)]) 15
  rw [← hargs] at hfr
  rw [hfr]
  generalize (lg_sl ([.ref (wad w 1 0), .int (oI x1), .int (oI x2), .int (oI x3), .int (oI x4), .long (oL x5)]) ++ List.replicate (15 - (lg_sl ([.ref (wad w 1 0), .int (oI x1), .int (oI x2), .int (oI x3), .int (oI x4), .long (oL x5)])).length) Slot.unset).toArray = ls at hl ⊢
  have hl : lv_has ls 15 [(0, .ref (wad w 1 0)), (1, .int (oI x1)), (2, .int (oI x2)), (3, .int (oI x3)), (4, .int (oI x4)), (5, .long (oL x5))] := hl
  unfold wp_House_put at h
  refine lv_iconst (v := oI 0) X.1 X.2.1 dX1_put_0 rfl ?_
  refine lv_istore (i := 7) (lv' := [(7, .int (oI 0)), (0, .ref (wad w 1 0)), (1, .int (oI x1)), (2, .int (oI x2)), (3, .int (oI x3)), (4, .int (oI x4)), (5, .long (oL x5))]) X.1 X.2.1 dX1_put_1 hl (by decide) (by first | rfl | simp [catK, catI, catR, catL]) (fun ls hl => ?_)
  exact wk_House_put_L3 X hr hlk hT hV rx1 rx2 rx3 rx4 rx5 0 σ _ _ _ rZ_0.i (lv_sub hl [1, 2, 3, 4, 5, 6, 0] rfl) hW hS h
/-! House.write(IIJI)I -/
set_option maxHeartbeats 4000000 in
set_option maxRecDepth 100000 in
theorem met_House_write (l : Launch) {w : Wp} (hV : Hvl w) (x1 : Int) (x2 : Int) (x3 : Int) (x5 : Int) (Q : Int → St → Prop) (σ : St) (rx1 : rI x1) (rx2 : rI x2) (rx3 : rJ x3) (rx5 : rI x5) (h : wp_House_write (wc w) (wtv w) x1 x2 x3 x5 Q σ) : Met l yX1_write (ws_ yX1_write cX1_write 6 (some .int)) rm_House_write (PcW w σ [.ref (wad w 1 0), .int (oI x1), .int (oI x2), .long (oL x3), .int (oI x5)]) (QcI w Q) 0 0 (wA w) := by
  refine Met.ofW (cc := cX1_write) (maxL := 6) (ret := (some .int)) (by decide) rfl ?_
  intro p e st m args below meth c s₁ B hml hv
  obtain ⟨hargs, hW, hT⟩ := hv
  have X : CallFix p m c cX1_write 6 st _ lw_all RX1 := ⟨B.exec, B.bytes, hml, findClass_of_methodNamed B.named, fun w h => atoms_spec (ws := ws_ yX1_write cX1_write 6 (some .int)) B.pre w (List.mem_cons_of_mem _ h)⟩
  have hr := B.returns
  have hlk := B.notSynchronized
  have hS : va_S (wA w) st.heap st.heap [] := va_S.rf
  have vl1_0 : vl w 1 0 := hV.hv 1 rfl ⟨by omega, by show _ < (1 : Int); omega⟩
  have vl70_0 : vl w 70 0 := hV.hv 70 rfl ⟨by omega, by show _ < (1 : Int); omega⟩
  have hl := lv_entry ([.ref (wad w 1 0), .int (oI x1), .int (oI x2), .long (oL x3), .int (oI x5)]) (n := 6) (Nat.le_of_ble_eq_true rfl)
  have hfr := lg_entry_eq m ([.ref (wad w 1 0), .int (oI x1), .int (oI x2), .long (oL x3), .int (oI x5)]) 6
  rw [← hargs] at hfr
  rw [hfr]
  generalize (lg_sl ([.ref (wad w 1 0), .int (oI x1), .int (oI x2), .long (oL x3), .int (oI x5)]) ++ List.replicate (6 - (lg_sl ([.ref (wad w 1 0), .int (oI x1), .int (oI x2), .long (oL x3), .int (oI x5)])).length) Slot.unset).toArray = ls at hl ⊢
  have hl : lv_has ls 6 [(0, .ref (wad w 1 0)), (1, .int (oI x1)), (2, .int (oI x2)), (3, .long (oL x3)), (5, .int (oI x5))] := hl
  unfold wp_House_write at h
  refine lv_aload_n X.1 X.2.1 dX1_write_0 rfl (lv_at hl 0 rfl) ?_
  refine wg (v := .int (oI (gI σ 69 0))) X hT hW 1 5 69 vl1_0 rfl rfl (by decide) rfl (by decide) in_X1 q1075 rfl dX1_write_1 ?_
  refine w_if_ne (tgt := 10) X ((hW.r.z 69 0 rfl).i) dX1_write_4 (by decide) (fun hc => ?_) (fun hc => ?_)
  · have h := h.1 hc
    refine lv_aload_n X.1 X.2.1 dX1_write_10 rfl (lv_at hl 0 rfl) ?_
    refine lv_iload_n X.1 X.2.1 dX1_write_11 rfl (lv_at hl 1 rfl) ?_
    refine wr_Z (rV (As := [.int (oI x1)]) (rest := []) X hT hW hS (met_House_isHandle l (w := w) hV x1 _ σ rx1 h) (cwV 1 X.2.2.2.2 (lw_V q1544 q1546 qs67 q131 q1547) rfl rfl rfl (by decide +kernel) ⟨Nat.le_of_ble_eq_true rfl, Nat.le_of_ble_eq_true rfl⟩) vl1_0 (by decide) rfl rfl hl.1 rfl (by first | exact Nat.le_of_ble_eq_true rfl | simp [catK, catI, catR, catL]) dX1_write_12 ⟨Nat.le_refl _, Nat.le_refl _⟩) hS (fun r_9 σ_10 H locs rr_9 rkσ_10 h hWσ_10 hS => ?_)
    have h := h rr_9 rkσ_10
    refine w_if_eq (tgt := 43) X rr_9.i dX1_write_15 (by decide) (fun hc => ?_) (fun hc => ?_)
    · have h := h.1 hc
      refine lv_bipush (v := oI (-3)) X.1 X.2.1 dX1_write_43 (by decide) ?_
      exact wret_I X hr hlk hWσ_10 hS ((rB_lit (-3) (by decide)).i) h dX1_write_45
    · have h := h.2 hc
      refine lv_iload X.1 X.2.1 dX1_write_18 (lv_at hl 4 rfl) ?_
      refine lv_iconst (v := oI 1) X.1 X.2.1 dX1_write_20 rfl ?_
      refine lv_bipush (v := oI 8) X.1 X.2.1 dX1_write_21 (by decide) ?_
      refine wr_Z (rS (As := [.int (oI x5), .int (oI 1), .int (oI 8)]) (rest := []) X hT hWσ_10 hS (met_House_isIn l (w := w) x5 1 8 _ σ_10 rx5 rZ_1.i ((rB_lit 8 (by decide)).i) h) (va_cwS 3 X.2.2.2.2 (lw_S q208 q209 q131 q210) rfl rfl rfl (by decide +kernel) ⟨Nat.le_of_ble_eq_true rfl, Nat.le_of_ble_eq_true rfl⟩) rfl hl.1 rfl (by first | exact Nat.le_of_ble_eq_true rfl | simp [catK, catI, catR, catL]) dX1_write_23 ⟨Nat.le_refl _, Nat.le_refl _⟩) hS (fun r_11 σ_12 H locs rr_11 rkσ_12 h hWσ_12 hS => ?_)
      have h := h rr_11 rkσ_12
      refine w_if_eq (tgt := 43) X rr_11.i dX1_write_26 (by decide) (fun hc => ?_) (fun hc => ?_)
      · have h := h.1 hc
        refine lv_bipush (v := oI (-3)) X.1 X.2.1 dX1_write_43 (by decide) ?_
        exact wret_I X hr hlk hWσ_12 hS ((rB_lit (-3) (by decide)).i) h dX1_write_45
      · have h := h.2 hc
        refine lv_iload_n X.1 X.2.1 dX1_write_29 rfl (lv_at hl 2 rfl) ?_
        refine lv_iconst (v := oI 0) X.1 X.2.1 dX1_write_30 rfl ?_
        refine lv_sipush (v := oI 16384) X.1 X.2.1 dX1_write_31 (by decide) ?_
        refine lv_iload X.1 X.2.1 dX1_write_34 (lv_at hl 4 rfl) ?_
        refine w_isub X dX1_write_36 ?_
        refine wr_Z (rS (As := [.int (oI x2), .int (oI 0), .int (oI (w32 (16384 - x5)))]) (rest := []) X hT hWσ_12 hS (met_House_isIn l (w := w) x2 0 (w32 (16384 - x5)) _ σ_12 rx2 rZ_0.i (w32_r _) h) (va_cwS 3 X.2.2.2.2 (lw_S q208 q209 q131 q210) rfl rfl rfl (by decide +kernel) ⟨Nat.le_of_ble_eq_true rfl, Nat.le_of_ble_eq_true rfl⟩) rfl hl.1 rfl (by first | exact Nat.le_of_ble_eq_true rfl | simp [catK, catI, catR, catL]) dX1_write_37 ⟨Nat.le_refl _, Nat.le_refl _⟩) hS (fun r_13 σ_14 H locs rr_13 rkσ_14 h hWσ_14 hS => ?_)
        have h := h rr_13 rkσ_14
        refine w_if_ne (tgt := 46) X rr_13.i dX1_write_40 (by decide) (fun hc => ?_) (fun hc => ?_)
        · have h := h.1 hc
          refine lv_aload_n X.1 X.2.1 dX1_write_46 rfl (lv_at hl 0 rfl) ?_
          refine lv_aload_n X.1 X.2.1 dX1_write_47 rfl (lv_at hl 0 rfl) ?_
          refine wg (v := .ref (wad w 70 0)) X hT hWσ_14 1 6 70 vl1_0 rfl rfl (by decide) rfl (by decide) in_X1 q1076 rfl dX1_write_48 ?_
          refine lv_iload_n X.1 X.2.1 dX1_write_51 rfl (lv_at hl 1 rfl) ?_
          obtain ⟨bi, h⟩ := h
          refine w_iald (n := 8) X hT hWσ_14 70 vl70_0 (by decide) rfl rfl bi dX1_write_52 ?_
          refine lv_iload_n X.1 X.2.1 dX1_write_53 rfl (lv_at hl 2 rfl) ?_
          refine lv_iload X.1 X.2.1 dX1_write_54 (lv_at hl 4 rfl) ?_
          refine lv_iconst (v := oI 0) X.1 X.2.1 dX1_write_56 rfl ?_
          refine lv_lload_n X.1 X.2.1 dX1_write_57 rfl (lv_at hl 3 rfl) ?_
          refine wr_I (rV (As := [.int (oI (gA σ_14 70 0 x1)), .int (oI x2), .int (oI x5), .int (oI 0), .long (oL x3)]) (rest := []) X hT hWσ_14 hS (met_House_put l (w := w) hV (gA σ_14 70 0 x1) x2 x5 0 x3 _ σ_14 (hWσ_14.r.ai 70 0 x1 rfl) rx2 rx5 rZ_0.i rx3 h) (cwV 5 X.2.2.2.2 (lw_V q1556 q1558 qs68 q131 q1559) rfl rfl rfl (by decide +kernel) ⟨Nat.le_of_ble_eq_true rfl, Nat.le_of_ble_eq_true rfl⟩) vl1_0 (by decide) rfl rfl hl.1 rfl (by first | exact Nat.le_of_ble_eq_true rfl | simp [catK, catI, catR, catL]) dX1_write_58 ⟨Nat.le_refl _, Nat.le_refl _⟩) hS (fun r_15 σ_16 H locs rr_15 rkσ_16 h hWσ_16 hS => ?_)
          have h := h rr_15 rkσ_16
          exact wret_I X hr hlk hWσ_16 hS rr_15 h dX1_write_61
        · have h := h.2 hc
          refine lv_bipush (v := oI (-3)) X.1 X.2.1 dX1_write_43 (by decide) ?_
          exact wret_I X hr hlk hWσ_14 hS ((rB_lit (-3) (by decide)).i) h dX1_write_45
  · have h := h.2 hc
    refine lv_bipush (v := oI (-2)) X.1 X.2.1 dX1_write_7 (by decide) ?_
    exact wret_I X hr hlk hW hS ((rB_lit (-2) (by decide)).i) h dX1_write_9
/-! House.fill(IIII)I -/
set_option maxHeartbeats 4000000 in
set_option maxRecDepth 100000 in
theorem met_House_fill (l : Launch) {w : Wp} (hV : Hvl w) (x1 : Int) (x2 : Int) (x3 : Int) (x4 : Int) (Q : Int → St → Prop) (σ : St) (rx1 : rI x1) (rx2 : rI x2) (rx3 : rI x3) (rx4 : rI x4) (h : wp_House_fill (wc w) (wtv w) x1 x2 x3 x4 Q σ) : Met l yX1_fill (ws_ yX1_fill cX1_fill 5 (some .int)) rm_House_fill (PcW w σ [.ref (wad w 1 0), .int (oI x1), .int (oI x2), .int (oI x3), .int (oI x4)]) (QcI w Q) 0 0 (wA w) := by
  refine Met.ofW (cc := cX1_fill) (maxL := 5) (ret := (some .int)) (by decide) rfl ?_
  intro p e st m args below meth c s₁ B hml hv
  obtain ⟨hargs, hW, hT⟩ := hv
  have X : CallFix p m c cX1_fill 5 st _ lw_all RX1 := ⟨B.exec, B.bytes, hml, findClass_of_methodNamed B.named, fun w h => atoms_spec (ws := ws_ yX1_fill cX1_fill 5 (some .int)) B.pre w (List.mem_cons_of_mem _ h)⟩
  have hr := B.returns
  have hlk := B.notSynchronized
  have hS : va_S (wA w) st.heap st.heap [] := va_S.rf
  have vl1_0 : vl w 1 0 := hV.hv 1 rfl ⟨by omega, by show _ < (1 : Int); omega⟩
  have vl70_0 : vl w 70 0 := hV.hv 70 rfl ⟨by omega, by show _ < (1 : Int); omega⟩
  have hl := lv_entry ([.ref (wad w 1 0), .int (oI x1), .int (oI x2), .int (oI x3), .int (oI x4)]) (n := 5) (Nat.le_of_ble_eq_true rfl)
  have hfr := lg_entry_eq m ([.ref (wad w 1 0), .int (oI x1), .int (oI x2), .int (oI x3), .int (oI x4)]) 5
  rw [← hargs] at hfr
  rw [hfr]
  generalize (lg_sl ([.ref (wad w 1 0), .int (oI x1), .int (oI x2), .int (oI x3), .int (oI x4)]) ++ List.replicate (5 - (lg_sl ([.ref (wad w 1 0), .int (oI x1), .int (oI x2), .int (oI x3), .int (oI x4)])).length) Slot.unset).toArray = ls at hl ⊢
  have hl : lv_has ls 5 [(0, .ref (wad w 1 0)), (1, .int (oI x1)), (2, .int (oI x2)), (3, .int (oI x3)), (4, .int (oI x4))] := hl
  unfold wp_House_fill at h
  refine lv_aload_n X.1 X.2.1 dX1_fill_0 rfl (lv_at hl 0 rfl) ?_
  refine wg (v := .int (oI (gI σ 69 0))) X hT hW 1 5 69 vl1_0 rfl rfl (by decide) rfl (by decide) in_X1 q1075 rfl dX1_fill_1 ?_
  refine w_if_ne (tgt := 10) X ((hW.r.z 69 0 rfl).i) dX1_fill_4 (by decide) (fun hc => ?_) (fun hc => ?_)
  · have h := h.1 hc
    refine lv_aload_n X.1 X.2.1 dX1_fill_10 rfl (lv_at hl 0 rfl) ?_
    refine lv_iload_n X.1 X.2.1 dX1_fill_11 rfl (lv_at hl 1 rfl) ?_
    refine wr_Z (rV (As := [.int (oI x1)]) (rest := []) X hT hW hS (met_House_isHandle l (w := w) hV x1 _ σ rx1 h) (cwV 1 X.2.2.2.2 (lw_V q1544 q1546 qs67 q131 q1547) rfl rfl rfl (by decide +kernel) ⟨Nat.le_of_ble_eq_true rfl, Nat.le_of_ble_eq_true rfl⟩) vl1_0 (by decide) rfl rfl hl.1 rfl (by first | exact Nat.le_of_ble_eq_true rfl | simp [catK, catI, catR, catL]) dX1_fill_12 ⟨Nat.le_refl _, Nat.le_refl _⟩) hS (fun r_9 σ_10 H locs rr_9 rkσ_10 h hWσ_10 hS => ?_)
    have h := h rr_9 rkσ_10
    refine w_if_eq (tgt := 42) X rr_9.i dX1_fill_15 (by decide) (fun hc => ?_) (fun hc => ?_)
    · have h := h.1 hc
      refine lv_bipush (v := oI (-3)) X.1 X.2.1 dX1_fill_42 (by decide) ?_
      exact wret_I X hr hlk hWσ_10 hS ((rB_lit (-3) (by decide)).i) h dX1_fill_44
    · have h := h.2 hc
      refine lv_iload_n X.1 X.2.1 dX1_fill_18 rfl (lv_at hl 3 rfl) ?_
      refine lv_iconst (v := oI 1) X.1 X.2.1 dX1_fill_19 rfl ?_
      refine lv_sipush (v := oI 2048) X.1 X.2.1 dX1_fill_20 (by decide) ?_
      refine wr_Z (rS (As := [.int (oI x3), .int (oI 1), .int (oI 2048)]) (rest := []) X hT hWσ_10 hS (met_House_isIn l (w := w) x3 1 2048 _ σ_10 rx3 rZ_1.i (rI_lit 2048 (by decide)) h) (va_cwS 3 X.2.2.2.2 (lw_S q208 q209 q131 q210) rfl rfl rfl (by decide +kernel) ⟨Nat.le_of_ble_eq_true rfl, Nat.le_of_ble_eq_true rfl⟩) rfl hl.1 rfl (by first | exact Nat.le_of_ble_eq_true rfl | simp [catK, catI, catR, catL]) dX1_fill_23 ⟨Nat.le_refl _, Nat.le_refl _⟩) hS (fun r_11 σ_12 H locs rr_11 rkσ_12 h hWσ_12 hS => ?_)
      have h := h rr_11 rkσ_12
      refine w_if_eq (tgt := 42) X rr_11.i dX1_fill_26 (by decide) (fun hc => ?_) (fun hc => ?_)
      · have h := h.1 hc
        refine lv_bipush (v := oI (-3)) X.1 X.2.1 dX1_fill_42 (by decide) ?_
        exact wret_I X hr hlk hWσ_12 hS ((rB_lit (-3) (by decide)).i) h dX1_fill_44
      · have h := h.2 hc
        refine lv_iload_n X.1 X.2.1 dX1_fill_29 rfl (lv_at hl 2 rfl) ?_
        refine lv_iconst (v := oI 0) X.1 X.2.1 dX1_fill_30 rfl ?_
        refine lv_sipush (v := oI 16384) X.1 X.2.1 dX1_fill_31 (by decide) ?_
        refine lv_iload_n X.1 X.2.1 dX1_fill_34 rfl (lv_at hl 3 rfl) ?_
        refine w_isub X dX1_fill_35 ?_
        refine wr_Z (rS (As := [.int (oI x2), .int (oI 0), .int (oI (w32 (16384 - x3)))]) (rest := []) X hT hWσ_12 hS (met_House_isIn l (w := w) x2 0 (w32 (16384 - x3)) _ σ_12 rx2 rZ_0.i (w32_r _) h) (va_cwS 3 X.2.2.2.2 (lw_S q208 q209 q131 q210) rfl rfl rfl (by decide +kernel) ⟨Nat.le_of_ble_eq_true rfl, Nat.le_of_ble_eq_true rfl⟩) rfl hl.1 rfl (by first | exact Nat.le_of_ble_eq_true rfl | simp [catK, catI, catR, catL]) dX1_fill_36 ⟨Nat.le_refl _, Nat.le_refl _⟩) hS (fun r_13 σ_14 H locs rr_13 rkσ_14 h hWσ_14 hS => ?_)
        have h := h rr_13 rkσ_14
        refine w_if_ne (tgt := 45) X rr_13.i dX1_fill_39 (by decide) (fun hc => ?_) (fun hc => ?_)
        · have h := h.1 hc
          refine lv_aload_n X.1 X.2.1 dX1_fill_45 rfl (lv_at hl 0 rfl) ?_
          refine lv_aload_n X.1 X.2.1 dX1_fill_46 rfl (lv_at hl 0 rfl) ?_
          refine wg (v := .ref (wad w 70 0)) X hT hWσ_14 1 6 70 vl1_0 rfl rfl (by decide) rfl (by decide) in_X1 q1076 rfl dX1_fill_47 ?_
          refine lv_iload_n X.1 X.2.1 dX1_fill_50 rfl (lv_at hl 1 rfl) ?_
          obtain ⟨bi, h⟩ := h
          refine w_iald (n := 8) X hT hWσ_14 70 vl70_0 (by decide) rfl rfl bi dX1_fill_51 ?_
          refine lv_iload_n X.1 X.2.1 dX1_fill_52 rfl (lv_at hl 2 rfl) ?_
          refine lv_iload_n X.1 X.2.1 dX1_fill_53 rfl (lv_at hl 3 rfl) ?_
          refine lv_iconst (v := oI 1) X.1 X.2.1 dX1_fill_54 rfl ?_
          refine lv_iload X.1 X.2.1 dX1_fill_55 (lv_at hl 4 rfl) ?_
          refine w_i2l X rx4 dX1_fill_57 ?_
          refine wr_I (rV (As := [.int (oI (gA σ_14 70 0 x1)), .int (oI x2), .int (oI x3), .int (oI 1), .long (oL x4)]) (rest := []) X hT hWσ_14 hS (met_House_put l (w := w) hV (gA σ_14 70 0 x1) x2 x3 1 x4 _ σ_14 (hWσ_14.r.ai 70 0 x1 rfl) rx2 rx3 rZ_1.i (rI.j rx4) h) (cwV 5 X.2.2.2.2 (lw_V q1556 q1558 qs68 q131 q1559) rfl rfl rfl (by decide +kernel) ⟨Nat.le_of_ble_eq_true rfl, Nat.le_of_ble_eq_true rfl⟩) vl1_0 (by decide) rfl rfl hl.1 rfl (by first | exact Nat.le_of_ble_eq_true rfl | simp [catK, catI, catR, catL]) dX1_fill_58 ⟨Nat.le_refl _, Nat.le_refl _⟩) hS (fun r_15 σ_16 H locs rr_15 rkσ_16 h hWσ_16 hS => ?_)
          have h := h rr_15 rkσ_16
          exact wret_I X hr hlk hWσ_16 hS rr_15 h dX1_fill_61
        · have h := h.2 hc
          refine lv_bipush (v := oI (-3)) X.1 X.2.1 dX1_fill_42 (by decide) ?_
          exact wret_I X hr hlk hWσ_14 hS ((rB_lit (-3) (by decide)).i) h dX1_fill_44
  · have h := h.2 hc
    refine lv_bipush (v := oI (-2)) X.1 X.2.1 dX1_fill_7 (by decide) ?_
    exact wret_I X hr hlk hW hS ((rB_lit (-2) (by decide)).i) h dX1_fill_9
/-! House.copy(IIIII)I -/
set_option maxHeartbeats 4000000 in
set_option maxRecDepth 100000 in
theorem wk_House_copy_L101B {p : Program} {l : Launch} {e : Env} {st : State} {m : MethodId} {args : Array Value} {below : List Frame} {meth : Method} {c : Code} {w : Wp} {x1 : Int} {x2 : Int} {x3 : Int} {x4 : Int} {x5 : Int} {Q : Int → St → Prop} (X : CallFix p m c cX1_copy 10 st args lw_all RX1) (hr : meth.sig.returnType = (some .int)) (hlk : meth.locks = false) (hT : Tb w st) (hV : Hvl w) (rx1 : rI x1) (rx2 : rI x2) (rx3 : rI x3) (rx4 : rI x4) (rx5 : rI x5) (K101 : Int → Int → St → Prop) (hK101 : ∀ (y6 y7 : Int) (σ : St) (H : Heap) (locs : List Loc) (ls : Array Slot), rI y6 → rI y7 → lv_has ls 10 [(0, .ref (wad w 1 0)), (2, .int (oI x2)), (3, .int (oI x3)), (4, .int (oI x4)), (6, .int (oI y6)), (7, .int (oI y7))] → Wo w σ H → va_S (wA w) st.heap H locs → K101 y6 y7 σ → W p l e (headSpec (ws_ yX1_copy cX1_copy 10 (some .int)) rm_House_copy).room st m args below meth c H locs 0 0 (MQ below (QcI w Q) args st 0 0 (wA w)) (F0 m 101 ls [])) : ∀ (y6 y7 : Int) (σ : St) (H : Heap) (locs : List Loc) (ls : Array Slot), rI y6 → rI y7 → lv_has ls 10 [(0, .ref (wad w 1 0)), (2, .int (oI x2)), (3, .int (oI x3)), (4, .int (oI x4)), (6, .int (oI y6)), (7, .int (oI y7))] → Wo w σ H → va_S (wA w) st.heap H locs → wp_House_copy_L101 (wc w) (wtv w) x1 x2 x3 x4 x5 Q K101 y6 y7 σ → W p l e (headSpec (ws_ yX1_copy cX1_copy 10 (some .int)) rm_House_copy).room st m args below meth c H locs 0 0 (MQ below (QcI w Q) args st 0 0 (wA w)) (F0 m 101 ls []) := by
  have vl1_0 : vl w 1 0 := hV.hv 1 rfl ⟨by omega, by show _ < (1 : Int); omega⟩
  have vl10_0 : vl w 10 0 := hV.hv 10 rfl ⟨by omega, by show _ < (4 : Int); omega⟩
  have vl70_0 : vl w 70 0 := hV.hv 70 rfl ⟨by omega, by show _ < (1 : Int); omega⟩
  have vl77_0 : vl w 77 0 := hV.hv 77 rfl ⟨by omega, by show _ < (1 : Int); omega⟩
  have vl85_0 : vl w 85 0 := hV.hv 85 rfl ⟨by omega, by show _ < (1 : Int); omega⟩
  intro y6 y7 σ H locs ls ry6 ry7 hl hW hS h
  unfold wp_House_copy_L101 at h
  refine lv_iload X.1 X.2.1 dX1_copy_101 (lv_at hl 5 rfl) ?_
  refine lv_iload X.1 X.2.1 dX1_copy_103 (lv_at hl 4 rfl) ?_
  refine w_icmp_ge (tgt := 178) X ry7 ry6 dX1_copy_105 (by decide) (fun hc => ?_) (fun hc => ?_)
  · have h := h.1 hc
    refine lv_aload_n X.1 X.2.1 dX1_copy_178 rfl (lv_at hl 0 rfl) ?_
    refine lv_aload_n X.1 X.2.1 dX1_copy_179 rfl (lv_at hl 0 rfl) ?_
    refine wg (v := .ref (wad w 70 0)) X hT hW 1 6 70 vl1_0 rfl rfl (by decide) rfl (by decide) in_X1 q1076 rfl dX1_copy_180 ?_
    refine lv_iload_n X.1 X.2.1 dX1_copy_183 rfl (lv_at hl 2 rfl) ?_
    obtain ⟨bi, h⟩ := h
    refine w_iald (n := 8) X hT hW 70 vl70_0 (by decide) rfl rfl bi dX1_copy_184 ?_
    refine lv_iload X.1 X.2.1 dX1_copy_185 (lv_at hl 3 rfl) ?_
    refine lv_iload X.1 X.2.1 dX1_copy_187 (lv_at hl 4 rfl) ?_
    refine lv_iconst (v := oI 2) X.1 X.2.1 dX1_copy_189 rfl ?_
    refine lv_lconst (v := oL 0) X.1 X.2.1 dX1_copy_190 (by decide) ?_
    refine wr_I (rV (As := [.int (oI (gA σ 70 0 x3)), .int (oI x4), .int (oI y6), .int (oI 2), .long (oL 0)]) (rest := []) X hT hW hS (met_House_put l (w := w) hV (gA σ 70 0 x3) x4 y6 2 0 _ σ (hW.r.ai 70 0 x3 rfl) rx4 ry6 ((rB_lit 2 (by decide)).i) (rJ_lit 0 (by decide)) h) (cwV 5 X.2.2.2.2 (lw_V q1556 q1558 qs68 q131 q1559) rfl rfl rfl (by decide +kernel) ⟨Nat.le_of_ble_eq_true rfl, Nat.le_of_ble_eq_true rfl⟩) vl1_0 (by decide) rfl rfl hl.1 rfl (by first | exact Nat.le_of_ble_eq_true rfl | simp [catK, catI, catR, catL]) dX1_copy_191 ⟨Nat.le_refl _, Nat.le_refl _⟩) hS (fun r_39 σ_40 H locs rr_39 rkσ_40 h hWσ_40 hS => ?_)
    have h := h rr_39 rkσ_40
    exact wret_I X hr hlk hWσ_40 hS rr_39 h dX1_copy_194
  · have h := h.2 hc
    refine lv_iload_n X.1 X.2.1 dX1_copy_108 rfl (lv_at hl 1 rfl) ?_
    refine lv_iload X.1 X.2.1 dX1_copy_109 (lv_at hl 5 rfl) ?_
    refine w_iadd X dX1_copy_111 ?_
    refine lv_bipush (v := oI 64) X.1 X.2.1 dX1_copy_112 (by decide) ?_
    refine w_irem X (w32_r _) ((rB_lit 64 (by decide)).i) (by decide) dX1_copy_114 ?_
    refine w_top (fun y8_41 ey8_41 => ?_)
    have h := h y8_41 ey8_41
    have ry8_41 : rI y8_41 := by rw [ey8_41]; exact (jrm_r _ _)
    refine lv_istore (i := 8) (lv' := [(8, .int (oI y8_41)), (0, .ref (wad w 1 0)), (2, .int (oI x2)), (3, .int (oI x3)), (4, .int (oI x4)), (6, .int (oI y6)), (7, .int (oI y7))]) X.1 X.2.1 dX1_copy_115 hl (by decide) (by first | rfl | simp [catK, catI, catR, catL]) (fun ls hl => ?_)
    refine lv_iload X.1 X.2.1 dX1_copy_117 (lv_at hl 5 rfl) ?_
    refine lv_iload X.1 X.2.1 dX1_copy_119 (lv_at hl 6 rfl) ?_
    refine w_isub X dX1_copy_121 ?_
    refine lv_bipush (v := oI 64) X.1 X.2.1 dX1_copy_122 (by decide) ?_
    refine lv_iload X.1 X.2.1 dX1_copy_124 (lv_at hl 0 rfl) ?_
    refine w_isub X dX1_copy_126 ?_
    refine w_mmin X (w32_r _) (w32_r _) hl.1 q1560 q1188 q149 q1189 (Nat.le_of_ble_eq_true rfl) (Nat.le_of_ble_eq_true rfl) (Nat.le_refl _) (Nat.le_refl _) dX1_copy_127 ?_
    refine w_top (fun y9_42 ey9_42 => ?_)
    have h := h y9_42 ey9_42
    have ry9_42 : rI y9_42 := by rw [ey9_42]; exact (min_rI (w32_r _) (w32_r _))
    refine lv_istore (i := 9) (lv' := [(9, .int (oI y9_42)), (8, .int (oI y8_41)), (0, .ref (wad w 1 0)), (2, .int (oI x2)), (3, .int (oI x3)), (4, .int (oI x4)), (6, .int (oI y6)), (7, .int (oI y7))]) X.1 X.2.1 dX1_copy_130 hl (by decide) (by first | rfl | simp [catK, catI, catR, catL]) (fun ls hl => ?_)
    refine lv_aload_n X.1 X.2.1 dX1_copy_132 rfl (lv_at hl 2 rfl) ?_
    refine lv_aload_n X.1 X.2.1 dX1_copy_133 rfl (lv_at hl 2 rfl) ?_
    refine wg (v := .ref (wad w 10 0)) X hT hW 1 14 78 vl1_0 rfl rfl (by decide) rfl (by decide) in_X1 q1084 rfl dX1_copy_134 ?_
    refine wg (v := .int (oI (gI σ 640 0))) X hT hW 10 0 640 vl10_0 rfl rfl (by decide) rfl (by decide) in_X3 q189 rfl dX1_copy_137 ?_
    refine lv_iload_n X.1 X.2.1 dX1_copy_140 rfl (lv_at hl 3 rfl) ?_
    refine lv_iload X.1 X.2.1 dX1_copy_141 (lv_at hl 7 rfl) ?_
    refine w_iadd X dX1_copy_143 ?_
    refine lv_bipush (v := oI 64) X.1 X.2.1 dX1_copy_144 (by decide) ?_
    refine w_idiv X (w32_r _) ((rB_lit 64 (by decide)).i) (by decide) dX1_copy_146 ?_
    refine wr_I (rV (As := [.int (oI (gI σ 640 0)), .int (oI (jdv (w32 (x2 + y7)) 64))]) (rest := []) X hT hW hS (met_House_piece l (w := w) hV (gI σ 640 0) (jdv (w32 (x2 + y7)) 64) _ σ (hW.r.i 640 0 rfl) (jdv_r _ _) h) (cwV 2 X.2.2.2.2 (lw_V q1479 q1481 qs64 q131 q1482) rfl rfl rfl (by decide +kernel) ⟨Nat.le_of_ble_eq_true rfl, Nat.le_of_ble_eq_true rfl⟩) vl1_0 (by decide) rfl rfl hl.1 rfl (by first | exact Nat.le_of_ble_eq_true rfl | simp [catK, catI, catR, catL]) dX1_copy_147 ⟨Nat.le_refl _, Nat.le_refl _⟩) hS (fun r_43 σ_44 H locs rr_43 rkσ_44 h hWσ_44 hS => ?_)
    have h := h rr_43 rkσ_44
    refine lv_pop X.1 X.2.1 dX1_copy_150 rfl ?_
    refine lv_aload_n X.1 X.2.1 dX1_copy_151 rfl (lv_at hl 2 rfl) ?_
    refine wg (v := .ref (wad w 77 0)) X hT hWσ_44 1 13 77 vl1_0 rfl rfl (by decide) rfl (by decide) in_X1 q1083 rfl dX1_copy_152 ?_
    refine lv_iload X.1 X.2.1 dX1_copy_155 (lv_at hl 1 rfl) ?_
    refine lv_aload_n X.1 X.2.1 dX1_copy_157 rfl (lv_at hl 2 rfl) ?_
    refine wg (v := .ref (wad w 85 0)) X hT hWσ_44 1 21 85 vl1_0 rfl rfl (by decide) rfl (by decide) in_X1 q1091 rfl dX1_copy_158 ?_
    refine lv_iload X.1 X.2.1 dX1_copy_161 (lv_at hl 7 rfl) ?_
    refine lv_iload X.1 X.2.1 dX1_copy_163 (lv_at hl 0 rfl) ?_
    obtain ⟨bi, h⟩ := h
    refine w_copy (nf := 64) (ng := 2048) (sp := y8_41) (dp := y7) (n := y9_42) X hT hWσ_44 hS hl.1 77 85 vl77_0 vl85_0 (by decide) (by decide) rfl rfl rfl rfl bi q1248 q699 q698 q142 (Nat.le_of_ble_eq_true rfl) (Nat.le_of_ble_eq_true rfl) dX1_copy_165 (fun H locs hN hS => ?_)
    obtain ⟨σ_45, eσ_45⟩ : ∃ x, x = sAr σ_44 85 0 (cpy (gA σ_44 77 0) (gA σ_44 85 0) y8_41 y7 y9_42) := ⟨_, rfl⟩
    have hWσ_45 : Wo w σ_45 H := eσ_45 ▸ hN
    have h := h σ_45 eσ_45
    clear hN
    refine lv_iload X.1 X.2.1 dX1_copy_168 (lv_at hl 7 rfl) ?_
    refine lv_iload X.1 X.2.1 dX1_copy_170 (lv_at hl 0 rfl) ?_
    refine w_iadd X dX1_copy_172 ?_
    refine w_top (fun y7_46 ey7_46 => ?_)
    have h := h y7_46 ey7_46
    have ry7_46 : rI y7_46 := by rw [ey7_46]; exact (w32_r _)
    refine lv_istore (i := 7) (lv' := [(7, .int (oI y7_46)), (9, .int (oI y9_42)), (8, .int (oI y8_41)), (0, .ref (wad w 1 0)), (2, .int (oI x2)), (3, .int (oI x3)), (4, .int (oI x4)), (6, .int (oI y6))]) X.1 X.2.1 dX1_copy_173 hl (by decide) (by first | rfl | simp [catK, catI, catR, catL]) (fun ls hl => ?_)
    refine lv_goto (tgt := 101) X.1 X.2.1 dX1_copy_175 (by decide) ?_
    exact hK101 y6 y7_46 σ_45 _ _ _ ry6 ry7_46 (lv_sub hl [3, 4, 5, 6, 7, 0] rfl) hWσ_45 hS h
theorem wk_House_copy_L101 {p : Program} {l : Launch} {e : Env} {st : State} {m : MethodId} {args : Array Value} {below : List Frame} {meth : Method} {c : Code} {w : Wp} {x1 : Int} {x2 : Int} {x3 : Int} {x4 : Int} {x5 : Int} {Q : Int → St → Prop} (X : CallFix p m c cX1_copy 10 st args lw_all RX1) (hr : meth.sig.returnType = (some .int)) (hlk : meth.locks = false) (hT : Tb w st) (hV : Hvl w) (rx1 : rI x1) (rx2 : rI x2) (rx3 : rI x3) (rx4 : rI x4) (rx5 : rI x5) : ∀ (y6 y7 : Int) (σ : St) (H : Heap) (locs : List Loc) (ls : Array Slot), rI y6 → rI y7 → lv_has ls 10 [(0, .ref (wad w 1 0)), (2, .int (oI x2)), (3, .int (oI x3)), (4, .int (oI x4)), (6, .int (oI y6)), (7, .int (oI y7))] → Wo w σ H → va_S (wA w) st.heap H locs → lQ2 (wp_House_copy_L101 (wc w) (wtv w) x1 x2 x3 x4 x5 Q) y6 y7 σ → W p l e (headSpec (ws_ yX1_copy cX1_copy 10 (some .int)) rm_House_copy).room st m args below meth c H locs 0 0 (MQ below (QcI w Q) args st 0 0 (wA w)) (F0 m 101 ls []) := by
  intro y6 y7 σ H locs ls ry6 ry7 hl hW hS h
  obtain ⟨fu, h⟩ := h
  induction fu generalizing y6 y7 σ H locs ls with
  | zero => exact h.elim
  | succ fu ih =>
    exact wk_House_copy_L101B X hr hlk hT hV rx1 rx2 rx3 rx4 rx5 (lq2 (wp_House_copy_L101 (wc w) (wtv w) x1 x2 x3 x4 x5 Q) fu) (fun y6 y7 σ H locs ls ry6 ry7 hl hW hS h => ih y6 y7 σ H locs ls ry6 ry7 hl hW hS h) y6 y7 σ H locs ls ry6 ry7 hl hW hS h
set_option maxHeartbeats 4000000 in
set_option maxRecDepth 100000 in
theorem met_House_copy (l : Launch) {w : Wp} (hV : Hvl w) (x1 : Int) (x2 : Int) (x3 : Int) (x4 : Int) (x5 : Int) (Q : Int → St → Prop) (σ : St) (rx1 : rI x1) (rx2 : rI x2) (rx3 : rI x3) (rx4 : rI x4) (rx5 : rI x5) (h : wp_House_copy (wc w) (wtv w) x1 x2 x3 x4 x5 Q σ) : Met l yX1_copy (ws_ yX1_copy cX1_copy 10 (some .int)) rm_House_copy (PcW w σ [.ref (wad w 1 0), .int (oI x1), .int (oI x2), .int (oI x3), .int (oI x4), .int (oI x5)]) (QcI w Q) 0 0 (wA w) := by
  refine Met.ofW (cc := cX1_copy) (maxL := 10) (ret := (some .int)) (by decide) rfl ?_
  intro p e st m args below meth c s₁ B hml hv
  obtain ⟨hargs, hW, hT⟩ := hv
  have X : CallFix p m c cX1_copy 10 st _ lw_all RX1 := ⟨B.exec, B.bytes, hml, findClass_of_methodNamed B.named, fun w h => atoms_spec (ws := ws_ yX1_copy cX1_copy 10 (some .int)) B.pre w (List.mem_cons_of_mem _ h)⟩
  have hr := B.returns
  have hlk := B.notSynchronized
  have hS : va_S (wA w) st.heap st.heap [] := va_S.rf
  have vl1_0 : vl w 1 0 := hV.hv 1 rfl ⟨by omega, by show _ < (1 : Int); omega⟩
  have vl10_0 : vl w 10 0 := hV.hv 10 rfl ⟨by omega, by show _ < (4 : Int); omega⟩
  have vl70_0 : vl w 70 0 := hV.hv 70 rfl ⟨by omega, by show _ < (1 : Int); omega⟩
  have hl := lv_entry ([.ref (wad w 1 0), .int (oI x1), .int (oI x2), .int (oI x3), .int (oI x4), .int (oI x5)]) (n := 10) (Nat.le_of_ble_eq_true rfl)
  have hfr := lg_entry_eq m ([.ref (wad w 1 0), .int (oI x1), .int (oI x2), .int (oI x3), .int (oI x4), .int (oI x5)]) 10
  rw [← hargs] at hfr
  rw [hfr]
  generalize (lg_sl ([.ref (wad w 1 0), .int (oI x1), .int (oI x2), .int (oI x3), .int (oI x4), .int (oI x5)]) ++ List.replicate (10 - (lg_sl ([.ref (wad w 1 0), .int (oI x1), .int (oI x2), .int (oI x3), .int (oI x4), .int (oI x5)])).length) Slot.unset).toArray = ls at hl ⊢
  have hl : lv_has ls 10 [(0, .ref (wad w 1 0)), (1, .int (oI x1)), (2, .int (oI x2)), (3, .int (oI x3)), (4, .int (oI x4)), (5, .int (oI x5))] := hl
  unfold wp_House_copy at h
  refine lv_aload_n X.1 X.2.1 dX1_copy_0 rfl (lv_at hl 0 rfl) ?_
  refine wg (v := .int (oI (gI σ 69 0))) X hT hW 1 5 69 vl1_0 rfl rfl (by decide) rfl (by decide) in_X1 q1075 rfl dX1_copy_1 ?_
  refine w_if_ne (tgt := 10) X ((hW.r.z 69 0 rfl).i) dX1_copy_4 (by decide) (fun hc => ?_) (fun hc => ?_)
  · have h := h.1 hc
    refine lv_aload_n X.1 X.2.1 dX1_copy_10 rfl (lv_at hl 0 rfl) ?_
    refine lv_iload_n X.1 X.2.1 dX1_copy_11 rfl (lv_at hl 1 rfl) ?_
    refine wr_Z (rV (As := [.int (oI x1)]) (rest := []) X hT hW hS (met_House_isHandle l (w := w) hV x1 _ σ rx1 h) (cwV 1 X.2.2.2.2 (lw_V q1544 q1546 qs67 q131 q1547) rfl rfl rfl (by decide +kernel) ⟨Nat.le_of_ble_eq_true rfl, Nat.le_of_ble_eq_true rfl⟩) vl1_0 (by decide) rfl rfl hl.1 rfl (by first | exact Nat.le_of_ble_eq_true rfl | simp [catK, catI, catR, catL]) dX1_copy_12 ⟨Nat.le_refl _, Nat.le_refl _⟩) hS (fun r_47 σ_48 H locs rr_47 rkσ_48 h hWσ_48 hS => ?_)
    have h := h rr_47 rkσ_48
    refine w_if_eq (tgt := 57) X rr_47.i dX1_copy_15 (by decide) (fun hc => ?_) (fun hc => ?_)
    · have h := h.1 hc
      refine lv_bipush (v := oI (-3)) X.1 X.2.1 dX1_copy_57 (by decide) ?_
      exact wret_I X hr hlk hWσ_48 hS ((rB_lit (-3) (by decide)).i) h dX1_copy_59
    · have h := h.2 hc
      refine lv_aload_n X.1 X.2.1 dX1_copy_18 rfl (lv_at hl 0 rfl) ?_
      refine lv_iload_n X.1 X.2.1 dX1_copy_19 rfl (lv_at hl 3 rfl) ?_
      refine wr_Z (rV (As := [.int (oI x3)]) (rest := []) X hT hWσ_48 hS (met_House_isHandle l (w := w) hV x3 _ σ_48 rx3 h) (cwV 1 X.2.2.2.2 (lw_V q1544 q1546 qs67 q131 q1547) rfl rfl rfl (by decide +kernel) ⟨Nat.le_of_ble_eq_true rfl, Nat.le_of_ble_eq_true rfl⟩) vl1_0 (by decide) rfl rfl hl.1 rfl (by first | exact Nat.le_of_ble_eq_true rfl | simp [catK, catI, catR, catL]) dX1_copy_20 ⟨Nat.le_refl _, Nat.le_refl _⟩) hS (fun r_49 σ_50 H locs rr_49 rkσ_50 h hWσ_50 hS => ?_)
      have h := h rr_49 rkσ_50
      refine w_if_eq (tgt := 57) X rr_49.i dX1_copy_23 (by decide) (fun hc => ?_) (fun hc => ?_)
      · have h := h.1 hc
        refine lv_bipush (v := oI (-3)) X.1 X.2.1 dX1_copy_57 (by decide) ?_
        exact wret_I X hr hlk hWσ_50 hS ((rB_lit (-3) (by decide)).i) h dX1_copy_59
      · have h := h.2 hc
        refine lv_iload X.1 X.2.1 dX1_copy_26 (lv_at hl 5 rfl) ?_
        refine lv_iconst (v := oI 1) X.1 X.2.1 dX1_copy_28 rfl ?_
        refine lv_sipush (v := oI 2048) X.1 X.2.1 dX1_copy_29 (by decide) ?_
        refine wr_Z (rS (As := [.int (oI x5), .int (oI 1), .int (oI 2048)]) (rest := []) X hT hWσ_50 hS (met_House_isIn l (w := w) x5 1 2048 _ σ_50 rx5 rZ_1.i (rI_lit 2048 (by decide)) h) (va_cwS 3 X.2.2.2.2 (lw_S q208 q209 q131 q210) rfl rfl rfl (by decide +kernel) ⟨Nat.le_of_ble_eq_true rfl, Nat.le_of_ble_eq_true rfl⟩) rfl hl.1 rfl (by first | exact Nat.le_of_ble_eq_true rfl | simp [catK, catI, catR, catL]) dX1_copy_32 ⟨Nat.le_refl _, Nat.le_refl _⟩) hS (fun r_51 σ_52 H locs rr_51 rkσ_52 h hWσ_52 hS => ?_)
        have h := h rr_51 rkσ_52
        refine w_if_eq (tgt := 57) X rr_51.i dX1_copy_35 (by decide) (fun hc => ?_) (fun hc => ?_)
        · have h := h.1 hc
          refine lv_bipush (v := oI (-3)) X.1 X.2.1 dX1_copy_57 (by decide) ?_
          exact wret_I X hr hlk hWσ_52 hS ((rB_lit (-3) (by decide)).i) h dX1_copy_59
        · have h := h.2 hc
          refine lv_iload_n X.1 X.2.1 dX1_copy_38 rfl (lv_at hl 2 rfl) ?_
          refine w_if_lt (tgt := 57) X rx2 dX1_copy_39 (by decide) (fun hc => ?_) (fun hc => ?_)
          · have h := h.1 hc
            refine lv_bipush (v := oI (-3)) X.1 X.2.1 dX1_copy_57 (by decide) ?_
            exact wret_I X hr hlk hWσ_52 hS ((rB_lit (-3) (by decide)).i) h dX1_copy_59
          · have h := h.2 hc
            refine lv_iload X.1 X.2.1 dX1_copy_42 (lv_at hl 4 rfl) ?_
            refine lv_iconst (v := oI 0) X.1 X.2.1 dX1_copy_44 rfl ?_
            refine lv_sipush (v := oI 16384) X.1 X.2.1 dX1_copy_45 (by decide) ?_
            refine lv_iload X.1 X.2.1 dX1_copy_48 (lv_at hl 5 rfl) ?_
            refine w_isub X dX1_copy_50 ?_
            refine wr_Z (rS (As := [.int (oI x4), .int (oI 0), .int (oI (w32 (16384 - x5)))]) (rest := []) X hT hWσ_52 hS (met_House_isIn l (w := w) x4 0 (w32 (16384 - x5)) _ σ_52 rx4 rZ_0.i (w32_r _) h) (va_cwS 3 X.2.2.2.2 (lw_S q208 q209 q131 q210) rfl rfl rfl (by decide +kernel) ⟨Nat.le_of_ble_eq_true rfl, Nat.le_of_ble_eq_true rfl⟩) rfl hl.1 rfl (by first | exact Nat.le_of_ble_eq_true rfl | simp [catK, catI, catR, catL]) dX1_copy_51 ⟨Nat.le_refl _, Nat.le_refl _⟩) hS (fun r_53 σ_54 H locs rr_53 rkσ_54 h hWσ_54 hS => ?_)
            have h := h rr_53 rkσ_54
            refine w_if_ne (tgt := 60) X rr_53.i dX1_copy_54 (by decide) (fun hc => ?_) (fun hc => ?_)
            · have h := h.1 hc
              refine lv_aload_n X.1 X.2.1 dX1_copy_60 rfl (lv_at hl 0 rfl) ?_
              refine lv_aload_n X.1 X.2.1 dX1_copy_61 rfl (lv_at hl 0 rfl) ?_
              refine wg (v := .ref (wad w 70 0)) X hT hWσ_54 1 6 70 vl1_0 rfl rfl (by decide) rfl (by decide) in_X1 q1076 rfl dX1_copy_62 ?_
              refine lv_iload_n X.1 X.2.1 dX1_copy_65 rfl (lv_at hl 1 rfl) ?_
              obtain ⟨bi, h⟩ := h
              refine w_iald (n := 8) X hT hWσ_54 70 vl70_0 (by decide) rfl rfl bi dX1_copy_66 ?_
              refine lv_aload_n X.1 X.2.1 dX1_copy_67 rfl (lv_at hl 0 rfl) ?_
              refine wg (v := .ref (wad w 10 0)) X hT hWσ_54 1 14 78 vl1_0 rfl rfl (by decide) rfl (by decide) in_X1 q1084 rfl dX1_copy_68 ?_
              refine wr_Z (rV (As := [.int (oI (gA σ_54 70 0 x1)), .ref (wad w 10 0)]) (rest := []) X hT hWσ_54 hS (met_House_read l (w := w) hV (gA σ_54 70 0 x1) 0 _ σ_54 (hWσ_54.r.ai 70 0 x1 rfl) (by omega) h) (cwV 2 X.2.2.2.2 (lw_V q1177 q1179 qs32 q131 q1180) rfl rfl rfl (by decide +kernel) ⟨Nat.le_of_ble_eq_true rfl, Nat.le_of_ble_eq_true rfl⟩) vl1_0 (by decide) rfl rfl hl.1 rfl (by first | exact Nat.le_of_ble_eq_true rfl | simp [catK, catI, catR, catL]) dX1_copy_71 ⟨Nat.le_refl _, Nat.le_refl _⟩) hS (fun r_55 σ_56 H locs rr_55 rkσ_56 h hWσ_56 hS => ?_)
              have h := h rr_55 rkσ_56
              refine lv_pop X.1 X.2.1 dX1_copy_74 rfl ?_
              refine lv_iload X.1 X.2.1 dX1_copy_75 (lv_at hl 5 rfl) ?_
              refine lv_aload_n X.1 X.2.1 dX1_copy_77 rfl (lv_at hl 0 rfl) ?_
              refine wg (v := .ref (wad w 10 0)) X hT hWσ_56 1 14 78 vl1_0 rfl rfl (by decide) rfl (by decide) in_X1 q1084 rfl dX1_copy_78 ?_
              refine wg (v := .int (oI (gI σ_56 643 0))) X hT hWσ_56 10 3 643 vl10_0 rfl rfl (by decide) rfl (by decide) in_X3 q192 rfl dX1_copy_81 ?_
              refine lv_iload_n X.1 X.2.1 dX1_copy_84 rfl (lv_at hl 2 rfl) ?_
              refine w_isub X dX1_copy_85 ?_
              refine w_mmin X rx5 (w32_r _) hl.1 q1560 q1188 q149 q1189 (Nat.le_of_ble_eq_true rfl) (Nat.le_of_ble_eq_true rfl) (Nat.le_refl _) (Nat.le_refl _) dX1_copy_86 ?_
              refine w_top (fun y6_57 ey6_57 => ?_)
              have h := h y6_57 ey6_57
              have ry6_57 : rI y6_57 := by rw [ey6_57]; exact (min_rI rx5 (w32_r _))
              refine lv_istore (i := 6) (lv' := [(6, .int (oI y6_57)), (0, .ref (wad w 1 0)), (1, .int (oI x1)), (2, .int (oI x2)), (3, .int (oI x3)), (4, .int (oI x4)), (5, .int (oI x5))]) X.1 X.2.1 dX1_copy_89 hl (by decide) (by first | rfl | simp [catK, catI, catR, catL]) (fun ls hl => ?_)
              refine lv_iload X.1 X.2.1 dX1_copy_91 (lv_at hl 0 rfl) ?_
              refine w_if_gt (tgt := 98) X ry6_57 dX1_copy_93 (by decide) (fun hc => ?_) (fun hc => ?_)
              · have h := h.1 hc
                refine lv_iconst (v := oI 0) X.1 X.2.1 dX1_copy_98 rfl ?_
                refine lv_istore (i := 7) (lv' := [(7, .int (oI 0)), (6, .int (oI y6_57)), (0, .ref (wad w 1 0)), (1, .int (oI x1)), (2, .int (oI x2)), (3, .int (oI x3)), (4, .int (oI x4)), (5, .int (oI x5))]) X.1 X.2.1 dX1_copy_99 hl (by decide) (by first | rfl | simp [catK, catI, catR, catL]) (fun ls hl => ?_)
                exact wk_House_copy_L101 X hr hlk hT hV rx1 rx2 rx3 rx4 rx5 y6_57 0 σ_56 _ _ _ ry6_57 rZ_0.i (lv_sub hl [2, 4, 5, 6, 1, 0] rfl) hWσ_56 hS h
              · have h := h.2 hc
                refine lv_iconst (v := oI 0) X.1 X.2.1 dX1_copy_96 rfl ?_
                exact wret_I X hr hlk hWσ_56 hS rZ_0.i h dX1_copy_97
            · have h := h.2 hc
              refine lv_bipush (v := oI (-3)) X.1 X.2.1 dX1_copy_57 (by decide) ?_
              exact wret_I X hr hlk hWσ_54 hS ((rB_lit (-3) (by decide)).i) h dX1_copy_59
  · have h := h.2 hc
    refine lv_bipush (v := oI (-2)) X.1 X.2.1 dX1_copy_7 (by decide) ?_
    exact wret_I X hr hlk hW hS ((rB_lit (-2) (by decide)).i) h dX1_copy_9
/-! House.resize(II)I -/
set_option maxHeartbeats 4000000 in
set_option maxRecDepth 100000 in
theorem wk_House_resize_b153 {p : Program} {l : Launch} {e : Env} {st : State} {m : MethodId} {args : Array Value} {below : List Frame} {meth : Method} {c : Code} {w : Wp} {x1 : Int} {x2 : Int} {Q : Int → St → Prop} (X : CallFix p m c cX1_resize 8 st args lw_all RX1) (hr : meth.sig.returnType = (some .int)) (hlk : meth.locks = false) (hT : Tb w st) (hV : Hvl w) (rx1 : rI x1) (rx2 : rI x2) (K154 : Int → Int → Int → Int → St → Prop) (hK154 : ∀ (y3 y4 y5 t0 : Int) (σ : St) (H : Heap) (locs : List Loc) (ls : Array Slot), rI y3 → rI y4 → rI y5 → rZ t0 → lv_has ls 8 [(0, .ref (wad w 1 0)), (2, .int (oI x2)), (3, .int (oI y3)), (4, .int (oI y4)), (5, .int (oI y5))] → Wo w σ H → va_S (wA w) st.heap H locs → K154 y3 y4 y5 t0 σ → W p l e (headSpec (ws_ yX1_resize cX1_resize 8 (some .int)) rm_House_resize).room st m args below meth c H locs 0 0 (MQ below (QcI w Q) args st 0 0 (wA w)) (F0 m 154 ls [.int (oI t0)])) : ∀ (y3 y4 y5 : Int) (σ : St) (H : Heap) (locs : List Loc) (ls : Array Slot), rI y3 → rI y4 → rI y5 → lv_has ls 8 [(0, .ref (wad w 1 0)), (2, .int (oI x2)), (3, .int (oI y3)), (4, .int (oI y4)), (5, .int (oI y5))] → Wo w σ H → va_S (wA w) st.heap H locs → wp_House_resize_b153 (wc w) (wtv w) x1 x2 Q K154 y3 y4 y5 σ → W p l e (headSpec (ws_ yX1_resize cX1_resize 8 (some .int)) rm_House_resize).room st m args below meth c H locs 0 0 (MQ below (QcI w Q) args st 0 0 (wA w)) (F0 m 153 ls []) := by

  intro y3 y4 y5 σ H locs ls ry3 ry4 ry5 hl hW hS h
  unfold wp_House_resize_b153 at h
  refine lv_iconst (v := oI 0) X.1 X.2.1 dX1_resize_153 rfl ?_
  exact hK154 y3 y4 y5 0 σ _ _ _ ry3 ry4 ry5 rZ_0 (lv_sub hl [0, 1, 2, 3, 4] rfl) hW hS h
set_option maxHeartbeats 4000000 in
set_option maxRecDepth 100000 in
theorem wk_House_resize_b154 {p : Program} {l : Launch} {e : Env} {st : State} {m : MethodId} {args : Array Value} {below : List Frame} {meth : Method} {c : Code} {w : Wp} {x1 : Int} {x2 : Int} {Q : Int → St → Prop} (X : CallFix p m c cX1_resize 8 st args lw_all RX1) (hr : meth.sig.returnType = (some .int)) (hlk : meth.locks = false) (hT : Tb w st) (hV : Hvl w) (rx1 : rI x1) (rx2 : rI x2) (K222 : Int → Int → Int → St → Prop) (hK222 : ∀ (y3 y4 y5 : Int) (σ : St) (H : Heap) (locs : List Loc) (ls : Array Slot), rI y3 → rI y4 → rI y5 → lv_has ls 8 [(0, .ref (wad w 1 0)), (3, .int (oI y3)), (4, .int (oI y4)), (5, .int (oI y5))] → Wo w σ H → va_S (wA w) st.heap H locs → K222 y3 y4 y5 σ → W p l e (headSpec (ws_ yX1_resize cX1_resize 8 (some .int)) rm_House_resize).room st m args below meth c H locs 0 0 (MQ below (QcI w Q) args st 0 0 (wA w)) (F0 m 222 ls [])) : ∀ (y3 y4 y5 t0 : Int) (σ : St) (H : Heap) (locs : List Loc) (ls : Array Slot), rI y3 → rI y4 → rI y5 → rZ t0 → lv_has ls 8 [(0, .ref (wad w 1 0)), (2, .int (oI x2)), (3, .int (oI y3)), (4, .int (oI y4)), (5, .int (oI y5))] → Wo w σ H → va_S (wA w) st.heap H locs → wp_House_resize_b154 (wc w) (wtv w) x1 x2 Q K222 y3 y4 y5 t0 σ → W p l e (headSpec (ws_ yX1_resize cX1_resize 8 (some .int)) rm_House_resize).room st m args below meth c H locs 0 0 (MQ below (QcI w Q) args st 0 0 (wA w)) (F0 m 154 ls [.int (oI t0)]) := by
  have vl1_0 : vl w 1 0 := hV.hv 1 rfl ⟨by omega, by show _ < (1 : Int); omega⟩
  have vl8_6 : vl w 8 6 := hV.hv 8 rfl ⟨by omega, by show _ < (8 : Int); omega⟩
  intro y3 y4 y5 t0 σ H locs ls ry3 ry4 ry5 rt0 hl hW hS h
  unfold wp_House_resize_b154 at h
  refine lv_istore (i := 7) (lv' := [(7, .int (oI t0)), (0, .ref (wad w 1 0)), (2, .int (oI x2)), (3, .int (oI y3)), (4, .int (oI y4)), (5, .int (oI y5))]) X.1 X.2.1 dX1_resize_154 hl (by decide) (by first | rfl | simp [catK, catI, catR, catL]) (fun ls hl => ?_)
  refine lv_aload_n X.1 X.2.1 dX1_resize_156 rfl (lv_at hl 1 rfl) ?_
  refine wg (v := .ref (wad w 8 6)) X hT hW 1 11 75 vl1_0 rfl rfl (by decide) rfl (by decide) in_X1 q1081 rfl dX1_resize_157 ?_
  refine lv_iconst (v := oI 4) X.1 X.2.1 dX1_resize_160 rfl ?_
  refine lv_bipush (v := oI 40) X.1 X.2.1 dX1_resize_161 (by decide) ?_
  refine wr_R (rV (As := [.int (oI 4), .int (oI 40)]) (rest := []) X hT hW hS (met_Row_begin l (w := w) hV 6 4 40 _ σ (by omega) ((rB_lit 4 (by decide)).i) ((rB_lit 40 (by decide)).i) h) (cwV 2 X.2.2.2.2 (lw_V q1240 q741 q742 q132 q743) rfl rfl rfl (by decide +kernel) ⟨Nat.le_of_ble_eq_true rfl, Nat.le_of_ble_eq_true rfl⟩) vl8_6 (by decide) rfl rfl hl.1 rfl (by first | exact Nat.le_of_ble_eq_true rfl | simp [catK, catI, catR, catL]) dX1_resize_163 ⟨Nat.le_refl _, Nat.le_refl _⟩) hS (fun σ_36 H locs rkσ_36 h hWσ_36 hS => ?_)
  have h := h rkσ_36
  refine lv_iconst (v := oI 0) X.1 X.2.1 dX1_resize_166 rfl ?_
  refine lv_iload_n X.1 X.2.1 dX1_resize_167 rfl (lv_at hl 3 rfl) ?_
  refine wr_R (rV (As := [.int (oI 0), .int (oI y3)]) (rest := []) X hT hWσ_36 hS (met_Row_put l (w := w) hV 6 0 y3 _ σ_36 (by omega) rZ_0.i ry3 h) (cwV 2 X.2.2.2.2 (lw_V q1241 q748 q749 q132 q750) rfl rfl rfl (by decide +kernel) ⟨Nat.le_of_ble_eq_true rfl, Nat.le_of_ble_eq_true rfl⟩) vl8_6 (by decide) rfl rfl hl.1 rfl (by first | exact Nat.le_of_ble_eq_true rfl | simp [catK, catI, catR, catL]) dX1_resize_168 ⟨Nat.le_refl _, Nat.le_refl _⟩) hS (fun σ_38 H locs rkσ_38 h hWσ_38 hS => ?_)
  have h := h rkσ_38
  refine lv_iconst (v := oI 4) X.1 X.2.1 dX1_resize_171 rfl ?_
  refine lv_iload_n X.1 X.2.1 dX1_resize_172 rfl (lv_at hl 2 rfl) ?_
  refine wr_R (rV (As := [.int (oI 4), .int (oI x2)]) (rest := []) X hT hWσ_38 hS (met_Row_put l (w := w) hV 6 4 x2 _ σ_38 (by omega) ((rB_lit 4 (by decide)).i) rx2 h) (cwV 2 X.2.2.2.2 (lw_V q1241 q748 q749 q132 q750) rfl rfl rfl (by decide +kernel) ⟨Nat.le_of_ble_eq_true rfl, Nat.le_of_ble_eq_true rfl⟩) vl8_6 (by decide) rfl rfl hl.1 rfl (by first | exact Nat.le_of_ble_eq_true rfl | simp [catK, catI, catR, catL]) dX1_resize_173 ⟨Nat.le_refl _, Nat.le_refl _⟩) hS (fun σ_40 H locs rkσ_40 h hWσ_40 hS => ?_)
  have h := h rkσ_40
  refine lv_pop X.1 X.2.1 dX1_resize_176 rfl ?_
  refine lv_aload_n X.1 X.2.1 dX1_resize_177 rfl (lv_at hl 1 rfl) ?_
  refine wg (v := .ref (wad w 8 6)) X hT hWσ_40 1 11 75 vl1_0 rfl rfl (by decide) rfl (by decide) in_X1 q1081 rfl dX1_resize_178 ?_
  refine lv_lconst (v := oL 0) X.1 X.2.1 dX1_resize_181 (by decide) ?_
  refine lv_iload X.1 X.2.1 dX1_resize_182 (lv_at hl 0 rfl) ?_
  refine w_cut (pc2 := 192) (st2 := [.int (oI (if t0 = 0 then (1 : Int) else (0 : Int))), .long (oL 0), .ref (wad w 8 6)]) (fun hj => ?_) ?_
  · refine w_if_ne (tgt := 191) X rt0.i dX1_resize_184 (by decide) (fun hc => ?_) (fun hc => ?_)
    · refine lv_iconst (v := oI 0) X.1 X.2.1 dX1_resize_191 rfl ?_
      rw [if_neg hc] at hj; exact hj
    · refine lv_iconst (v := oI 1) X.1 X.2.1 dX1_resize_187 rfl ?_
      refine lv_goto (tgt := 192) X.1 X.2.1 dX1_resize_188 (by decide) ?_
      rw [if_pos hc] at hj; exact hj
  refine wr_V (rV (As := [.long (oL 0), .int (oI (if t0 = 0 then (1 : Int) else (0 : Int)))]) (rest := []) X hT hWσ_40 hS (met_Row_close l (w := w) hV 6 0 (if t0 = 0 then (1 : Int) else (0 : Int)) _ σ_40 (by omega) (rJ_lit 0 (by decide)) (ite_rZ rZ_1 rZ_0) h) (cwV 2 X.2.2.2.2 (lw_V q1243 q756 q757 q132 q758) rfl rfl rfl (by decide +kernel) ⟨Nat.le_of_ble_eq_true rfl, Nat.le_of_ble_eq_true rfl⟩) vl8_6 (by decide) rfl rfl hl.1 rfl (by first | exact Nat.le_of_ble_eq_true rfl | simp [catK, catI, catR, catL]) dX1_resize_192 ⟨Nat.le_refl _, Nat.le_refl _⟩) hS (fun σ_42 H locs rkσ_42 h hWσ_42 hS => ?_)
  have h := h rkσ_42
  refine lv_iload X.1 X.2.1 dX1_resize_195 (lv_at hl 0 rfl) ?_
  refine w_if_eq (tgt := 222) X rt0.i dX1_resize_197 (by decide) (fun hc => ?_) (fun hc => ?_)
  · have h := h.1 hc
    exact hK222 y3 y4 y5 σ_42 _ _ _ ry3 ry4 ry5 (lv_sub hl [1, 3, 4, 5] rfl) hWσ_42 hS h
  · have h := h.2 hc
    refine lv_aload_n X.1 X.2.1 dX1_resize_200 rfl (lv_at hl 1 rfl) ?_
    refine lv_iload_n X.1 X.2.1 dX1_resize_201 rfl (lv_at hl 3 rfl) ?_
    refine lv_iload_n X.1 X.2.1 dX1_resize_202 rfl (lv_at hl 2 rfl) ?_
    refine lv_bipush (v := oI 64) X.1 X.2.1 dX1_resize_203 (by decide) ?_
    refine w_idiv X rx2 ((rB_lit 64 (by decide)).i) (by decide) dX1_resize_205 ?_
    refine lv_iload_n X.1 X.2.1 dX1_resize_206 rfl (lv_at hl 2 rfl) ?_
    refine lv_bipush (v := oI 64) X.1 X.2.1 dX1_resize_207 (by decide) ?_
    refine w_irem X rx2 ((rB_lit 64 (by decide)).i) (by decide) dX1_resize_209 ?_
    refine wr_V (rV (As := [.int (oI y3), .int (oI (jdv x2 64)), .int (oI (jrm x2 64))]) (rest := []) X hT hWσ_42 hS (met_House_addPiece l (w := w) hV y3 (jdv x2 64) (jrm x2 64) _ σ_42 ry3 (jdv_r _ _) (jrm_r _ _) h) (cwV 3 X.2.2.2.2 (lw_V q1249 q1251 qs38 q131 q1252) rfl rfl rfl (by decide +kernel) ⟨Nat.le_of_ble_eq_true rfl, Nat.le_of_ble_eq_true rfl⟩) vl1_0 (by decide) rfl rfl hl.1 rfl (by first | exact Nat.le_of_ble_eq_true rfl | simp [catK, catI, catR, catL]) dX1_resize_210 ⟨Nat.le_refl _, Nat.le_refl _⟩) hS (fun σ_44 H locs rkσ_44 h hWσ_44 hS => ?_)
    have h := h rkσ_44
    refine lv_aload_n X.1 X.2.1 dX1_resize_213 rfl (lv_at hl 1 rfl) ?_
    refine wg (v := .ref (wad w 8 6)) X hT hWσ_44 1 11 75 vl1_0 rfl rfl (by decide) rfl (by decide) in_X1 q1081 rfl dX1_resize_214 ?_
    refine lv_lconst (v := oL 0) X.1 X.2.1 dX1_resize_217 (by decide) ?_
    refine lv_iconst (v := oI 1) X.1 X.2.1 dX1_resize_218 rfl ?_
    refine wr_V (rV (As := [.long (oL 0), .int (oI 1)]) (rest := []) X hT hWσ_44 hS (met_Row_close l (w := w) hV 6 0 1 _ σ_44 (by omega) (rJ_lit 0 (by decide)) rZ_1 h) (cwV 2 X.2.2.2.2 (lw_V q1243 q756 q757 q132 q758) rfl rfl rfl (by decide +kernel) ⟨Nat.le_of_ble_eq_true rfl, Nat.le_of_ble_eq_true rfl⟩) vl8_6 (by decide) rfl rfl hl.1 rfl (by first | exact Nat.le_of_ble_eq_true rfl | simp [catK, catI, catR, catL]) dX1_resize_219 ⟨Nat.le_refl _, Nat.le_refl _⟩) hS (fun σ_46 H locs rkσ_46 h hWσ_46 hS => ?_)
    have h := h rkσ_46
    exact hK222 y3 y4 y5 σ_46 _ _ _ ry3 ry4 ry5 (lv_sub hl [1, 3, 4, 5] rfl) hWσ_46 hS h
set_option maxHeartbeats 4000000 in
set_option maxRecDepth 100000 in
theorem wk_House_resize_b131 {p : Program} {l : Launch} {e : Env} {st : State} {m : MethodId} {args : Array Value} {below : List Frame} {meth : Method} {c : Code} {w : Wp} {x1 : Int} {x2 : Int} {Q : Int → St → Prop} (X : CallFix p m c cX1_resize 8 st args lw_all RX1) (hr : meth.sig.returnType = (some .int)) (hlk : meth.locks = false) (hT : Tb w st) (hV : Hvl w) (rx1 : rI x1) (rx2 : rI x2) (K222 : Int → Int → Int → St → Prop) (hK222 : ∀ (y3 y4 y5 : Int) (σ : St) (H : Heap) (locs : List Loc) (ls : Array Slot), rI y3 → rI y4 → rI y5 → lv_has ls 8 [(0, .ref (wad w 1 0)), (3, .int (oI y3)), (4, .int (oI y4)), (5, .int (oI y5))] → Wo w σ H → va_S (wA w) st.heap H locs → K222 y3 y4 y5 σ → W p l e (headSpec (ws_ yX1_resize cX1_resize 8 (some .int)) rm_House_resize).room st m args below meth c H locs 0 0 (MQ below (QcI w Q) args st 0 0 (wA w)) (F0 m 222 ls [])) : ∀ (y3 y4 y5 t0 : Int) (σ : St) (H : Heap) (locs : List Loc) (ls : Array Slot), rI y3 → rI y4 → rI y5 → rI t0 → lv_has ls 8 [(0, .ref (wad w 1 0)), (2, .int (oI x2)), (3, .int (oI y3)), (4, .int (oI y4)), (5, .int (oI y5))] → Wo w σ H → va_S (wA w) st.heap H locs → wp_House_resize_b131 (wc w) (wtv w) x1 x2 Q K222 y3 y4 y5 t0 σ → W p l e (headSpec (ws_ yX1_resize cX1_resize 8 (some .int)) rm_House_resize).room st m args below meth c H locs 0 0 (MQ below (QcI w Q) args st 0 0 (wA w)) (F0 m 131 ls [.int (oI t0)]) := by

  intro y3 y4 y5 t0 σ H locs ls ry3 ry4 ry5 rt0 hl hW hS h
  unfold wp_House_resize_b131 at h
  refine lv_istore (i := 6) (lv' := [(6, .int (oI t0)), (0, .ref (wad w 1 0)), (2, .int (oI x2)), (3, .int (oI y3)), (4, .int (oI y4)), (5, .int (oI y5))]) X.1 X.2.1 dX1_resize_131 hl (by decide) (by first | rfl | simp [catK, catI, catR, catL]) (fun ls hl => ?_)
  refine lv_iload X.1 X.2.1 dX1_resize_133 (lv_at hl 0 rfl) ?_
  refine lv_iload_n X.1 X.2.1 dX1_resize_135 rfl (lv_at hl 2 rfl) ?_
  refine lv_bipush (v := oI 64) X.1 X.2.1 dX1_resize_136 (by decide) ?_
  refine w_irem X rx2 ((rB_lit 64 (by decide)).i) (by decide) dX1_resize_138 ?_
  refine w_icmp_le (tgt := 153) X rt0 (jrm_r _ _) dX1_resize_139 (by decide) (fun hc => ?_) (fun hc => ?_)
  · have h := h.1 hc
    exact wk_House_resize_b153 X hr hlk hT hV rx1 rx2 (wp_House_resize_b154 (wc w) (wtv w) x1 x2 Q K222) (wk_House_resize_b154 X hr hlk hT hV rx1 rx2 K222 hK222) y3 y4 y5 σ _ _ _ ry3 ry4 ry5 (lv_sub hl [1, 2, 3, 4, 5] rfl) hW hS h
  · have h := h.2 hc
    refine lv_iload_n X.1 X.2.1 dX1_resize_142 rfl (lv_at hl 2 rfl) ?_
    refine lv_bipush (v := oI 64) X.1 X.2.1 dX1_resize_143 (by decide) ?_
    refine w_irem X rx2 ((rB_lit 64 (by decide)).i) (by decide) dX1_resize_145 ?_
    refine w_if_le (tgt := 153) X (jrm_r _ _) dX1_resize_146 (by decide) (fun hc => ?_) (fun hc => ?_)
    · have h := h.1 hc
      exact wk_House_resize_b153 X hr hlk hT hV rx1 rx2 (wp_House_resize_b154 (wc w) (wtv w) x1 x2 Q K222) (wk_House_resize_b154 X hr hlk hT hV rx1 rx2 K222 hK222) y3 y4 y5 σ _ _ _ ry3 ry4 ry5 (lv_sub hl [1, 2, 3, 4, 5] rfl) hW hS h
    · have h := h.2 hc
      refine lv_iconst (v := oI 1) X.1 X.2.1 dX1_resize_149 rfl ?_
      refine lv_goto (tgt := 154) X.1 X.2.1 dX1_resize_150 (by decide) ?_
      exact wk_House_resize_b154 X hr hlk hT hV rx1 rx2 K222 hK222 y3 y4 y5 1 σ _ _ _ ry3 ry4 ry5 rZ_1 (lv_sub hl [1, 2, 3, 4, 5] rfl) hW hS h
set_option maxHeartbeats 4000000 in
set_option maxRecDepth 100000 in
theorem wk_House_resize_b222 {p : Program} {l : Launch} {e : Env} {st : State} {m : MethodId} {args : Array Value} {below : List Frame} {meth : Method} {c : Code} {w : Wp} {x1 : Int} {x2 : Int} {Q : Int → St → Prop} (X : CallFix p m c cX1_resize 8 st args lw_all RX1) (hr : meth.sig.returnType = (some .int)) (hlk : meth.locks = false) (hT : Tb w st) (hV : Hvl w) (rx1 : rI x1) (rx2 : rI x2) : ∀ (y3 y4 y5 : Int) (σ : St) (H : Heap) (locs : List Loc) (ls : Array Slot), rI y3 → rI y4 → rI y5 → lv_has ls 8 [(0, .ref (wad w 1 0)), (3, .int (oI y3)), (4, .int (oI y4)), (5, .int (oI y5))] → Wo w σ H → va_S (wA w) st.heap H locs → wp_House_resize_b222 (wc w) (wtv w) x1 x2 Q y3 y4 y5 σ → W p l e (headSpec (ws_ yX1_resize cX1_resize 8 (some .int)) rm_House_resize).room st m args below meth c H locs 0 0 (MQ below (QcI w Q) args st 0 0 (wA w)) (F0 m 222 ls []) := by
  have vl1_0 : vl w 1 0 := hV.hv 1 rfl ⟨by omega, by show _ < (1 : Int); omega⟩
  intro y3 y4 y5 σ H locs ls ry3 ry4 ry5 hl hW hS h
  unfold wp_House_resize_b222 at h
  refine lv_aload_n X.1 X.2.1 dX1_resize_222 rfl (lv_at hl 0 rfl) ?_
  refine wr_V (rV (As := []) (rest := []) X hT hW hS (met_House_hand l (w := w) hV _ σ h) (cwV 0 X.2.2.2.2 (lw_V q1253 q1255 qs39 q131 q1256) rfl rfl rfl (by decide +kernel) ⟨Nat.le_of_ble_eq_true rfl, Nat.le_of_ble_eq_true rfl⟩) vl1_0 (by decide) rfl rfl hl.1 rfl (by first | exact Nat.le_of_ble_eq_true rfl | simp [catK, catI, catR, catL]) dX1_resize_223 ⟨Nat.le_refl _, Nat.le_refl _⟩) hS (fun σ_48 H locs rkσ_48 h hWσ_48 hS => ?_)
  have h := h rkσ_48
  refine lv_aload_n X.1 X.2.1 dX1_resize_226 rfl (lv_at hl 0 rfl) ?_
  refine lv_dup X.1 X.2.1 dX1_resize_227 rfl ?_
  refine wg (v := .int (oI (gI σ_48 71 0))) X hT hWσ_48 1 7 71 vl1_0 rfl rfl (by decide) rfl (by decide) in_X1 q1077 rfl dX1_resize_228 ?_
  refine lv_aload_n X.1 X.2.1 dX1_resize_231 rfl (lv_at hl 0 rfl) ?_
  refine lv_iload_n X.1 X.2.1 dX1_resize_232 rfl (lv_at hl 1 rfl) ?_
  refine wr_I (rV (As := [.int (oI y3)]) (rest := [.int (oI (gI σ_48 71 0)), .ref (wad w 1 0)]) X hT hWσ_48 hS (met_House_roomOf l (w := w) hV y3 _ σ_48 ry3 h) (cwV 1 X.2.2.2.2 (lw_V q1416 q1418 qs57 q131 q1419) rfl rfl rfl (by decide +kernel) ⟨Nat.le_of_ble_eq_true rfl, Nat.le_of_ble_eq_true rfl⟩) vl1_0 (by decide) rfl rfl hl.1 rfl (by first | exact Nat.le_of_ble_eq_true rfl | simp [catK, catI, catR, catL]) dX1_resize_233 ⟨Nat.le_refl _, Nat.le_refl _⟩) hS (fun r_49 σ_50 H locs rr_49 rkσ_50 h hWσ_50 hS => ?_)
  have h := h rr_49 rkσ_50
  refine lv_iload X.1 X.2.1 dX1_resize_236 (lv_at hl 3 rfl) ?_
  refine w_isub X dX1_resize_238 ?_
  refine w_iadd X dX1_resize_239 ?_
  refine wput (z := w32 ((gI σ_48 71 0) + (w32 (r_49 - y5)))) X hT hWσ_50 hS 1 7 71 vl1_0 rfl rfl (by decide) rfl (by decide) in_X1 tyX1 tyX1_ok nmX1 q1077 rfl rfl (w32_r _) (fv0 w rfl) rfl rfl dX1_resize_240 (fun H locs hN hS => ?_)
  obtain ⟨σ_51, eσ_51⟩ : ∃ x, x = sI σ_50 71 0 (w32 ((gI σ_48 71 0) + (w32 (r_49 - y5)))) := ⟨_, rfl⟩
  have hWσ_51 : Wo w σ_51 H := eσ_51 ▸ hN
  have h := h σ_51 eσ_51
  clear hN
  refine lv_iload X.1 X.2.1 dX1_resize_243 (lv_at hl 2 rfl) ?_
  exact wret_I X hr hlk hWσ_51 hS ry4 h dX1_resize_245
set_option maxHeartbeats 4000000 in
set_option maxRecDepth 100000 in
theorem met_House_resize (l : Launch) {w : Wp} (hV : Hvl w) (x1 : Int) (x2 : Int) (Q : Int → St → Prop) (σ : St) (rx1 : rI x1) (rx2 : rI x2) (h : wp_House_resize (wc w) (wtv w) x1 x2 Q σ) : Met l yX1_resize (ws_ yX1_resize cX1_resize 8 (some .int)) rm_House_resize (PcW w σ [.ref (wad w 1 0), .int (oI x1), .int (oI x2)]) (QcI w Q) 0 0 (wA w) := by
  refine Met.ofW (cc := cX1_resize) (maxL := 8) (ret := (some .int)) (by decide) rfl ?_
  intro p e st m args below meth c s₁ B hml hv
  obtain ⟨hargs, hW, hT⟩ := hv
  have X : CallFix p m c cX1_resize 8 st _ lw_all RX1 := ⟨B.exec, B.bytes, hml, findClass_of_methodNamed B.named, fun w h => atoms_spec (ws := ws_ yX1_resize cX1_resize 8 (some .int)) B.pre w (List.mem_cons_of_mem _ h)⟩
  have hr := B.returns
  have hlk := B.notSynchronized
  have hS : va_S (wA w) st.heap st.heap [] := va_S.rf
  have vl1_0 : vl w 1 0 := hV.hv 1 rfl ⟨by omega, by show _ < (1 : Int); omega⟩
  have vl10_0 : vl w 10 0 := hV.hv 10 rfl ⟨by omega, by show _ < (4 : Int); omega⟩
  have vl70_0 : vl w 70 0 := hV.hv 70 rfl ⟨by omega, by show _ < (1 : Int); omega⟩
  have hl := lv_entry ([.ref (wad w 1 0), .int (oI x1), .int (oI x2)]) (n := 8) (Nat.le_of_ble_eq_true rfl)
  have hfr := lg_entry_eq m ([.ref (wad w 1 0), .int (oI x1), .int (oI x2)]) 8
  rw [← hargs] at hfr
  rw [hfr]
  generalize (lg_sl ([.ref (wad w 1 0), .int (oI x1), .int (oI x2)]) ++ List.replicate (8 - (lg_sl ([.ref (wad w 1 0), .int (oI x1), .int (oI x2)])).length) Slot.unset).toArray = ls at hl ⊢
  have hl : lv_has ls 8 [(0, .ref (wad w 1 0)), (1, .int (oI x1)), (2, .int (oI x2))] := hl
  unfold wp_House_resize at h
  refine lv_aload_n X.1 X.2.1 dX1_resize_0 rfl (lv_at hl 0 rfl) ?_
  refine wg (v := .int (oI (gI σ 69 0))) X hT hW 1 5 69 vl1_0 rfl rfl (by decide) rfl (by decide) in_X1 q1075 rfl dX1_resize_1 ?_
  refine w_if_ne (tgt := 10) X ((hW.r.z 69 0 rfl).i) dX1_resize_4 (by decide) (fun hc => ?_) (fun hc => ?_)
  · have h := h.1 hc
    refine lv_aload_n X.1 X.2.1 dX1_resize_10 rfl (lv_at hl 0 rfl) ?_
    refine lv_iload_n X.1 X.2.1 dX1_resize_11 rfl (lv_at hl 1 rfl) ?_
    refine wr_Z (rV (As := [.int (oI x1)]) (rest := []) X hT hW hS (met_House_isHandle l (w := w) hV x1 _ σ rx1 h) (cwV 1 X.2.2.2.2 (lw_V q1544 q1546 qs67 q131 q1547) rfl rfl rfl (by decide +kernel) ⟨Nat.le_of_ble_eq_true rfl, Nat.le_of_ble_eq_true rfl⟩) vl1_0 (by decide) rfl rfl hl.1 rfl (by first | exact Nat.le_of_ble_eq_true rfl | simp [catK, catI, catR, catL]) dX1_resize_12 ⟨Nat.le_refl _, Nat.le_refl _⟩) hS (fun r_52 σ_53 H locs rr_52 rkσ_53 h hWσ_53 hS => ?_)
    have h := h rr_52 rkσ_53
    refine w_if_eq (tgt := 29) X rr_52.i dX1_resize_15 (by decide) (fun hc => ?_) (fun hc => ?_)
    · have h := h.1 hc
      refine lv_bipush (v := oI (-3)) X.1 X.2.1 dX1_resize_29 (by decide) ?_
      exact wret_I X hr hlk hWσ_53 hS ((rB_lit (-3) (by decide)).i) h dX1_resize_31
    · have h := h.2 hc
      refine lv_iload_n X.1 X.2.1 dX1_resize_18 rfl (lv_at hl 2 rfl) ?_
      refine lv_iconst (v := oI 0) X.1 X.2.1 dX1_resize_19 rfl ?_
      refine lv_sipush (v := oI 16384) X.1 X.2.1 dX1_resize_20 (by decide) ?_
      refine wr_Z (rS (As := [.int (oI x2), .int (oI 0), .int (oI 16384)]) (rest := []) X hT hWσ_53 hS (met_House_isIn l (w := w) x2 0 16384 _ σ_53 rx2 rZ_0.i (rI_lit 16384 (by decide)) h) (va_cwS 3 X.2.2.2.2 (lw_S q208 q209 q131 q210) rfl rfl rfl (by decide +kernel) ⟨Nat.le_of_ble_eq_true rfl, Nat.le_of_ble_eq_true rfl⟩) rfl hl.1 rfl (by first | exact Nat.le_of_ble_eq_true rfl | simp [catK, catI, catR, catL]) dX1_resize_23 ⟨Nat.le_refl _, Nat.le_refl _⟩) hS (fun r_54 σ_55 H locs rr_54 rkσ_55 h hWσ_55 hS => ?_)
      have h := h rr_54 rkσ_55
      refine w_if_ne (tgt := 32) X rr_54.i dX1_resize_26 (by decide) (fun hc => ?_) (fun hc => ?_)
      · have h := h.1 hc
        refine lv_aload_n X.1 X.2.1 dX1_resize_32 rfl (lv_at hl 0 rfl) ?_
        refine wg (v := .ref (wad w 70 0)) X hT hWσ_55 1 6 70 vl1_0 rfl rfl (by decide) rfl (by decide) in_X1 q1076 rfl dX1_resize_33 ?_
        refine lv_iload_n X.1 X.2.1 dX1_resize_36 rfl (lv_at hl 1 rfl) ?_
        obtain ⟨bi, h⟩ := h
        refine w_iald (n := 8) X hT hWσ_55 70 vl70_0 (by decide) rfl rfl bi dX1_resize_37 ?_
        refine w_top (fun y3_56 ey3_56 => ?_)
        have h := h y3_56 ey3_56
        have ry3_56 : rI y3_56 := by rw [ey3_56]; exact (hWσ_55.r.ai 70 0 x1 rfl)
        refine lv_istore_n (i := 3) (lv' := [(3, .int (oI y3_56)), (0, .ref (wad w 1 0)), (1, .int (oI x1)), (2, .int (oI x2))]) X.1 X.2.1 dX1_resize_38 rfl hl (by decide) (by first | rfl | simp [catK, catI, catR, catL]) (fun ls hl => ?_)
        refine lv_aload_n X.1 X.2.1 dX1_resize_39 rfl (lv_at hl 1 rfl) ?_
        refine lv_iload_n X.1 X.2.1 dX1_resize_40 rfl (lv_at hl 0 rfl) ?_
        refine lv_aload_n X.1 X.2.1 dX1_resize_41 rfl (lv_at hl 1 rfl) ?_
        refine wg (v := .ref (wad w 10 0)) X hT hWσ_55 1 14 78 vl1_0 rfl rfl (by decide) rfl (by decide) in_X1 q1084 rfl dX1_resize_42 ?_
        refine wr_Z (rV (As := [.int (oI y3_56), .ref (wad w 10 0)]) (rest := []) X hT hWσ_55 hS (met_House_read l (w := w) hV y3_56 0 _ σ_55 ry3_56 (by omega) h) (cwV 2 X.2.2.2.2 (lw_V q1177 q1179 qs32 q131 q1180) rfl rfl rfl (by decide +kernel) ⟨Nat.le_of_ble_eq_true rfl, Nat.le_of_ble_eq_true rfl⟩) vl1_0 (by decide) rfl rfl hl.1 rfl (by first | exact Nat.le_of_ble_eq_true rfl | simp [catK, catI, catR, catL]) dX1_resize_45 ⟨Nat.le_refl _, Nat.le_refl _⟩) hS (fun r_57 σ_58 H locs rr_57 rkσ_58 h hWσ_58 hS => ?_)
        have h := h rr_57 rkσ_58
        refine lv_pop X.1 X.2.1 dX1_resize_48 rfl ?_
        refine lv_aload_n X.1 X.2.1 dX1_resize_49 rfl (lv_at hl 1 rfl) ?_
        refine wg (v := .ref (wad w 10 0)) X hT hWσ_58 1 14 78 vl1_0 rfl rfl (by decide) rfl (by decide) in_X1 q1084 rfl dX1_resize_50 ?_
        refine wg (v := .int (oI (gI σ_58 643 0))) X hT hWσ_58 10 3 643 vl10_0 rfl rfl (by decide) rfl (by decide) in_X3 q192 rfl dX1_resize_53 ?_
        refine w_top (fun y4_59 ey4_59 => ?_)
        have h := h y4_59 ey4_59
        have ry4_59 : rI y4_59 := by rw [ey4_59]; exact (hWσ_58.r.i 643 0 rfl)
        refine lv_istore (i := 4) (lv' := [(4, .int (oI y4_59)), (3, .int (oI y3_56)), (0, .ref (wad w 1 0)), (1, .int (oI x1)), (2, .int (oI x2))]) X.1 X.2.1 dX1_resize_56 hl (by decide) (by first | rfl | simp [catK, catI, catR, catL]) (fun ls hl => ?_)
        refine lv_iload_n X.1 X.2.1 dX1_resize_58 rfl (lv_at hl 4 rfl) ?_
        refine lv_iload X.1 X.2.1 dX1_resize_59 (lv_at hl 0 rfl) ?_
        refine w_icmp_ne (tgt := 67) X rx2 ry4_59 dX1_resize_61 (by decide) (fun hc => ?_) (fun hc => ?_)
        · have h := h.1 hc
          refine lv_aload_n X.1 X.2.1 dX1_resize_67 rfl (lv_at hl 2 rfl) ?_
          refine lv_iload_n X.1 X.2.1 dX1_resize_68 rfl (lv_at hl 1 rfl) ?_
          refine wr_I (rV (As := [.int (oI y3_56)]) (rest := []) X hT hWσ_58 hS (met_House_roomOf l (w := w) hV y3_56 _ σ_58 ry3_56 h) (cwV 1 X.2.2.2.2 (lw_V q1416 q1418 qs57 q131 q1419) rfl rfl rfl (by decide +kernel) ⟨Nat.le_of_ble_eq_true rfl, Nat.le_of_ble_eq_true rfl⟩) vl1_0 (by decide) rfl rfl hl.1 rfl (by first | exact Nat.le_of_ble_eq_true rfl | simp [catK, catI, catR, catL]) dX1_resize_69 ⟨Nat.le_refl _, Nat.le_refl _⟩) hS (fun r_60 σ_61 H locs rr_60 rkσ_61 h hWσ_61 hS => ?_)
          have h := h rr_60 rkσ_61
          refine lv_istore (i := 5) (lv' := [(5, .int (oI r_60)), (4, .int (oI y4_59)), (3, .int (oI y3_56)), (0, .ref (wad w 1 0)), (1, .int (oI x1)), (2, .int (oI x2))]) X.1 X.2.1 dX1_resize_72 hl (by decide) (by first | rfl | simp [catK, catI, catR, catL]) (fun ls hl => ?_)
          refine lv_aload_n X.1 X.2.1 dX1_resize_74 rfl (lv_at hl 3 rfl) ?_
          refine wg (v := .ref (wad w 10 0)) X hT hWσ_61 1 14 78 vl1_0 rfl rfl (by decide) rfl (by decide) in_X1 q1084 rfl dX1_resize_75 ?_
          refine lv_iload_n X.1 X.2.1 dX1_resize_78 rfl (lv_at hl 5 rfl) ?_
          refine wput (z := x2) X hT hWσ_61 hS 10 3 643 vl10_0 rfl rfl (by decide) rfl (by decide) in_X3 tyX3 tyX3_ok nmX3 q192 rfl rfl rx2 (fv0 w rfl) rfl rfl dX1_resize_79 (fun H locs hN hS => ?_)
          obtain ⟨σ_62, eσ_62⟩ : ∃ x, x = sI σ_61 643 0 x2 := ⟨_, rfl⟩
          have hWσ_62 : Wo w σ_62 H := eσ_62 ▸ hN
          have h := h σ_62 eσ_62
          clear hN
          refine lv_aload_n X.1 X.2.1 dX1_resize_82 rfl (lv_at hl 3 rfl) ?_
          refine wr_V (rV (As := []) (rest := []) X hT hWσ_62 hS (met_House_begin l (w := w) hV _ σ_62 h) (cwV 0 X.2.2.2.2 (lw_V q1231 q1233 qs35 q131 q1234) rfl rfl rfl (by decide +kernel) ⟨Nat.le_of_ble_eq_true rfl, Nat.le_of_ble_eq_true rfl⟩) vl1_0 (by decide) rfl rfl hl.1 rfl (by first | exact Nat.le_of_ble_eq_true rfl | simp [catK, catI, catR, catL]) dX1_resize_83 ⟨Nat.le_refl _, Nat.le_refl _⟩) hS (fun σ_64 H locs rkσ_64 h hWσ_64 hS => ?_)
          have h := h rkσ_64
          refine lv_aload_n X.1 X.2.1 dX1_resize_86 rfl (lv_at hl 3 rfl) ?_
          refine lv_aload_n X.1 X.2.1 dX1_resize_87 rfl (lv_at hl 3 rfl) ?_
          refine wg (v := .ref (wad w 10 0)) X hT hWσ_64 1 14 78 vl1_0 rfl rfl (by decide) rfl (by decide) in_X1 q1084 rfl dX1_resize_88 ?_
          refine lv_iload_n X.1 X.2.1 dX1_resize_91 rfl (lv_at hl 5 rfl) ?_
          refine lv_iload X.1 X.2.1 dX1_resize_92 (lv_at hl 1 rfl) ?_
          refine w_cut (pc2 := 102) (st2 := [.int (oI (if x2 ≤ y4_59 then (0 : Int) else (1 : Int))), .ref (wad w 10 0), .ref (wad w 1 0)]) (fun hj => ?_) ?_
          · refine w_icmp_le (tgt := 101) X rx2 ry4_59 dX1_resize_94 (by decide) (fun hc => ?_) (fun hc => ?_)
            · refine lv_iconst (v := oI 0) X.1 X.2.1 dX1_resize_101 rfl ?_
              rw [if_pos hc] at hj; exact hj
            · refine lv_iconst (v := oI 1) X.1 X.2.1 dX1_resize_97 rfl ?_
              refine lv_goto (tgt := 102) X.1 X.2.1 dX1_resize_98 (by decide) ?_
              rw [if_neg hc] at hj; exact hj
          refine wr_V (rV (As := [.ref (wad w 10 0), .int (oI (if x2 ≤ y4_59 then (0 : Int) else (1 : Int)))]) (rest := []) X hT hWσ_64 hS (met_House_addInode l (w := w) hV 0 (if x2 ≤ y4_59 then (0 : Int) else (1 : Int)) _ σ_64 (by omega) (ite_rZ rZ_0 rZ_1) h) (cwV 2 X.2.2.2.2 (lw_V q1244 q1246 qs37 q131 q1247) rfl rfl rfl (by decide +kernel) ⟨Nat.le_of_ble_eq_true rfl, Nat.le_of_ble_eq_true rfl⟩) vl1_0 (by decide) rfl rfl hl.1 rfl (by first | exact Nat.le_of_ble_eq_true rfl | simp [catK, catI, catR, catL]) dX1_resize_102 ⟨Nat.le_refl _, Nat.le_refl _⟩) hS (fun σ_66 H locs rkσ_66 h hWσ_66 hS => ?_)
          have h := h rkσ_66
          refine lv_iload_n X.1 X.2.1 dX1_resize_105 rfl (lv_at hl 5 rfl) ?_
          refine lv_iload X.1 X.2.1 dX1_resize_106 (lv_at hl 1 rfl) ?_
          refine w_icmp_ge (tgt := 222) X rx2 ry4_59 dX1_resize_108 (by decide) (fun hc => ?_) (fun hc => ?_)
          · have h := h.1 hc
            exact wk_House_resize_b222 X hr hlk hT hV rx1 rx2 y3_56 y4_59 r_60 σ_66 _ _ _ ry3_56 ry4_59 rr_60 (lv_sub hl [3, 2, 1, 0] rfl) hWσ_66 hS h
          · have h := h.2 hc
            refine lv_iload_n X.1 X.2.1 dX1_resize_111 rfl (lv_at hl 5 rfl) ?_
            refine lv_bipush (v := oI 64) X.1 X.2.1 dX1_resize_112 (by decide) ?_
            refine w_irem X rx2 ((rB_lit 64 (by decide)).i) (by decide) dX1_resize_114 ?_
            refine w_if_ne (tgt := 122) X (jrm_r _ _) dX1_resize_115 (by decide) (fun hc => ?_) (fun hc => ?_)
            · have h := h.1 hc
              refine lv_aload_n X.1 X.2.1 dX1_resize_122 rfl (lv_at hl 3 rfl) ?_
              refine lv_iload_n X.1 X.2.1 dX1_resize_123 rfl (lv_at hl 2 rfl) ?_
              refine lv_iload_n X.1 X.2.1 dX1_resize_124 rfl (lv_at hl 5 rfl) ?_
              refine lv_bipush (v := oI 64) X.1 X.2.1 dX1_resize_125 (by decide) ?_
              refine w_idiv X rx2 ((rB_lit 64 (by decide)).i) (by decide) dX1_resize_127 ?_
              refine wr_I (rV (As := [.int (oI y3_56), .int (oI (jdv x2 64))]) (rest := []) X hT hWσ_66 hS (met_House_piece l (w := w) hV y3_56 (jdv x2 64) _ σ_66 ry3_56 (jdv_r _ _) h) (cwV 2 X.2.2.2.2 (lw_V q1479 q1481 qs64 q131 q1482) rfl rfl rfl (by decide +kernel) ⟨Nat.le_of_ble_eq_true rfl, Nat.le_of_ble_eq_true rfl⟩) vl1_0 (by decide) rfl rfl hl.1 rfl (by first | exact Nat.le_of_ble_eq_true rfl | simp [catK, catI, catR, catL]) dX1_resize_128 ⟨Nat.le_refl _, Nat.le_refl _⟩) hS (fun r_67 σ_68 H locs rr_67 rkσ_68 h hWσ_68 hS => ?_)
              have h := h rr_67 rkσ_68
              exact wk_House_resize_b131 X hr hlk hT hV rx1 rx2 (wp_House_resize_b222 (wc w) (wtv w) x1 x2 Q) (wk_House_resize_b222 X hr hlk hT hV rx1 rx2) y3_56 y4_59 r_60 r_67 σ_68 _ _ _ ry3_56 ry4_59 rr_60 rr_67 (lv_sub hl [3, 5, 2, 1, 0] rfl) hWσ_68 hS h
            · have h := h.2 hc
              refine lv_iconst (v := oI 0) X.1 X.2.1 dX1_resize_118 rfl ?_
              refine lv_goto (tgt := 131) X.1 X.2.1 dX1_resize_119 (by decide) ?_
              exact wk_House_resize_b131 X hr hlk hT hV rx1 rx2 (wp_House_resize_b222 (wc w) (wtv w) x1 x2 Q) (wk_House_resize_b222 X hr hlk hT hV rx1 rx2) y3_56 y4_59 r_60 0 σ_66 _ _ _ ry3_56 ry4_59 rr_60 rZ_0.i (lv_sub hl [3, 5, 2, 1, 0] rfl) hWσ_66 hS h
        · have h := h.2 hc
          refine lv_iload X.1 X.2.1 dX1_resize_64 (lv_at hl 0 rfl) ?_
          exact wret_I X hr hlk hWσ_58 hS ry4_59 h dX1_resize_66
      · have h := h.2 hc
        refine lv_bipush (v := oI (-3)) X.1 X.2.1 dX1_resize_29 (by decide) ?_
        exact wret_I X hr hlk hWσ_55 hS ((rB_lit (-3) (by decide)).i) h dX1_resize_31
  · have h := h.2 hc
    refine lv_bipush (v := oI (-2)) X.1 X.2.1 dX1_resize_7 (by decide) ?_
    exact wret_I X hr hlk hW hS ((rB_lit (-2) (by decide)).i) h dX1_resize_9
/-! House.byteAt(II)I -/
set_option maxHeartbeats 4000000 in
set_option maxRecDepth 100000 in
theorem met_House_byteAt (l : Launch) {w : Wp} (hV : Hvl w) (x1 : Int) (x2 : Int) (Q : Int → St → Prop) (σ : St) (rx1 : rI x1) (rx2 : rI x2) (h : wp_House_byteAt (wc w) (wtv w) x1 x2 Q σ) : Met l yX1_byteAt (ws_ yX1_byteAt cX1_byteAt 3 (some .int)) rm_House_byteAt (PcW w σ [.ref (wad w 1 0), .int (oI x1), .int (oI x2)]) (QcI w Q) 0 0 (wA w) := by
  refine Met.ofW (cc := cX1_byteAt) (maxL := 3) (ret := (some .int)) (by decide) rfl ?_
  intro p e st m args below meth c s₁ B hml hv
  obtain ⟨hargs, hW, hT⟩ := hv
  have X : CallFix p m c cX1_byteAt 3 st _ lw_all RX1 := ⟨B.exec, B.bytes, hml, findClass_of_methodNamed B.named, fun w h => atoms_spec (ws := ws_ yX1_byteAt cX1_byteAt 3 (some .int)) B.pre w (List.mem_cons_of_mem _ h)⟩
  have hr := B.returns
  have hlk := B.notSynchronized
  have hS : va_S (wA w) st.heap st.heap [] := va_S.rf
  have vl1_0 : vl w 1 0 := hV.hv 1 rfl ⟨by omega, by show _ < (1 : Int); omega⟩
  have vl10_0 : vl w 10 0 := hV.hv 10 rfl ⟨by omega, by show _ < (4 : Int); omega⟩
  have vl70_0 : vl w 70 0 := hV.hv 70 rfl ⟨by omega, by show _ < (1 : Int); omega⟩
  have vl77_0 : vl w 77 0 := hV.hv 77 rfl ⟨by omega, by show _ < (1 : Int); omega⟩
  have hl := lv_entry ([.ref (wad w 1 0), .int (oI x1), .int (oI x2)]) (n := 3) (Nat.le_of_ble_eq_true rfl)
  have hfr := lg_entry_eq m ([.ref (wad w 1 0), .int (oI x1), .int (oI x2)]) 3
  rw [← hargs] at hfr
  rw [hfr]
  generalize (lg_sl ([.ref (wad w 1 0), .int (oI x1), .int (oI x2)]) ++ List.replicate (3 - (lg_sl ([.ref (wad w 1 0), .int (oI x1), .int (oI x2)])).length) Slot.unset).toArray = ls at hl ⊢
  have hl : lv_has ls 3 [(0, .ref (wad w 1 0)), (1, .int (oI x1)), (2, .int (oI x2))] := hl
  unfold wp_House_byteAt at h
  refine lv_aload_n X.1 X.2.1 dX1_byteAt_0 rfl (lv_at hl 0 rfl) ?_
  refine wg (v := .int (oI (gI σ 69 0))) X hT hW 1 5 69 vl1_0 rfl rfl (by decide) rfl (by decide) in_X1 q1075 rfl dX1_byteAt_1 ?_
  refine w_if_ne (tgt := 10) X ((hW.r.z 69 0 rfl).i) dX1_byteAt_4 (by decide) (fun hc => ?_) (fun hc => ?_)
  · have h := h.1 hc
    refine lv_aload_n X.1 X.2.1 dX1_byteAt_10 rfl (lv_at hl 0 rfl) ?_
    refine lv_iload_n X.1 X.2.1 dX1_byteAt_11 rfl (lv_at hl 1 rfl) ?_
    refine wr_Z (rV (As := [.int (oI x1)]) (rest := []) X hT hW hS (met_House_isHandle l (w := w) hV x1 _ σ rx1 h) (cwV 1 X.2.2.2.2 (lw_V q1544 q1546 qs67 q131 q1547) rfl rfl rfl (by decide +kernel) ⟨Nat.le_of_ble_eq_true rfl, Nat.le_of_ble_eq_true rfl⟩) vl1_0 (by decide) rfl rfl hl.1 rfl (by first | exact Nat.le_of_ble_eq_true rfl | simp [catK, catI, catR, catL]) dX1_byteAt_12 ⟨Nat.le_refl _, Nat.le_refl _⟩) hS (fun r_9 σ_10 H locs rr_9 rkσ_10 h hWσ_10 hS => ?_)
    have h := h rr_9 rkσ_10
    refine w_if_ne (tgt := 21) X rr_9.i dX1_byteAt_15 (by decide) (fun hc => ?_) (fun hc => ?_)
    · have h := h.1 hc
      refine lv_aload_n X.1 X.2.1 dX1_byteAt_21 rfl (lv_at hl 0 rfl) ?_
      refine lv_aload_n X.1 X.2.1 dX1_byteAt_22 rfl (lv_at hl 0 rfl) ?_
      refine wg (v := .ref (wad w 70 0)) X hT hWσ_10 1 6 70 vl1_0 rfl rfl (by decide) rfl (by decide) in_X1 q1076 rfl dX1_byteAt_23 ?_
      refine lv_iload_n X.1 X.2.1 dX1_byteAt_26 rfl (lv_at hl 1 rfl) ?_
      obtain ⟨bi, h⟩ := h
      refine w_iald (n := 8) X hT hWσ_10 70 vl70_0 (by decide) rfl rfl bi dX1_byteAt_27 ?_
      refine lv_aload_n X.1 X.2.1 dX1_byteAt_28 rfl (lv_at hl 0 rfl) ?_
      refine wg (v := .ref (wad w 10 0)) X hT hWσ_10 1 14 78 vl1_0 rfl rfl (by decide) rfl (by decide) in_X1 q1084 rfl dX1_byteAt_29 ?_
      refine wr_Z (rV (As := [.int (oI (gA σ_10 70 0 x1)), .ref (wad w 10 0)]) (rest := []) X hT hWσ_10 hS (met_House_read l (w := w) hV (gA σ_10 70 0 x1) 0 _ σ_10 (hWσ_10.r.ai 70 0 x1 rfl) (by omega) h) (cwV 2 X.2.2.2.2 (lw_V q1177 q1179 qs32 q131 q1180) rfl rfl rfl (by decide +kernel) ⟨Nat.le_of_ble_eq_true rfl, Nat.le_of_ble_eq_true rfl⟩) vl1_0 (by decide) rfl rfl hl.1 rfl (by first | exact Nat.le_of_ble_eq_true rfl | simp [catK, catI, catR, catL]) dX1_byteAt_32 ⟨Nat.le_refl _, Nat.le_refl _⟩) hS (fun r_11 σ_12 H locs rr_11 rkσ_12 h hWσ_12 hS => ?_)
      have h := h rr_11 rkσ_12
      refine lv_pop X.1 X.2.1 dX1_byteAt_35 rfl ?_
      refine lv_iload_n X.1 X.2.1 dX1_byteAt_36 rfl (lv_at hl 2 rfl) ?_
      refine lv_iconst (v := oI 0) X.1 X.2.1 dX1_byteAt_37 rfl ?_
      refine lv_aload_n X.1 X.2.1 dX1_byteAt_38 rfl (lv_at hl 0 rfl) ?_
      refine wg (v := .ref (wad w 10 0)) X hT hWσ_12 1 14 78 vl1_0 rfl rfl (by decide) rfl (by decide) in_X1 q1084 rfl dX1_byteAt_39 ?_
      refine wg (v := .int (oI (gI σ_12 643 0))) X hT hWσ_12 10 3 643 vl10_0 rfl rfl (by decide) rfl (by decide) in_X3 q192 rfl dX1_byteAt_42 ?_
      refine lv_iconst (v := oI 1) X.1 X.2.1 dX1_byteAt_45 rfl ?_
      refine w_isub X dX1_byteAt_46 ?_
      refine wr_Z (rS (As := [.int (oI x2), .int (oI 0), .int (oI (w32 ((gI σ_12 643 0) - 1)))]) (rest := []) X hT hWσ_12 hS (met_House_isIn l (w := w) x2 0 (w32 ((gI σ_12 643 0) - 1)) _ σ_12 rx2 rZ_0.i (w32_r _) h) (va_cwS 3 X.2.2.2.2 (lw_S q208 q209 q131 q210) rfl rfl rfl (by decide +kernel) ⟨Nat.le_of_ble_eq_true rfl, Nat.le_of_ble_eq_true rfl⟩) rfl hl.1 rfl (by first | exact Nat.le_of_ble_eq_true rfl | simp [catK, catI, catR, catL]) dX1_byteAt_47 ⟨Nat.le_refl _, Nat.le_refl _⟩) hS (fun r_13 σ_14 H locs rr_13 rkσ_14 h hWσ_14 hS => ?_)
      have h := h rr_13 rkσ_14
      refine w_if_ne (tgt := 55) X rr_13.i dX1_byteAt_50 (by decide) (fun hc => ?_) (fun hc => ?_)
      · have h := h.1 hc
        refine lv_aload_n X.1 X.2.1 dX1_byteAt_55 rfl (lv_at hl 0 rfl) ?_
        refine lv_aload_n X.1 X.2.1 dX1_byteAt_56 rfl (lv_at hl 0 rfl) ?_
        refine wg (v := .ref (wad w 10 0)) X hT hWσ_14 1 14 78 vl1_0 rfl rfl (by decide) rfl (by decide) in_X1 q1084 rfl dX1_byteAt_57 ?_
        refine wg (v := .int (oI (gI σ_14 640 0))) X hT hWσ_14 10 0 640 vl10_0 rfl rfl (by decide) rfl (by decide) in_X3 q189 rfl dX1_byteAt_60 ?_
        refine lv_iload_n X.1 X.2.1 dX1_byteAt_63 rfl (lv_at hl 2 rfl) ?_
        refine lv_bipush (v := oI 64) X.1 X.2.1 dX1_byteAt_64 (by decide) ?_
        refine w_idiv X rx2 ((rB_lit 64 (by decide)).i) (by decide) dX1_byteAt_66 ?_
        refine wr_I (rV (As := [.int (oI (gI σ_14 640 0)), .int (oI (jdv x2 64))]) (rest := []) X hT hWσ_14 hS (met_House_piece l (w := w) hV (gI σ_14 640 0) (jdv x2 64) _ σ_14 (hWσ_14.r.i 640 0 rfl) (jdv_r _ _) h) (cwV 2 X.2.2.2.2 (lw_V q1479 q1481 qs64 q131 q1482) rfl rfl rfl (by decide +kernel) ⟨Nat.le_of_ble_eq_true rfl, Nat.le_of_ble_eq_true rfl⟩) vl1_0 (by decide) rfl rfl hl.1 rfl (by first | exact Nat.le_of_ble_eq_true rfl | simp [catK, catI, catR, catL]) dX1_byteAt_67 ⟨Nat.le_refl _, Nat.le_refl _⟩) hS (fun r_15 σ_16 H locs rr_15 rkσ_16 h hWσ_16 hS => ?_)
        have h := h rr_15 rkσ_16
        refine lv_pop X.1 X.2.1 dX1_byteAt_70 rfl ?_
        refine lv_aload_n X.1 X.2.1 dX1_byteAt_71 rfl (lv_at hl 0 rfl) ?_
        refine wg (v := .ref (wad w 77 0)) X hT hWσ_16 1 13 77 vl1_0 rfl rfl (by decide) rfl (by decide) in_X1 q1083 rfl dX1_byteAt_72 ?_
        refine lv_iload_n X.1 X.2.1 dX1_byteAt_75 rfl (lv_at hl 2 rfl) ?_
        refine lv_bipush (v := oI 64) X.1 X.2.1 dX1_byteAt_76 (by decide) ?_
        refine w_irem X rx2 ((rB_lit 64 (by decide)).i) (by decide) dX1_byteAt_78 ?_
        obtain ⟨bi, h⟩ := h
        refine w_bald (n := 64) X hT hWσ_16 77 vl77_0 (by decide) rfl rfl bi dX1_byteAt_79 ?_
        refine lv_sipush (v := oI 255) X.1 X.2.1 dX1_byteAt_80 (by decide) ?_
        refine w_iand X dX1_byteAt_83 ?_
        exact wret_I X hr hlk hWσ_16 hS (iand_r _ _) h dX1_byteAt_84
      · have h := h.2 hc
        refine lv_iconst (v := oI (-1)) X.1 X.2.1 dX1_byteAt_53 rfl ?_
        exact wret_I X hr hlk hWσ_14 hS ((rB_lit (-1) (by decide)).i) h dX1_byteAt_54
    · have h := h.2 hc
      refine lv_bipush (v := oI (-3)) X.1 X.2.1 dX1_byteAt_18 (by decide) ?_
      exact wret_I X hr hlk hWσ_10 hS ((rB_lit (-3) (by decide)).i) h dX1_byteAt_20
  · have h := h.2 hc
    refine lv_bipush (v := oI (-2)) X.1 X.2.1 dX1_byteAt_7 (by decide) ?_
    exact wret_I X hr hlk hW hS ((rB_lit (-2) (by decide)).i) h dX1_byteAt_9
/-! House.word(II)J -/
set_option maxHeartbeats 4000000 in
set_option maxRecDepth 100000 in
theorem wk_House_word_b120 {p : Program} {l : Launch} {e : Env} {st : State} {m : MethodId} {args : Array Value} {below : List Frame} {meth : Method} {c : Code} {w : Wp} {x1 : Int} {x2 : Int} {Q : Int → St → Prop} (X : CallFix p m c cX1_word 6 st args lw_all RX1) (hr : meth.sig.returnType = (some .long)) (hlk : meth.locks = false) (hT : Tb w st) (hV : Hvl w) (rx1 : rI x1) (rx2 : rI x2) (K38 : Int → Int → St → Prop) (hK38 : ∀ (y3 y5 : Int) (σ : St) (H : Heap) (locs : List Loc) (ls : Array Slot), rJ y3 → rI y5 → lv_has ls 6 [(0, .ref (wad w 1 0)), (2, .int (oI x2)), (3, .long (oL y3)), (5, .int (oI y5))] → Wo w σ H → va_S (wA w) st.heap H locs → K38 y3 y5 σ → W p l e (headSpec (ws_ yX1_word cX1_word 6 (some .long)) rm_House_word).room st m args below meth c H locs 0 0 (MQ below (QcJ w Q) args st 0 0 (wA w)) (F0 m 38 ls [])) : ∀ (y3 y5 : Int) (σ : St) (H : Heap) (locs : List Loc) (ls : Array Slot), rJ y3 → rI y5 → lv_has ls 6 [(0, .ref (wad w 1 0)), (2, .int (oI x2)), (3, .long (oL y3)), (5, .int (oI y5))] → Wo w σ H → va_S (wA w) st.heap H locs → wp_House_word_b120 (wc w) (wtv w) x1 x2 Q K38 y3 y5 σ → W p l e (headSpec (ws_ yX1_word cX1_word 6 (some .long)) rm_House_word).room st m args below meth c H locs 0 0 (MQ below (QcJ w Q) args st 0 0 (wA w)) (F0 m 120 ls []) := by

  intro y3 y5 σ H locs ls ry3 ry5 hl hW hS h
  unfold wp_House_word_b120 at h
  obtain ⟨y5_34, ey5_34⟩ : ∃ y : Int, y = w32 (y5 + (-1)) := ⟨_, rfl⟩
  have h := h y5_34 ey5_34
  have ry5_34 : rI y5_34 := by rw [ey5_34]; exact w32_r _
  refine lv_iinc (v := oI y5_34) (lv' := [(5, .int (oI y5_34)), (0, .ref (wad w 1 0)), (2, .int (oI x2)), (3, .long (oL y3))]) X.1 X.2.1 dX1_word_120 hl (k := 3) rfl (by rw [ey5_34]; exact oI_add _ _) (by decide) (by first | rfl | simp [catK, catI, catR, catL]) (fun ls hl => ?_)
  refine lv_goto (tgt := 38) X.1 X.2.1 dX1_word_123 (by decide) ?_
  exact hK38 y3 y5_34 σ _ _ _ ry3 ry5_34 (lv_sub hl [1, 2, 3, 0] rfl) hW hS h
set_option maxHeartbeats 4000000 in
set_option maxRecDepth 100000 in
theorem wk_House_word_L38B {p : Program} {l : Launch} {e : Env} {st : State} {m : MethodId} {args : Array Value} {below : List Frame} {meth : Method} {c : Code} {w : Wp} {x1 : Int} {x2 : Int} {Q : Int → St → Prop} (X : CallFix p m c cX1_word 6 st args lw_all RX1) (hr : meth.sig.returnType = (some .long)) (hlk : meth.locks = false) (hT : Tb w st) (hV : Hvl w) (rx1 : rI x1) (rx2 : rI x2) (K38 : Int → Int → St → Prop) (hK38 : ∀ (y3 y5 : Int) (σ : St) (H : Heap) (locs : List Loc) (ls : Array Slot), rJ y3 → rI y5 → lv_has ls 6 [(0, .ref (wad w 1 0)), (2, .int (oI x2)), (3, .long (oL y3)), (5, .int (oI y5))] → Wo w σ H → va_S (wA w) st.heap H locs → K38 y3 y5 σ → W p l e (headSpec (ws_ yX1_word cX1_word 6 (some .long)) rm_House_word).room st m args below meth c H locs 0 0 (MQ below (QcJ w Q) args st 0 0 (wA w)) (F0 m 38 ls [])) : ∀ (y3 y5 : Int) (σ : St) (H : Heap) (locs : List Loc) (ls : Array Slot), rJ y3 → rI y5 → lv_has ls 6 [(0, .ref (wad w 1 0)), (2, .int (oI x2)), (3, .long (oL y3)), (5, .int (oI y5))] → Wo w σ H → va_S (wA w) st.heap H locs → wp_House_word_L38 (wc w) (wtv w) x1 x2 Q K38 y3 y5 σ → W p l e (headSpec (ws_ yX1_word cX1_word 6 (some .long)) rm_House_word).room st m args below meth c H locs 0 0 (MQ below (QcJ w Q) args st 0 0 (wA w)) (F0 m 38 ls []) := by
  have vl1_0 : vl w 1 0 := hV.hv 1 rfl ⟨by omega, by show _ < (1 : Int); omega⟩
  have vl10_0 : vl w 10 0 := hV.hv 10 rfl ⟨by omega, by show _ < (4 : Int); omega⟩
  have vl77_0 : vl w 77 0 := hV.hv 77 rfl ⟨by omega, by show _ < (1 : Int); omega⟩
  intro y3 y5 σ H locs ls ry3 ry5 hl hW hS h
  unfold wp_House_word_L38 at h
  refine lv_iload X.1 X.2.1 dX1_word_38 (lv_at hl 3 rfl) ?_
  refine w_if_lt (tgt := 126) X ry5 dX1_word_40 (by decide) (fun hc => ?_) (fun hc => ?_)
  · have h := h.1 hc
    refine lv_lload_n X.1 X.2.1 dX1_word_126 rfl (lv_at hl 2 rfl) ?_
    exact wret_J X hr hlk hW hS ry3 h dX1_word_127
  · have h := h.2 hc
    refine lv_lload_n X.1 X.2.1 dX1_word_43 rfl (lv_at hl 2 rfl) ?_
    refine lv_bipush (v := oI 8) X.1 X.2.1 dX1_word_44 (by decide) ?_
    refine w_lshl X dX1_word_46 ?_
    refine w_topl (fun y3_35 ey3_35 => ?_)
    have h := h y3_35 ey3_35
    have ry3_35 : rJ y3_35 := by rw [ey3_35]; exact (lshl_r _ _)
    refine lv_lstore_n (i := 3) (lv' := [(3, .long (oL y3_35)), (0, .ref (wad w 1 0)), (2, .int (oI x2)), (5, .int (oI y5))]) X.1 X.2.1 dX1_word_47 rfl hl (by decide) (by first | rfl | simp [catK, catI, catR, catL]) (fun ls hl => ?_)
    refine lv_iload_n X.1 X.2.1 dX1_word_48 rfl (lv_at hl 2 rfl) ?_
    refine w_ldcw X (z := 2147483647) q1587 (by decide) dX1_word_49 ?_
    refine lv_iload X.1 X.2.1 dX1_word_52 (lv_at hl 3 rfl) ?_
    refine w_isub X dX1_word_54 ?_
    refine w_icmp_gt (tgt := 120) X rx2 (w32_r _) dX1_word_55 (by decide) (fun hc => ?_) (fun hc => ?_)
    · have h := h.1 hc
      exact wk_House_word_b120 X hr hlk hT hV rx1 rx2 K38 hK38 y3_35 y5 σ _ _ _ ry3_35 ry5 (lv_sub hl [1, 2, 0, 3] rfl) hW hS h
    · have h := h.2 hc
      refine lv_iload_n X.1 X.2.1 dX1_word_58 rfl (lv_at hl 2 rfl) ?_
      refine lv_iload X.1 X.2.1 dX1_word_59 (lv_at hl 3 rfl) ?_
      refine w_iadd X dX1_word_61 ?_
      refine lv_iconst (v := oI 0) X.1 X.2.1 dX1_word_62 rfl ?_
      refine lv_aload_n X.1 X.2.1 dX1_word_63 rfl (lv_at hl 1 rfl) ?_
      refine wg (v := .ref (wad w 10 0)) X hT hW 1 14 78 vl1_0 rfl rfl (by decide) rfl (by decide) in_X1 q1084 rfl dX1_word_64 ?_
      refine wg (v := .int (oI (gI σ 643 0))) X hT hW 10 3 643 vl10_0 rfl rfl (by decide) rfl (by decide) in_X3 q192 rfl dX1_word_67 ?_
      refine lv_iconst (v := oI 1) X.1 X.2.1 dX1_word_70 rfl ?_
      refine w_isub X dX1_word_71 ?_
      refine wr_Z (rS (As := [.int (oI (w32 (x2 + y5))), .int (oI 0), .int (oI (w32 ((gI σ 643 0) - 1)))]) (rest := []) X hT hW hS (met_House_isIn l (w := w) (w32 (x2 + y5)) 0 (w32 ((gI σ 643 0) - 1)) _ σ (w32_r _) rZ_0.i (w32_r _) h) (va_cwS 3 X.2.2.2.2 (lw_S q208 q209 q131 q210) rfl rfl rfl (by decide +kernel) ⟨Nat.le_of_ble_eq_true rfl, Nat.le_of_ble_eq_true rfl⟩) rfl hl.1 rfl (by first | exact Nat.le_of_ble_eq_true rfl | simp [catK, catI, catR, catL]) dX1_word_72 ⟨Nat.le_refl _, Nat.le_refl _⟩) hS (fun r_36 σ_37 H locs rr_36 rkσ_37 h hWσ_37 hS => ?_)
      have h := h rr_36 rkσ_37
      refine w_if_ne (tgt := 81) X rr_36.i dX1_word_75 (by decide) (fun hc => ?_) (fun hc => ?_)
      · have h := h.1 hc
        refine lv_aload_n X.1 X.2.1 dX1_word_81 rfl (lv_at hl 1 rfl) ?_
        refine lv_aload_n X.1 X.2.1 dX1_word_82 rfl (lv_at hl 1 rfl) ?_
        refine wg (v := .ref (wad w 10 0)) X hT hWσ_37 1 14 78 vl1_0 rfl rfl (by decide) rfl (by decide) in_X1 q1084 rfl dX1_word_83 ?_
        refine wg (v := .int (oI (gI σ_37 640 0))) X hT hWσ_37 10 0 640 vl10_0 rfl rfl (by decide) rfl (by decide) in_X3 q189 rfl dX1_word_86 ?_
        refine lv_iload_n X.1 X.2.1 dX1_word_89 rfl (lv_at hl 2 rfl) ?_
        refine lv_iload X.1 X.2.1 dX1_word_90 (lv_at hl 3 rfl) ?_
        refine w_iadd X dX1_word_92 ?_
        refine lv_bipush (v := oI 64) X.1 X.2.1 dX1_word_93 (by decide) ?_
        refine w_idiv X (w32_r _) ((rB_lit 64 (by decide)).i) (by decide) dX1_word_95 ?_
        refine wr_I (rV (As := [.int (oI (gI σ_37 640 0)), .int (oI (jdv (w32 (x2 + y5)) 64))]) (rest := []) X hT hWσ_37 hS (met_House_piece l (w := w) hV (gI σ_37 640 0) (jdv (w32 (x2 + y5)) 64) _ σ_37 (hWσ_37.r.i 640 0 rfl) (jdv_r _ _) h) (cwV 2 X.2.2.2.2 (lw_V q1479 q1481 qs64 q131 q1482) rfl rfl rfl (by decide +kernel) ⟨Nat.le_of_ble_eq_true rfl, Nat.le_of_ble_eq_true rfl⟩) vl1_0 (by decide) rfl rfl hl.1 rfl (by first | exact Nat.le_of_ble_eq_true rfl | simp [catK, catI, catR, catL]) dX1_word_96 ⟨Nat.le_refl _, Nat.le_refl _⟩) hS (fun r_38 σ_39 H locs rr_38 rkσ_39 h hWσ_39 hS => ?_)
        have h := h rr_38 rkσ_39
        refine lv_pop X.1 X.2.1 dX1_word_99 rfl ?_
        refine lv_lload_n X.1 X.2.1 dX1_word_100 rfl (lv_at hl 0 rfl) ?_
        refine lv_aload_n X.1 X.2.1 dX1_word_101 rfl (lv_at hl 1 rfl) ?_
        refine wg (v := .ref (wad w 77 0)) X hT hWσ_39 1 13 77 vl1_0 rfl rfl (by decide) rfl (by decide) in_X1 q1083 rfl dX1_word_102 ?_
        refine lv_iload_n X.1 X.2.1 dX1_word_105 rfl (lv_at hl 2 rfl) ?_
        refine lv_iload X.1 X.2.1 dX1_word_106 (lv_at hl 3 rfl) ?_
        refine w_iadd X dX1_word_108 ?_
        refine lv_bipush (v := oI 64) X.1 X.2.1 dX1_word_109 (by decide) ?_
        refine w_irem X (w32_r _) ((rB_lit 64 (by decide)).i) (by decide) dX1_word_111 ?_
        obtain ⟨bi, h⟩ := h
        refine w_bald (n := 64) X hT hWσ_39 77 vl77_0 (by decide) rfl rfl bi dX1_word_112 ?_
        refine w_i2l X ((hWσ_39.r.ab 77 0 (jrm (w32 (x2 + y5)) 64) rfl).i) dX1_word_113 ?_
        refine w_ldc2 X (z := 255) q1172 (by decide) dX1_word_114 ?_
        refine w_land X dX1_word_117 ?_
        refine w_lor X dX1_word_118 ?_
        refine w_topl (fun y3_40 ey3_40 => ?_)
        have h := h y3_40 ey3_40
        have ry3_40 : rJ y3_40 := by rw [ey3_40]; exact (lor_r _ _)
        refine lv_lstore_n (i := 3) (lv' := [(3, .long (oL y3_40)), (0, .ref (wad w 1 0)), (2, .int (oI x2)), (5, .int (oI y5))]) X.1 X.2.1 dX1_word_119 rfl hl (by decide) (by first | rfl | simp [catK, catI, catR, catL]) (fun ls hl => ?_)
        exact wk_House_word_b120 X hr hlk hT hV rx1 rx2 K38 hK38 y3_40 y5 σ_39 _ _ _ ry3_40 ry5 (lv_sub hl [1, 2, 0, 3] rfl) hWσ_39 hS h
      · have h := h.2 hc
        refine lv_goto (tgt := 120) X.1 X.2.1 dX1_word_78 (by decide) ?_
        exact wk_House_word_b120 X hr hlk hT hV rx1 rx2 K38 hK38 y3_35 y5 σ_37 _ _ _ ry3_35 ry5 (lv_sub hl [1, 2, 0, 3] rfl) hWσ_37 hS h
theorem wk_House_word_L38 {p : Program} {l : Launch} {e : Env} {st : State} {m : MethodId} {args : Array Value} {below : List Frame} {meth : Method} {c : Code} {w : Wp} {x1 : Int} {x2 : Int} {Q : Int → St → Prop} (X : CallFix p m c cX1_word 6 st args lw_all RX1) (hr : meth.sig.returnType = (some .long)) (hlk : meth.locks = false) (hT : Tb w st) (hV : Hvl w) (rx1 : rI x1) (rx2 : rI x2) : ∀ (y3 y5 : Int) (σ : St) (H : Heap) (locs : List Loc) (ls : Array Slot), rJ y3 → rI y5 → lv_has ls 6 [(0, .ref (wad w 1 0)), (2, .int (oI x2)), (3, .long (oL y3)), (5, .int (oI y5))] → Wo w σ H → va_S (wA w) st.heap H locs → lQ2 (wp_House_word_L38 (wc w) (wtv w) x1 x2 Q) y3 y5 σ → W p l e (headSpec (ws_ yX1_word cX1_word 6 (some .long)) rm_House_word).room st m args below meth c H locs 0 0 (MQ below (QcJ w Q) args st 0 0 (wA w)) (F0 m 38 ls []) := by
  intro y3 y5 σ H locs ls ry3 ry5 hl hW hS h
  obtain ⟨fu, h⟩ := h
  induction fu generalizing y3 y5 σ H locs ls with
  | zero => exact h.elim
  | succ fu ih =>
    exact wk_House_word_L38B X hr hlk hT hV rx1 rx2 (lq2 (wp_House_word_L38 (wc w) (wtv w) x1 x2 Q) fu) (fun y3 y5 σ H locs ls ry3 ry5 hl hW hS h => ih y3 y5 σ H locs ls ry3 ry5 hl hW hS h) y3 y5 σ H locs ls ry3 ry5 hl hW hS h
set_option maxHeartbeats 4000000 in
set_option maxRecDepth 100000 in
theorem met_House_word (l : Launch) {w : Wp} (hV : Hvl w) (x1 : Int) (x2 : Int) (Q : Int → St → Prop) (σ : St) (rx1 : rI x1) (rx2 : rI x2) (h : wp_House_word (wc w) (wtv w) x1 x2 Q σ) : Met l yX1_word (ws_ yX1_word cX1_word 6 (some .long)) rm_House_word (PcW w σ [.ref (wad w 1 0), .int (oI x1), .int (oI x2)]) (QcJ w Q) 0 0 (wA w) := by
  refine Met.ofW (cc := cX1_word) (maxL := 6) (ret := (some .long)) (by decide) rfl ?_
  intro p e st m args below meth c s₁ B hml hv
  obtain ⟨hargs, hW, hT⟩ := hv
  have X : CallFix p m c cX1_word 6 st _ lw_all RX1 := ⟨B.exec, B.bytes, hml, findClass_of_methodNamed B.named, fun w h => atoms_spec (ws := ws_ yX1_word cX1_word 6 (some .long)) B.pre w (List.mem_cons_of_mem _ h)⟩
  have hr := B.returns
  have hlk := B.notSynchronized
  have hS : va_S (wA w) st.heap st.heap [] := va_S.rf
  have vl1_0 : vl w 1 0 := hV.hv 1 rfl ⟨by omega, by show _ < (1 : Int); omega⟩
  have vl10_0 : vl w 10 0 := hV.hv 10 rfl ⟨by omega, by show _ < (4 : Int); omega⟩
  have vl70_0 : vl w 70 0 := hV.hv 70 rfl ⟨by omega, by show _ < (1 : Int); omega⟩
  have hl := lv_entry ([.ref (wad w 1 0), .int (oI x1), .int (oI x2)]) (n := 6) (Nat.le_of_ble_eq_true rfl)
  have hfr := lg_entry_eq m ([.ref (wad w 1 0), .int (oI x1), .int (oI x2)]) 6
  rw [← hargs] at hfr
  rw [hfr]
  generalize (lg_sl ([.ref (wad w 1 0), .int (oI x1), .int (oI x2)]) ++ List.replicate (6 - (lg_sl ([.ref (wad w 1 0), .int (oI x1), .int (oI x2)])).length) Slot.unset).toArray = ls at hl ⊢
  have hl : lv_has ls 6 [(0, .ref (wad w 1 0)), (1, .int (oI x1)), (2, .int (oI x2))] := hl
  unfold wp_House_word at h
  refine lv_aload_n X.1 X.2.1 dX1_word_0 rfl (lv_at hl 0 rfl) ?_
  refine wg (v := .int (oI (gI σ 69 0))) X hT hW 1 5 69 vl1_0 rfl rfl (by decide) rfl (by decide) in_X1 q1075 rfl dX1_word_1 ?_
  refine w_if_eq (tgt := 15) X ((hW.r.z 69 0 rfl).i) dX1_word_4 (by decide) (fun hc => ?_) (fun hc => ?_)
  · have h := h.1 hc
    refine lv_lconst (v := oL 0) X.1 X.2.1 dX1_word_15 (by decide) ?_
    exact wret_J X hr hlk hW hS (rJ_lit 0 (by decide)) h dX1_word_16
  · have h := h.2 hc
    refine lv_aload_n X.1 X.2.1 dX1_word_7 rfl (lv_at hl 0 rfl) ?_
    refine lv_iload_n X.1 X.2.1 dX1_word_8 rfl (lv_at hl 1 rfl) ?_
    refine wr_Z (rV (As := [.int (oI x1)]) (rest := []) X hT hW hS (met_House_isHandle l (w := w) hV x1 _ σ rx1 h) (cwV 1 X.2.2.2.2 (lw_V q1544 q1546 qs67 q131 q1547) rfl rfl rfl (by decide +kernel) ⟨Nat.le_of_ble_eq_true rfl, Nat.le_of_ble_eq_true rfl⟩) vl1_0 (by decide) rfl rfl hl.1 rfl (by first | exact Nat.le_of_ble_eq_true rfl | simp [catK, catI, catR, catL]) dX1_word_9 ⟨Nat.le_refl _, Nat.le_refl _⟩) hS (fun r_41 σ_42 H locs rr_41 rkσ_42 h hWσ_42 hS => ?_)
    have h := h rr_41 rkσ_42
    refine w_if_ne (tgt := 17) X rr_41.i dX1_word_12 (by decide) (fun hc => ?_) (fun hc => ?_)
    · have h := h.1 hc
      refine lv_aload_n X.1 X.2.1 dX1_word_17 rfl (lv_at hl 0 rfl) ?_
      refine lv_aload_n X.1 X.2.1 dX1_word_18 rfl (lv_at hl 0 rfl) ?_
      refine wg (v := .ref (wad w 70 0)) X hT hWσ_42 1 6 70 vl1_0 rfl rfl (by decide) rfl (by decide) in_X1 q1076 rfl dX1_word_19 ?_
      refine lv_iload_n X.1 X.2.1 dX1_word_22 rfl (lv_at hl 1 rfl) ?_
      obtain ⟨bi, h⟩ := h
      refine w_iald (n := 8) X hT hWσ_42 70 vl70_0 (by decide) rfl rfl bi dX1_word_23 ?_
      refine lv_aload_n X.1 X.2.1 dX1_word_24 rfl (lv_at hl 0 rfl) ?_
      refine wg (v := .ref (wad w 10 0)) X hT hWσ_42 1 14 78 vl1_0 rfl rfl (by decide) rfl (by decide) in_X1 q1084 rfl dX1_word_25 ?_
      refine wr_Z (rV (As := [.int (oI (gA σ_42 70 0 x1)), .ref (wad w 10 0)]) (rest := []) X hT hWσ_42 hS (met_House_read l (w := w) hV (gA σ_42 70 0 x1) 0 _ σ_42 (hWσ_42.r.ai 70 0 x1 rfl) (by omega) h) (cwV 2 X.2.2.2.2 (lw_V q1177 q1179 qs32 q131 q1180) rfl rfl rfl (by decide +kernel) ⟨Nat.le_of_ble_eq_true rfl, Nat.le_of_ble_eq_true rfl⟩) vl1_0 (by decide) rfl rfl hl.1 rfl (by first | exact Nat.le_of_ble_eq_true rfl | simp [catK, catI, catR, catL]) dX1_word_28 ⟨Nat.le_refl _, Nat.le_refl _⟩) hS (fun r_43 σ_44 H locs rr_43 rkσ_44 h hWσ_44 hS => ?_)
      have h := h rr_43 rkσ_44
      refine lv_pop X.1 X.2.1 dX1_word_31 rfl ?_
      refine lv_lconst (v := oL 0) X.1 X.2.1 dX1_word_32 (by decide) ?_
      refine lv_lstore_n (i := 3) (lv' := [(3, .long (oL 0)), (0, .ref (wad w 1 0)), (1, .int (oI x1)), (2, .int (oI x2))]) X.1 X.2.1 dX1_word_33 rfl hl (by decide) (by first | rfl | simp [catK, catI, catR, catL]) (fun ls hl => ?_)
      refine lv_bipush (v := oI 7) X.1 X.2.1 dX1_word_34 (by decide) ?_
      refine lv_istore (i := 5) (lv' := [(5, .int (oI 7)), (3, .long (oL 0)), (0, .ref (wad w 1 0)), (1, .int (oI x1)), (2, .int (oI x2))]) X.1 X.2.1 dX1_word_36 hl (by decide) (by first | rfl | simp [catK, catI, catR, catL]) (fun ls hl => ?_)
      exact wk_House_word_L38 X hr hlk hT hV rx1 rx2 0 7 σ_44 _ _ _ (rJ_lit 0 (by decide)) ((rB_lit 7 (by decide)).i) (lv_sub hl [2, 4, 1, 0] rfl) hWσ_44 hS h
    · have h := h.2 hc
      refine lv_lconst (v := oL 0) X.1 X.2.1 dX1_word_15 (by decide) ?_
      exact wret_J X hr hlk hWσ_42 hS (rJ_lit 0 (by decide)) h dX1_word_16
/-! House.sum(I)J -/
set_option maxHeartbeats 4000000 in
set_option maxRecDepth 100000 in
theorem wk_House_sum_L70B {p : Program} {l : Launch} {e : Env} {st : State} {m : MethodId} {args : Array Value} {below : List Frame} {meth : Method} {c : Code} {w : Wp} {x1 : Int} {Q : Int → St → Prop} (X : CallFix p m c cX1_sum 7 st args lw_all RX1) (hr : meth.sig.returnType = (some .long)) (hlk : meth.locks = false) (hT : Tb w st) (hV : Hvl w) (rx1 : rI x1) (K37 : Int → Int → St → Prop) (K70 : Int → Int → Int → Int → St → Prop) (hK37 : ∀ (y2 y4 : Int) (σ : St) (H : Heap) (locs : List Loc) (ls : Array Slot), rJ y2 → rI y4 → lv_has ls 7 [(0, .ref (wad w 1 0)), (2, .long (oL y2)), (4, .int (oI y4))] → Wo w σ H → va_S (wA w) st.heap H locs → K37 y2 y4 σ → W p l e (headSpec (ws_ yX1_sum cX1_sum 7 (some .long)) rm_House_sum).room st m args below meth c H locs 0 0 (MQ below (QcJ w Q) args st 0 0 (wA w)) (F0 m 37 ls [])) (hK70 : ∀ (y2 y4 y5 y6 : Int) (σ : St) (H : Heap) (locs : List Loc) (ls : Array Slot), rJ y2 → rI y4 → rI y5 → rI y6 → lv_has ls 7 [(0, .ref (wad w 1 0)), (2, .long (oL y2)), (4, .int (oI y4)), (5, .int (oI y5)), (6, .int (oI y6))] → Wo w σ H → va_S (wA w) st.heap H locs → K70 y2 y4 y5 y6 σ → W p l e (headSpec (ws_ yX1_sum cX1_sum 7 (some .long)) rm_House_sum).room st m args below meth c H locs 0 0 (MQ below (QcJ w Q) args st 0 0 (wA w)) (F0 m 70 ls [])) : ∀ (y2 y4 y5 y6 : Int) (σ : St) (H : Heap) (locs : List Loc) (ls : Array Slot), rJ y2 → rI y4 → rI y5 → rI y6 → lv_has ls 7 [(0, .ref (wad w 1 0)), (2, .long (oL y2)), (4, .int (oI y4)), (5, .int (oI y5)), (6, .int (oI y6))] → Wo w σ H → va_S (wA w) st.heap H locs → wp_House_sum_L70 (wc w) (wtv w) x1 Q K37 K70 y2 y4 y5 y6 σ → W p l e (headSpec (ws_ yX1_sum cX1_sum 7 (some .long)) rm_House_sum).room st m args below meth c H locs 0 0 (MQ below (QcJ w Q) args st 0 0 (wA w)) (F0 m 70 ls []) := by
  have vl1_0 : vl w 1 0 := hV.hv 1 rfl ⟨by omega, by show _ < (1 : Int); omega⟩
  have vl77_0 : vl w 77 0 := hV.hv 77 rfl ⟨by omega, by show _ < (1 : Int); omega⟩
  intro y2 y4 y5 y6 σ H locs ls ry2 ry4 ry5 ry6 hl hW hS h
  unfold wp_House_sum_L70 at h
  refine lv_iload X.1 X.2.1 dX1_sum_70 (lv_at hl 4 rfl) ?_
  refine lv_iload X.1 X.2.1 dX1_sum_72 (lv_at hl 3 rfl) ?_
  refine w_icmp_ge (tgt := 110) X ry6 ry5 dX1_sum_74 (by decide) (fun hc => ?_) (fun hc => ?_)
  · have h := h.1 hc
    obtain ⟨y4_28, ey4_28⟩ : ∃ y : Int, y = w32 (y4 + 1) := ⟨_, rfl⟩
    have h := h y4_28 ey4_28
    have ry4_28 : rI y4_28 := by rw [ey4_28]; exact w32_r _
    refine lv_iinc (v := oI y4_28) (lv' := [(4, .int (oI y4_28)), (0, .ref (wad w 1 0)), (2, .long (oL y2)), (5, .int (oI y5)), (6, .int (oI y6))]) X.1 X.2.1 dX1_sum_110 hl (k := 2) rfl (by rw [ey4_28]; exact oI_add _ _) (by decide) (by first | rfl | simp [catK, catI, catR, catL]) (fun ls hl => ?_)
    refine lv_goto (tgt := 37) X.1 X.2.1 dX1_sum_113 (by decide) ?_
    exact hK37 y2 y4_28 σ _ _ _ ry2 ry4_28 (lv_sub hl [1, 2, 0] rfl) hW hS h
  · have h := h.2 hc
    refine lv_lload_n X.1 X.2.1 dX1_sum_77 rfl (lv_at hl 1 rfl) ?_
    refine lv_aload_n X.1 X.2.1 dX1_sum_78 rfl (lv_at hl 0 rfl) ?_
    refine wg (v := .ref (wad w 77 0)) X hT hW 1 13 77 vl1_0 rfl rfl (by decide) rfl (by decide) in_X1 q1083 rfl dX1_sum_79 ?_
    refine lv_iload X.1 X.2.1 dX1_sum_82 (lv_at hl 4 rfl) ?_
    obtain ⟨bi, h⟩ := h
    refine w_bald (n := 64) X hT hW 77 vl77_0 (by decide) rfl rfl bi dX1_sum_84 ?_
    refine w_i2l X ((hW.r.ab 77 0 y6 rfl).i) dX1_sum_85 ?_
    refine w_ldc2 X (z := 255) q1172 (by decide) dX1_sum_86 ?_
    refine w_land X dX1_sum_89 ?_
    refine lv_iload X.1 X.2.1 dX1_sum_90 (lv_at hl 2 rfl) ?_
    refine lv_bipush (v := oI 64) X.1 X.2.1 dX1_sum_92 (by decide) ?_
    refine w_imul X dX1_sum_94 ?_
    refine lv_iload X.1 X.2.1 dX1_sum_95 (lv_at hl 4 rfl) ?_
    refine w_iadd X dX1_sum_97 ?_
    refine lv_iconst (v := oI 1) X.1 X.2.1 dX1_sum_98 rfl ?_
    refine w_iadd X dX1_sum_99 ?_
    refine w_i2l X (w32_r _) dX1_sum_100 ?_
    refine w_lmul X dX1_sum_101 ?_
    refine w_ladd X dX1_sum_102 ?_
    refine w_topl (fun y2_29 ey2_29 => ?_)
    have h := h y2_29 ey2_29
    have ry2_29 : rJ y2_29 := by rw [ey2_29]; exact (w64_r _)
    refine lv_lstore_n (i := 2) (lv' := [(2, .long (oL y2_29)), (0, .ref (wad w 1 0)), (4, .int (oI y4)), (5, .int (oI y5)), (6, .int (oI y6))]) X.1 X.2.1 dX1_sum_103 rfl hl (by decide) (by first | rfl | simp [catK, catI, catR, catL]) (fun ls hl => ?_)
    obtain ⟨y6_30, ey6_30⟩ : ∃ y : Int, y = w32 (y6 + 1) := ⟨_, rfl⟩
    have h := h y6_30 ey6_30
    have ry6_30 : rI y6_30 := by rw [ey6_30]; exact w32_r _
    refine lv_iinc (v := oI y6_30) (lv' := [(6, .int (oI y6_30)), (2, .long (oL y2_29)), (0, .ref (wad w 1 0)), (4, .int (oI y4)), (5, .int (oI y5))]) X.1 X.2.1 dX1_sum_104 hl (k := 4) rfl (by rw [ey6_30]; exact oI_add _ _) (by decide) (by first | rfl | simp [catK, catI, catR, catL]) (fun ls hl => ?_)
    refine lv_goto (tgt := 70) X.1 X.2.1 dX1_sum_107 (by decide) ?_
    exact hK70 y2_29 y4 y5 y6_30 σ _ _ _ ry2_29 ry4 ry5 ry6_30 (lv_sub hl [2, 1, 3, 4, 0] rfl) hW hS h
theorem wk_House_sum_L70 {p : Program} {l : Launch} {e : Env} {st : State} {m : MethodId} {args : Array Value} {below : List Frame} {meth : Method} {c : Code} {w : Wp} {x1 : Int} {Q : Int → St → Prop} (X : CallFix p m c cX1_sum 7 st args lw_all RX1) (hr : meth.sig.returnType = (some .long)) (hlk : meth.locks = false) (hT : Tb w st) (hV : Hvl w) (rx1 : rI x1) (K37 : Int → Int → St → Prop) (hK37 : ∀ (y2 y4 : Int) (σ : St) (H : Heap) (locs : List Loc) (ls : Array Slot), rJ y2 → rI y4 → lv_has ls 7 [(0, .ref (wad w 1 0)), (2, .long (oL y2)), (4, .int (oI y4))] → Wo w σ H → va_S (wA w) st.heap H locs → K37 y2 y4 σ → W p l e (headSpec (ws_ yX1_sum cX1_sum 7 (some .long)) rm_House_sum).room st m args below meth c H locs 0 0 (MQ below (QcJ w Q) args st 0 0 (wA w)) (F0 m 37 ls [])) : ∀ (y2 y4 y5 y6 : Int) (σ : St) (H : Heap) (locs : List Loc) (ls : Array Slot), rJ y2 → rI y4 → rI y5 → rI y6 → lv_has ls 7 [(0, .ref (wad w 1 0)), (2, .long (oL y2)), (4, .int (oI y4)), (5, .int (oI y5)), (6, .int (oI y6))] → Wo w σ H → va_S (wA w) st.heap H locs → lQ4 (wp_House_sum_L70 (wc w) (wtv w) x1 Q K37) y2 y4 y5 y6 σ → W p l e (headSpec (ws_ yX1_sum cX1_sum 7 (some .long)) rm_House_sum).room st m args below meth c H locs 0 0 (MQ below (QcJ w Q) args st 0 0 (wA w)) (F0 m 70 ls []) := by
  intro y2 y4 y5 y6 σ H locs ls ry2 ry4 ry5 ry6 hl hW hS h
  obtain ⟨fu, h⟩ := h
  induction fu generalizing y2 y4 y5 y6 σ H locs ls with
  | zero => exact h.elim
  | succ fu ih =>
    exact wk_House_sum_L70B X hr hlk hT hV rx1 K37 (lq4 (wp_House_sum_L70 (wc w) (wtv w) x1 Q K37) fu) hK37 (fun y2 y4 y5 y6 σ H locs ls ry2 ry4 ry5 ry6 hl hW hS h => ih y2 y4 y5 y6 σ H locs ls ry2 ry4 ry5 ry6 hl hW hS h) y2 y4 y5 y6 σ H locs ls ry2 ry4 ry5 ry6 hl hW hS h
set_option maxHeartbeats 4000000 in
set_option maxRecDepth 100000 in
theorem wk_House_sum_L37B {p : Program} {l : Launch} {e : Env} {st : State} {m : MethodId} {args : Array Value} {below : List Frame} {meth : Method} {c : Code} {w : Wp} {x1 : Int} {Q : Int → St → Prop} (X : CallFix p m c cX1_sum 7 st args lw_all RX1) (hr : meth.sig.returnType = (some .long)) (hlk : meth.locks = false) (hT : Tb w st) (hV : Hvl w) (rx1 : rI x1) (K37 : Int → Int → St → Prop) (hK37 : ∀ (y2 y4 : Int) (σ : St) (H : Heap) (locs : List Loc) (ls : Array Slot), rJ y2 → rI y4 → lv_has ls 7 [(0, .ref (wad w 1 0)), (2, .long (oL y2)), (4, .int (oI y4))] → Wo w σ H → va_S (wA w) st.heap H locs → K37 y2 y4 σ → W p l e (headSpec (ws_ yX1_sum cX1_sum 7 (some .long)) rm_House_sum).room st m args below meth c H locs 0 0 (MQ below (QcJ w Q) args st 0 0 (wA w)) (F0 m 37 ls [])) : ∀ (y2 y4 : Int) (σ : St) (H : Heap) (locs : List Loc) (ls : Array Slot), rJ y2 → rI y4 → lv_has ls 7 [(0, .ref (wad w 1 0)), (2, .long (oL y2)), (4, .int (oI y4))] → Wo w σ H → va_S (wA w) st.heap H locs → wp_House_sum_L37 (wc w) (wtv w) x1 Q K37 y2 y4 σ → W p l e (headSpec (ws_ yX1_sum cX1_sum 7 (some .long)) rm_House_sum).room st m args below meth c H locs 0 0 (MQ below (QcJ w Q) args st 0 0 (wA w)) (F0 m 37 ls []) := by
  have vl1_0 : vl w 1 0 := hV.hv 1 rfl ⟨by omega, by show _ < (1 : Int); omega⟩
  have vl10_0 : vl w 10 0 := hV.hv 10 rfl ⟨by omega, by show _ < (4 : Int); omega⟩
  intro y2 y4 σ H locs ls ry2 ry4 hl hW hS h
  unfold wp_House_sum_L37 at h
  refine lv_iload X.1 X.2.1 dX1_sum_37 (lv_at hl 2 rfl) ?_
  refine lv_bipush (v := oI 64) X.1 X.2.1 dX1_sum_39 (by decide) ?_
  refine w_imul X dX1_sum_41 ?_
  refine lv_aload_n X.1 X.2.1 dX1_sum_42 rfl (lv_at hl 0 rfl) ?_
  refine wg (v := .ref (wad w 10 0)) X hT hW 1 14 78 vl1_0 rfl rfl (by decide) rfl (by decide) in_X1 q1084 rfl dX1_sum_43 ?_
  refine wg (v := .int (oI (gI σ 643 0))) X hT hW 10 3 643 vl10_0 rfl rfl (by decide) rfl (by decide) in_X3 q192 rfl dX1_sum_46 ?_
  refine w_icmp_ge (tgt := 116) X (w32_r _) (hW.r.i 643 0 rfl) dX1_sum_49 (by decide) (fun hc => ?_) (fun hc => ?_)
  · have h := h.1 hc
    refine lv_lload_n X.1 X.2.1 dX1_sum_116 rfl (lv_at hl 1 rfl) ?_
    exact wret_J X hr hlk hW hS ry2 h dX1_sum_117
  · have h := h.2 hc
    refine lv_aload_n X.1 X.2.1 dX1_sum_52 rfl (lv_at hl 0 rfl) ?_
    refine lv_aload_n X.1 X.2.1 dX1_sum_53 rfl (lv_at hl 0 rfl) ?_
    refine wg (v := .ref (wad w 10 0)) X hT hW 1 14 78 vl1_0 rfl rfl (by decide) rfl (by decide) in_X1 q1084 rfl dX1_sum_54 ?_
    refine wg (v := .int (oI (gI σ 640 0))) X hT hW 10 0 640 vl10_0 rfl rfl (by decide) rfl (by decide) in_X3 q189 rfl dX1_sum_57 ?_
    refine lv_iload X.1 X.2.1 dX1_sum_60 (lv_at hl 2 rfl) ?_
    refine wr_I (rV (As := [.int (oI (gI σ 640 0)), .int (oI y4)]) (rest := []) X hT hW hS (met_House_piece l (w := w) hV (gI σ 640 0) y4 _ σ (hW.r.i 640 0 rfl) ry4 h) (cwV 2 X.2.2.2.2 (lw_V q1479 q1481 qs64 q131 q1482) rfl rfl rfl (by decide +kernel) ⟨Nat.le_of_ble_eq_true rfl, Nat.le_of_ble_eq_true rfl⟩) vl1_0 (by decide) rfl rfl hl.1 rfl (by first | exact Nat.le_of_ble_eq_true rfl | simp [catK, catI, catR, catL]) dX1_sum_62 ⟨Nat.le_refl _, Nat.le_refl _⟩) hS (fun r_31 σ_32 H locs rr_31 rkσ_32 h hWσ_32 hS => ?_)
    have h := h rr_31 rkσ_32
    refine lv_istore (i := 5) (lv' := [(5, .int (oI r_31)), (0, .ref (wad w 1 0)), (2, .long (oL y2)), (4, .int (oI y4))]) X.1 X.2.1 dX1_sum_65 hl (by decide) (by first | rfl | simp [catK, catI, catR, catL]) (fun ls hl => ?_)
    refine lv_iconst (v := oI 0) X.1 X.2.1 dX1_sum_67 rfl ?_
    refine lv_istore (i := 6) (lv' := [(6, .int (oI 0)), (5, .int (oI r_31)), (0, .ref (wad w 1 0)), (2, .long (oL y2)), (4, .int (oI y4))]) X.1 X.2.1 dX1_sum_68 hl (by decide) (by first | rfl | simp [catK, catI, catR, catL]) (fun ls hl => ?_)
    exact wk_House_sum_L70 X hr hlk hT hV rx1 K37 hK37 y2 y4 r_31 0 σ_32 _ _ _ ry2 ry4 rr_31 rZ_0.i (lv_sub hl [2, 3, 4, 1, 0] rfl) hWσ_32 hS h
theorem wk_House_sum_L37 {p : Program} {l : Launch} {e : Env} {st : State} {m : MethodId} {args : Array Value} {below : List Frame} {meth : Method} {c : Code} {w : Wp} {x1 : Int} {Q : Int → St → Prop} (X : CallFix p m c cX1_sum 7 st args lw_all RX1) (hr : meth.sig.returnType = (some .long)) (hlk : meth.locks = false) (hT : Tb w st) (hV : Hvl w) (rx1 : rI x1) : ∀ (y2 y4 : Int) (σ : St) (H : Heap) (locs : List Loc) (ls : Array Slot), rJ y2 → rI y4 → lv_has ls 7 [(0, .ref (wad w 1 0)), (2, .long (oL y2)), (4, .int (oI y4))] → Wo w σ H → va_S (wA w) st.heap H locs → lQ2 (wp_House_sum_L37 (wc w) (wtv w) x1 Q) y2 y4 σ → W p l e (headSpec (ws_ yX1_sum cX1_sum 7 (some .long)) rm_House_sum).room st m args below meth c H locs 0 0 (MQ below (QcJ w Q) args st 0 0 (wA w)) (F0 m 37 ls []) := by
  intro y2 y4 σ H locs ls ry2 ry4 hl hW hS h
  obtain ⟨fu, h⟩ := h
  induction fu generalizing y2 y4 σ H locs ls with
  | zero => exact h.elim
  | succ fu ih =>
    exact wk_House_sum_L37B X hr hlk hT hV rx1 (lq2 (wp_House_sum_L37 (wc w) (wtv w) x1 Q) fu) (fun y2 y4 σ H locs ls ry2 ry4 hl hW hS h => ih y2 y4 σ H locs ls ry2 ry4 hl hW hS h) y2 y4 σ H locs ls ry2 ry4 hl hW hS h
set_option maxHeartbeats 4000000 in
set_option maxRecDepth 100000 in
theorem met_House_sum (l : Launch) {w : Wp} (hV : Hvl w) (x1 : Int) (Q : Int → St → Prop) (σ : St) (rx1 : rI x1) (h : wp_House_sum (wc w) (wtv w) x1 Q σ) : Met l yX1_sum (ws_ yX1_sum cX1_sum 7 (some .long)) rm_House_sum (PcW w σ [.ref (wad w 1 0), .int (oI x1)]) (QcJ w Q) 0 0 (wA w) := by
  refine Met.ofW (cc := cX1_sum) (maxL := 7) (ret := (some .long)) (by decide) rfl ?_
  intro p e st m args below meth c s₁ B hml hv
  obtain ⟨hargs, hW, hT⟩ := hv
  have X : CallFix p m c cX1_sum 7 st _ lw_all RX1 := ⟨B.exec, B.bytes, hml, findClass_of_methodNamed B.named, fun w h => atoms_spec (ws := ws_ yX1_sum cX1_sum 7 (some .long)) B.pre w (List.mem_cons_of_mem _ h)⟩
  have hr := B.returns
  have hlk := B.notSynchronized
  have hS : va_S (wA w) st.heap st.heap [] := va_S.rf
  have vl1_0 : vl w 1 0 := hV.hv 1 rfl ⟨by omega, by show _ < (1 : Int); omega⟩
  have vl10_0 : vl w 10 0 := hV.hv 10 rfl ⟨by omega, by show _ < (4 : Int); omega⟩
  have vl70_0 : vl w 70 0 := hV.hv 70 rfl ⟨by omega, by show _ < (1 : Int); omega⟩
  have hl := lv_entry ([.ref (wad w 1 0), .int (oI x1)]) (n := 7) (Nat.le_of_ble_eq_true rfl)
  have hfr := lg_entry_eq m ([.ref (wad w 1 0), .int (oI x1)]) 7
  rw [← hargs] at hfr
  rw [hfr]
  generalize (lg_sl ([.ref (wad w 1 0), .int (oI x1)]) ++ List.replicate (7 - (lg_sl ([.ref (wad w 1 0), .int (oI x1)])).length) Slot.unset).toArray = ls at hl ⊢
  have hl : lv_has ls 7 [(0, .ref (wad w 1 0)), (1, .int (oI x1))] := hl
  unfold wp_House_sum at h
  refine lv_aload_n X.1 X.2.1 dX1_sum_0 rfl (lv_at hl 0 rfl) ?_
  refine wg (v := .int (oI (gI σ 69 0))) X hT hW 1 5 69 vl1_0 rfl rfl (by decide) rfl (by decide) in_X1 q1075 rfl dX1_sum_1 ?_
  refine w_if_eq (tgt := 15) X ((hW.r.z 69 0 rfl).i) dX1_sum_4 (by decide) (fun hc => ?_) (fun hc => ?_)
  · have h := h.1 hc
    refine lv_lconst (v := oL 0) X.1 X.2.1 dX1_sum_15 (by decide) ?_
    exact wret_J X hr hlk hW hS (rJ_lit 0 (by decide)) h dX1_sum_16
  · have h := h.2 hc
    refine lv_aload_n X.1 X.2.1 dX1_sum_7 rfl (lv_at hl 0 rfl) ?_
    refine lv_iload_n X.1 X.2.1 dX1_sum_8 rfl (lv_at hl 1 rfl) ?_
    refine wr_Z (rV (As := [.int (oI x1)]) (rest := []) X hT hW hS (met_House_isHandle l (w := w) hV x1 _ σ rx1 h) (cwV 1 X.2.2.2.2 (lw_V q1544 q1546 qs67 q131 q1547) rfl rfl rfl (by decide +kernel) ⟨Nat.le_of_ble_eq_true rfl, Nat.le_of_ble_eq_true rfl⟩) vl1_0 (by decide) rfl rfl hl.1 rfl (by first | exact Nat.le_of_ble_eq_true rfl | simp [catK, catI, catR, catL]) dX1_sum_9 ⟨Nat.le_refl _, Nat.le_refl _⟩) hS (fun r_33 σ_34 H locs rr_33 rkσ_34 h hWσ_34 hS => ?_)
    have h := h rr_33 rkσ_34
    refine w_if_ne (tgt := 17) X rr_33.i dX1_sum_12 (by decide) (fun hc => ?_) (fun hc => ?_)
    · have h := h.1 hc
      refine lv_aload_n X.1 X.2.1 dX1_sum_17 rfl (lv_at hl 0 rfl) ?_
      refine lv_aload_n X.1 X.2.1 dX1_sum_18 rfl (lv_at hl 0 rfl) ?_
      refine wg (v := .ref (wad w 70 0)) X hT hWσ_34 1 6 70 vl1_0 rfl rfl (by decide) rfl (by decide) in_X1 q1076 rfl dX1_sum_19 ?_
      refine lv_iload_n X.1 X.2.1 dX1_sum_22 rfl (lv_at hl 1 rfl) ?_
      obtain ⟨bi, h⟩ := h
      refine w_iald (n := 8) X hT hWσ_34 70 vl70_0 (by decide) rfl rfl bi dX1_sum_23 ?_
      refine lv_aload_n X.1 X.2.1 dX1_sum_24 rfl (lv_at hl 0 rfl) ?_
      refine wg (v := .ref (wad w 10 0)) X hT hWσ_34 1 14 78 vl1_0 rfl rfl (by decide) rfl (by decide) in_X1 q1084 rfl dX1_sum_25 ?_
      refine wr_Z (rV (As := [.int (oI (gA σ_34 70 0 x1)), .ref (wad w 10 0)]) (rest := []) X hT hWσ_34 hS (met_House_read l (w := w) hV (gA σ_34 70 0 x1) 0 _ σ_34 (hWσ_34.r.ai 70 0 x1 rfl) (by omega) h) (cwV 2 X.2.2.2.2 (lw_V q1177 q1179 qs32 q131 q1180) rfl rfl rfl (by decide +kernel) ⟨Nat.le_of_ble_eq_true rfl, Nat.le_of_ble_eq_true rfl⟩) vl1_0 (by decide) rfl rfl hl.1 rfl (by first | exact Nat.le_of_ble_eq_true rfl | simp [catK, catI, catR, catL]) dX1_sum_28 ⟨Nat.le_refl _, Nat.le_refl _⟩) hS (fun r_35 σ_36 H locs rr_35 rkσ_36 h hWσ_36 hS => ?_)
      have h := h rr_35 rkσ_36
      refine lv_pop X.1 X.2.1 dX1_sum_31 rfl ?_
      refine lv_lconst (v := oL 0) X.1 X.2.1 dX1_sum_32 (by decide) ?_
      refine lv_lstore_n (i := 2) (lv' := [(2, .long (oL 0)), (0, .ref (wad w 1 0)), (1, .int (oI x1))]) X.1 X.2.1 dX1_sum_33 rfl hl (by decide) (by first | rfl | simp [catK, catI, catR, catL]) (fun ls hl => ?_)
      refine lv_iconst (v := oI 0) X.1 X.2.1 dX1_sum_34 rfl ?_
      refine lv_istore (i := 4) (lv' := [(4, .int (oI 0)), (2, .long (oL 0)), (0, .ref (wad w 1 0)), (1, .int (oI x1))]) X.1 X.2.1 dX1_sum_35 hl (by decide) (by first | rfl | simp [catK, catI, catR, catL]) (fun ls hl => ?_)
      exact wk_House_sum_L37 X hr hlk hT hV rx1 0 0 σ_36 _ _ _ (rJ_lit 0 (by decide)) rZ_0.i (lv_sub hl [2, 1, 0] rfl) hWσ_36 hS h
    · have h := h.2 hc
      refine lv_lconst (v := oL 0) X.1 X.2.1 dX1_sum_15 (by decide) ?_
      exact wret_J X hr hlk hWσ_34 hS (rJ_lit 0 (by decide)) h dX1_sum_16
/-! House.isRaw(I)Z -/
set_option maxHeartbeats 4000000 in
set_option maxRecDepth 100000 in
theorem met_House_isRaw (l : Launch) {w : Wp} (hV : Hvl w) (x1 : Int) (Q : Int → St → Prop) (σ : St) (rx1 : rI x1) (h : wp_House_isRaw (wc w) (wtv w) x1 Q σ) : Met l yX1_isRaw (ws_ yX1_isRaw cX1_isRaw 2 (some .boolean)) rm_House_isRaw (PcW w σ [.ref (wad w 1 0), .int (oI x1)]) (QcZ w Q) 0 0 (wA w) := by
  refine Met.ofW (cc := cX1_isRaw) (maxL := 2) (ret := (some .boolean)) (by decide) rfl ?_
  intro p e st m args below meth c s₁ B hml hv
  obtain ⟨hargs, hW, hT⟩ := hv
  have X : CallFix p m c cX1_isRaw 2 st _ lw_all RX1 := ⟨B.exec, B.bytes, hml, findClass_of_methodNamed B.named, fun w h => atoms_spec (ws := ws_ yX1_isRaw cX1_isRaw 2 (some .boolean)) B.pre w (List.mem_cons_of_mem _ h)⟩
  have hr := B.returns
  have hlk := B.notSynchronized
  have hS : va_S (wA w) st.heap st.heap [] := va_S.rf
  have vl1_0 : vl w 1 0 := hV.hv 1 rfl ⟨by omega, by show _ < (1 : Int); omega⟩
  have hl := lv_entry ([.ref (wad w 1 0), .int (oI x1)]) (n := 2) (Nat.le_of_ble_eq_true rfl)
  have hfr := lg_entry_eq m ([.ref (wad w 1 0), .int (oI x1)]) 2
  rw [← hargs] at hfr
  rw [hfr]
  generalize (lg_sl ([.ref (wad w 1 0), .int (oI x1)]) ++ List.replicate (2 - (lg_sl ([.ref (wad w 1 0), .int (oI x1)])).length) Slot.unset).toArray = ls at hl ⊢
  have hl : lv_has ls 2 [(0, .ref (wad w 1 0)), (1, .int (oI x1))] := hl
  unfold wp_House_isRaw at h
  refine lv_iload_n X.1 X.2.1 dX1_isRaw_0 rfl (lv_at hl 1 rfl) ?_
  refine lv_iconst (v := oI 0) X.1 X.2.1 dX1_isRaw_1 rfl ?_
  refine lv_aload_n X.1 X.2.1 dX1_isRaw_2 rfl (lv_at hl 0 rfl) ?_
  refine wg (v := .int (oI (wc w).2.2)) X hT hW 1 26 90 vl1_0 rfl rfl (by decide) rfl (by decide) in_X1 q1096 rfl dX1_isRaw_3 ?_
  refine lv_iconst (v := oI 1) X.1 X.2.1 dX1_isRaw_6 rfl ?_
  refine w_isub X dX1_isRaw_7 ?_
  refine wr_Z (rS (As := [.int (oI x1), .int (oI 0), .int (oI (w32 ((wc w).2.2 - 1)))]) (rest := []) X hT hW hS (met_House_isIn l (w := w) x1 0 (w32 ((wc w).2.2 - 1)) _ σ rx1 rZ_0.i (w32_r _) h) (va_cwS 3 X.2.2.2.2 (lw_S q208 q209 q131 q210) rfl rfl rfl (by decide +kernel) ⟨Nat.le_of_ble_eq_true rfl, Nat.le_of_ble_eq_true rfl⟩) rfl hl.1 rfl (by first | exact Nat.le_of_ble_eq_true rfl | simp [catK, catI, catR, catL]) dX1_isRaw_8 ⟨Nat.le_refl _, Nat.le_refl _⟩) hS (fun r_3 σ_4 H locs rr_3 rkσ_4 h hWσ_4 hS => ?_)
  have h := h rr_3 rkσ_4
  exact wret_Z X hr hlk hWσ_4 hS rr_3 h dX1_isRaw_11
/-! House.rawWrite(II)I -/
set_option maxHeartbeats 4000000 in
set_option maxRecDepth 100000 in
theorem met_House_rawWrite (l : Launch) {w : Wp} (hV : Hvl w) (x1 : Int) (x2 : Int) (Q : Int → St → Prop) (σ : St) (rx1 : rI x1) (rx2 : rI x2) (h : wp_House_rawWrite (wc w) (wtv w) x1 x2 Q σ) : Met l yX1_rawWrite (ws_ yX1_rawWrite cX1_rawWrite 3 (some .int)) rm_House_rawWrite (PcW w σ [.ref (wad w 1 0), .int (oI x1), .int (oI x2)]) (QcI w Q) 0 0 (wA w) := by
  refine Met.ofW (cc := cX1_rawWrite) (maxL := 3) (ret := (some .int)) (by decide) rfl ?_
  intro p e st m args below meth c s₁ B hml hv
  obtain ⟨hargs, hW, hT⟩ := hv
  have X : CallFix p m c cX1_rawWrite 3 st _ lw_all RX1 := ⟨B.exec, B.bytes, hml, findClass_of_methodNamed B.named, fun w h => atoms_spec (ws := ws_ yX1_rawWrite cX1_rawWrite 3 (some .int)) B.pre w (List.mem_cons_of_mem _ h)⟩
  have hr := B.returns
  have hlk := B.notSynchronized
  have hS : va_S (wA w) st.heap st.heap [] := va_S.rf
  have vl1_0 : vl w 1 0 := hV.hv 1 rfl ⟨by omega, by show _ < (1 : Int); omega⟩
  have vl3_0 : vl w 3 0 := hV.hv 3 rfl ⟨by omega, by show _ < (2 : Int); omega⟩
  have vl4_0 : vl w 4 0 := hV.hv 4 rfl ⟨by omega, by show _ < (2 : Int); omega⟩
  have hl := lv_entry ([.ref (wad w 1 0), .int (oI x1), .int (oI x2)]) (n := 3) (Nat.le_of_ble_eq_true rfl)
  have hfr := lg_entry_eq m ([.ref (wad w 1 0), .int (oI x1), .int (oI x2)]) 3
  rw [← hargs] at hfr
  rw [hfr]
  generalize (lg_sl ([.ref (wad w 1 0), .int (oI x1), .int (oI x2)]) ++ List.replicate (3 - (lg_sl ([.ref (wad w 1 0), .int (oI x1), .int (oI x2)])).length) Slot.unset).toArray = ls at hl ⊢
  have hl : lv_has ls 3 [(0, .ref (wad w 1 0)), (1, .int (oI x1)), (2, .int (oI x2))] := hl
  unfold wp_House_rawWrite at h
  refine lv_aload_n X.1 X.2.1 dX1_rawWrite_0 rfl (lv_at hl 0 rfl) ?_
  refine wg (v := .int (oI (gI σ 69 0))) X hT hW 1 5 69 vl1_0 rfl rfl (by decide) rfl (by decide) in_X1 q1075 rfl dX1_rawWrite_1 ?_
  refine w_if_ne (tgt := 10) X ((hW.r.z 69 0 rfl).i) dX1_rawWrite_4 (by decide) (fun hc => ?_) (fun hc => ?_)
  · have h := h.1 hc
    refine lv_aload_n X.1 X.2.1 dX1_rawWrite_10 rfl (lv_at hl 0 rfl) ?_
    refine lv_iload_n X.1 X.2.1 dX1_rawWrite_11 rfl (lv_at hl 1 rfl) ?_
    refine wr_Z (rV (As := [.int (oI x1)]) (rest := []) X hT hW hS (met_House_isRaw l (w := w) hV x1 _ σ rx1 h) (cwV 1 X.2.2.2.2 (lw_V q1596 q1598 qs70 q131 q1599) rfl rfl rfl (by decide +kernel) ⟨Nat.le_of_ble_eq_true rfl, Nat.le_of_ble_eq_true rfl⟩) vl1_0 (by decide) rfl rfl hl.1 rfl (by first | exact Nat.le_of_ble_eq_true rfl | simp [catK, catI, catR, catL]) dX1_rawWrite_12 ⟨Nat.le_refl _, Nat.le_refl _⟩) hS (fun r_9 σ_10 H locs rr_9 rkσ_10 h hWσ_10 hS => ?_)
    have h := h rr_9 rkσ_10
    refine w_if_ne (tgt := 21) X rr_9.i dX1_rawWrite_15 (by decide) (fun hc => ?_) (fun hc => ?_)
    · have h := h.1 hc
      refine lv_aload_n X.1 X.2.1 dX1_rawWrite_21 rfl (lv_at hl 0 rfl) ?_
      refine wg (v := .ref (wad w 3 0)) X hT hWσ_10 1 1 65 vl1_0 rfl rfl (by decide) rfl (by decide) in_X1 q1071 rfl dX1_rawWrite_22 ?_
      refine wg (v := .ref (wad w 4 0)) X hT hWσ_10 3 0 192 vl3_0 rfl rfl (by decide) rfl (by decide) in_X5 q524 rfl dX1_rawWrite_25 ?_
      refine lv_iconst (v := oI 4) X.1 X.2.1 dX1_rawWrite_28 rfl ?_
      refine lv_iload_n X.1 X.2.1 dX1_rawWrite_29 rfl (lv_at hl 1 rfl) ?_
      refine w_iadd X dX1_rawWrite_30 ?_
      refine wr_I (rV (As := [.int (oI (w32 (4 + x1)))]) (rest := []) X hT hWσ_10 hS (met_Blocks_written l (w := w) hV 0 (w32 (4 + x1)) _ σ_10 (by omega) (w32_r _) h) (cwV 1 X.2.2.2.2 (lw_V q1600 q1018 q1019 q137 q1020) rfl rfl rfl (by decide +kernel) ⟨Nat.le_of_ble_eq_true rfl, Nat.le_of_ble_eq_true rfl⟩) vl4_0 (by decide) rfl rfl hl.1 rfl (by first | exact Nat.le_of_ble_eq_true rfl | simp [catK, catI, catR, catL]) dX1_rawWrite_31 ⟨Nat.le_refl _, Nat.le_refl _⟩) hS (fun r_11 σ_12 H locs rr_11 rkσ_12 h hWσ_12 hS => ?_)
      have h := h rr_11 rkσ_12
      refine lv_aload_n X.1 X.2.1 dX1_rawWrite_34 rfl (lv_at hl 0 rfl) ?_
      refine wg (v := .ref (wad w 3 0)) X hT hWσ_12 1 1 65 vl1_0 rfl rfl (by decide) rfl (by decide) in_X1 q1071 rfl dX1_rawWrite_35 ?_
      refine wg (v := .ref (wad w 4 0)) X hT hWσ_12 3 0 192 vl3_0 rfl rfl (by decide) rfl (by decide) in_X5 q524 rfl dX1_rawWrite_38 ?_
      refine wr_I (rV (As := []) (rest := [.int (oI r_11)]) X hT hWσ_12 hS (met_Blocks_pages l (w := w) hV 0 _ σ_12 (by omega) h) (cwV 0 X.2.2.2.2 (lw_V q1601 q333 q334 q137 q335) rfl rfl rfl (by decide +kernel) ⟨Nat.le_of_ble_eq_true rfl, Nat.le_of_ble_eq_true rfl⟩) vl4_0 (by decide) rfl rfl hl.1 rfl (by first | exact Nat.le_of_ble_eq_true rfl | simp [catK, catI, catR, catL]) dX1_rawWrite_41 ⟨Nat.le_refl _, Nat.le_refl _⟩) hS (fun r_13 σ_14 H locs rr_13 rkσ_14 h hWσ_14 hS => ?_)
      have h := h rr_13 rkσ_14
      refine w_icmp_ne (tgt := 52) X rr_11 rr_13 dX1_rawWrite_44 (by decide) (fun hc => ?_) (fun hc => ?_)
      · have h := h.1 hc
        refine lv_aload_n X.1 X.2.1 dX1_rawWrite_52 rfl (lv_at hl 0 rfl) ?_
        refine wg (v := .ref (wad w 3 0)) X hT hWσ_14 1 1 65 vl1_0 rfl rfl (by decide) rfl (by decide) in_X1 q1071 rfl dX1_rawWrite_53 ?_
        refine wg (v := .ref (wad w 4 0)) X hT hWσ_14 3 0 192 vl3_0 rfl rfl (by decide) rfl (by decide) in_X5 q524 rfl dX1_rawWrite_56 ?_
        refine lv_iconst (v := oI 4) X.1 X.2.1 dX1_rawWrite_59 rfl ?_
        refine lv_iload_n X.1 X.2.1 dX1_rawWrite_60 rfl (lv_at hl 1 rfl) ?_
        refine w_iadd X dX1_rawWrite_61 ?_
        refine lv_iload_n X.1 X.2.1 dX1_rawWrite_62 rfl (lv_at hl 2 rfl) ?_
        refine wr_I (rV (As := [.int (oI (w32 (4 + x1))), .int (oI x2)]) (rest := []) X hT hWσ_14 hS (met_Blocks_writeRule l (w := w) hV 0 (w32 (4 + x1)) x2 _ σ_14 (by omega) (w32_r _) rx2 h) (cwV 2 X.2.2.2.2 (lw_V q1602 q1603 q1604 q137 q1605) rfl rfl rfl (by decide +kernel) ⟨Nat.le_of_ble_eq_true rfl, Nat.le_of_ble_eq_true rfl⟩) vl4_0 (by decide) rfl rfl hl.1 rfl (by first | exact Nat.le_of_ble_eq_true rfl | simp [catK, catI, catR, catL]) dX1_rawWrite_63 ⟨Nat.le_refl _, Nat.le_refl _⟩) hS (fun r_15 σ_16 H locs rr_15 rkσ_16 h hWσ_16 hS => ?_)
        have h := h rr_15 rkσ_16
        exact wret_I X hr hlk hWσ_16 hS rr_15 h dX1_rawWrite_66
      · have h := h.2 hc
        refine lv_bipush (v := oI (-10)) X.1 X.2.1 dX1_rawWrite_47 (by decide) ?_
        refine lv_goto (tgt := 66) X.1 X.2.1 dX1_rawWrite_49 (by decide) ?_
        exact wret_I X hr hlk hWσ_14 hS ((rB_lit (-10) (by decide)).i) h dX1_rawWrite_66
    · have h := h.2 hc
      refine lv_bipush (v := oI (-3)) X.1 X.2.1 dX1_rawWrite_18 (by decide) ?_
      exact wret_I X hr hlk hWσ_10 hS ((rB_lit (-3) (by decide)).i) h dX1_rawWrite_20
  · have h := h.2 hc
    refine lv_bipush (v := oI (-2)) X.1 X.2.1 dX1_rawWrite_7 (by decide) ?_
    exact wret_I X hr hlk hW hS ((rB_lit (-2) (by decide)).i) h dX1_rawWrite_9
/-! House.rawChange(III)I -/
set_option maxHeartbeats 4000000 in
set_option maxRecDepth 100000 in
theorem met_House_rawChange (l : Launch) {w : Wp} (hV : Hvl w) (x1 : Int) (x2 : Int) (x3 : Int) (Q : Int → St → Prop) (σ : St) (rx1 : rI x1) (rx2 : rI x2) (rx3 : rI x3) (h : wp_House_rawChange (wc w) (wtv w) x1 x2 x3 Q σ) : Met l yX1_rawChange (ws_ yX1_rawChange cX1_rawChange 5 (some .int)) rm_House_rawChange (PcW w σ [.ref (wad w 1 0), .int (oI x1), .int (oI x2), .int (oI x3)]) (QcI w Q) 0 0 (wA w) := by
  refine Met.ofW (cc := cX1_rawChange) (maxL := 5) (ret := (some .int)) (by decide) rfl ?_
  intro p e st m args below meth c s₁ B hml hv
  obtain ⟨hargs, hW, hT⟩ := hv
  have X : CallFix p m c cX1_rawChange 5 st _ lw_all RX1 := ⟨B.exec, B.bytes, hml, findClass_of_methodNamed B.named, fun w h => atoms_spec (ws := ws_ yX1_rawChange cX1_rawChange 5 (some .int)) B.pre w (List.mem_cons_of_mem _ h)⟩
  have hr := B.returns
  have hlk := B.notSynchronized
  have hS : va_S (wA w) st.heap st.heap [] := va_S.rf
  have vl1_0 : vl w 1 0 := hV.hv 1 rfl ⟨by omega, by show _ < (1 : Int); omega⟩
  have vl3_0 : vl w 3 0 := hV.hv 3 rfl ⟨by omega, by show _ < (2 : Int); omega⟩
  have vl4_0 : vl w 4 0 := hV.hv 4 rfl ⟨by omega, by show _ < (2 : Int); omega⟩
  have hl := lv_entry ([.ref (wad w 1 0), .int (oI x1), .int (oI x2), .int (oI x3)]) (n := 5) (Nat.le_of_ble_eq_true rfl)
  have hfr := lg_entry_eq m ([.ref (wad w 1 0), .int (oI x1), .int (oI x2), .int (oI x3)]) 5
  rw [← hargs] at hfr
  rw [hfr]
  generalize (lg_sl ([.ref (wad w 1 0), .int (oI x1), .int (oI x2), .int (oI x3)]) ++ List.replicate (5 - (lg_sl ([.ref (wad w 1 0), .int (oI x1), .int (oI x2), .int (oI x3)])).length) Slot.unset).toArray = ls at hl ⊢
  have hl : lv_has ls 5 [(0, .ref (wad w 1 0)), (1, .int (oI x1)), (2, .int (oI x2)), (3, .int (oI x3))] := hl
  unfold wp_House_rawChange at h
  refine lv_aload_n X.1 X.2.1 dX1_rawChange_0 rfl (lv_at hl 0 rfl) ?_
  refine wg (v := .int (oI (gI σ 69 0))) X hT hW 1 5 69 vl1_0 rfl rfl (by decide) rfl (by decide) in_X1 q1075 rfl dX1_rawChange_1 ?_
  refine w_if_ne (tgt := 10) X ((hW.r.z 69 0 rfl).i) dX1_rawChange_4 (by decide) (fun hc => ?_) (fun hc => ?_)
  · have h := h.1 hc
    refine lv_aload_n X.1 X.2.1 dX1_rawChange_10 rfl (lv_at hl 0 rfl) ?_
    refine lv_iload_n X.1 X.2.1 dX1_rawChange_11 rfl (lv_at hl 1 rfl) ?_
    refine wr_Z (rV (As := [.int (oI x1)]) (rest := []) X hT hW hS (met_House_isRaw l (w := w) hV x1 _ σ rx1 h) (cwV 1 X.2.2.2.2 (lw_V q1596 q1598 qs70 q131 q1599) rfl rfl rfl (by decide +kernel) ⟨Nat.le_of_ble_eq_true rfl, Nat.le_of_ble_eq_true rfl⟩) vl1_0 (by decide) rfl rfl hl.1 rfl (by first | exact Nat.le_of_ble_eq_true rfl | simp [catK, catI, catR, catL]) dX1_rawChange_12 ⟨Nat.le_refl _, Nat.le_refl _⟩) hS (fun r_11 σ_12 H locs rr_11 rkσ_12 h hWσ_12 hS => ?_)
    have h := h rr_11 rkσ_12
    refine w_if_eq (tgt := 36) X rr_11.i dX1_rawChange_15 (by decide) (fun hc => ?_) (fun hc => ?_)
    · have h := h.1 hc
      refine lv_bipush (v := oI (-3)) X.1 X.2.1 dX1_rawChange_36 (by decide) ?_
      exact wret_I X hr hlk hWσ_12 hS ((rB_lit (-3) (by decide)).i) h dX1_rawChange_38
    · have h := h.2 hc
      refine lv_iload_n X.1 X.2.1 dX1_rawChange_18 rfl (lv_at hl 2 rfl) ?_
      refine lv_iconst (v := oI 0) X.1 X.2.1 dX1_rawChange_19 rfl ?_
      refine lv_aload_n X.1 X.2.1 dX1_rawChange_20 rfl (lv_at hl 0 rfl) ?_
      refine wg (v := .ref (wad w 3 0)) X hT hWσ_12 1 1 65 vl1_0 rfl rfl (by decide) rfl (by decide) in_X1 q1071 rfl dX1_rawChange_21 ?_
      refine wg (v := .ref (wad w 4 0)) X hT hWσ_12 3 0 192 vl3_0 rfl rfl (by decide) rfl (by decide) in_X5 q524 rfl dX1_rawChange_24 ?_
      refine wr_I (rV (As := []) (rest := [.int (oI 0), .int (oI x2)]) X hT hWσ_12 hS (met_Blocks_pages l (w := w) hV 0 _ σ_12 (by omega) h) (cwV 0 X.2.2.2.2 (lw_V q1601 q333 q334 q137 q335) rfl rfl rfl (by decide +kernel) ⟨Nat.le_of_ble_eq_true rfl, Nat.le_of_ble_eq_true rfl⟩) vl4_0 (by decide) rfl rfl hl.1 rfl (by first | exact Nat.le_of_ble_eq_true rfl | simp [catK, catI, catR, catL]) dX1_rawChange_27 ⟨Nat.le_refl _, Nat.le_refl _⟩) hS (fun r_13 σ_14 H locs rr_13 rkσ_14 h hWσ_14 hS => ?_)
      have h := h rr_13 rkσ_14
      refine wr_Z (rS (As := [.int (oI x2), .int (oI 0), .int (oI r_13)]) (rest := []) X hT hWσ_14 hS (met_House_isIn l (w := w) x2 0 r_13 _ σ_14 rx2 rZ_0.i rr_13 h) (va_cwS 3 X.2.2.2.2 (lw_S q208 q209 q131 q210) rfl rfl rfl (by decide +kernel) ⟨Nat.le_of_ble_eq_true rfl, Nat.le_of_ble_eq_true rfl⟩) rfl hl.1 rfl (by first | exact Nat.le_of_ble_eq_true rfl | simp [catK, catI, catR, catL]) dX1_rawChange_30 ⟨Nat.le_refl _, Nat.le_refl _⟩) hS (fun r_15 σ_16 H locs rr_15 rkσ_16 h hWσ_16 hS => ?_)
      have h := h rr_15 rkσ_16
      refine w_if_ne (tgt := 39) X rr_15.i dX1_rawChange_33 (by decide) (fun hc => ?_) (fun hc => ?_)
      · have h := h.1 hc
        refine lv_aload_n X.1 X.2.1 dX1_rawChange_39 rfl (lv_at hl 0 rfl) ?_
        refine wg (v := .ref (wad w 3 0)) X hT hWσ_16 1 1 65 vl1_0 rfl rfl (by decide) rfl (by decide) in_X1 q1071 rfl dX1_rawChange_40 ?_
        refine wg (v := .ref (wad w 4 0)) X hT hWσ_16 3 0 192 vl3_0 rfl rfl (by decide) rfl (by decide) in_X5 q524 rfl dX1_rawChange_43 ?_
        refine lv_iconst (v := oI 4) X.1 X.2.1 dX1_rawChange_46 rfl ?_
        refine lv_iload_n X.1 X.2.1 dX1_rawChange_47 rfl (lv_at hl 1 rfl) ?_
        refine w_iadd X dX1_rawChange_48 ?_
        refine wr_I (rV (As := [.int (oI (w32 (4 + x1)))]) (rest := []) X hT hWσ_16 hS (met_Blocks_written l (w := w) hV 0 (w32 (4 + x1)) _ σ_16 (by omega) (w32_r _) h) (cwV 1 X.2.2.2.2 (lw_V q1600 q1018 q1019 q137 q1020) rfl rfl rfl (by decide +kernel) ⟨Nat.le_of_ble_eq_true rfl, Nat.le_of_ble_eq_true rfl⟩) vl4_0 (by decide) rfl rfl hl.1 rfl (by first | exact Nat.le_of_ble_eq_true rfl | simp [catK, catI, catR, catL]) dX1_rawChange_49 ⟨Nat.le_refl _, Nat.le_refl _⟩) hS (fun r_17 σ_18 H locs rr_17 rkσ_18 h hWσ_18 hS => ?_)
        have h := h rr_17 rkσ_18
        refine lv_istore (i := 4) (lv' := [(4, .int (oI r_17)), (0, .ref (wad w 1 0)), (1, .int (oI x1)), (2, .int (oI x2)), (3, .int (oI x3))]) X.1 X.2.1 dX1_rawChange_52 hl (by decide) (by first | rfl | simp [catK, catI, catR, catL]) (fun ls hl => ?_)
        refine lv_aload_n X.1 X.2.1 dX1_rawChange_54 rfl (lv_at hl 1 rfl) ?_
        refine wg (v := .ref (wad w 3 0)) X hT hWσ_18 1 1 65 vl1_0 rfl rfl (by decide) rfl (by decide) in_X1 q1071 rfl dX1_rawChange_55 ?_
        refine wg (v := .ref (wad w 4 0)) X hT hWσ_18 3 0 192 vl3_0 rfl rfl (by decide) rfl (by decide) in_X5 q524 rfl dX1_rawChange_58 ?_
        refine lv_iconst (v := oI 4) X.1 X.2.1 dX1_rawChange_61 rfl ?_
        refine lv_iload_n X.1 X.2.1 dX1_rawChange_62 rfl (lv_at hl 2 rfl) ?_
        refine w_iadd X dX1_rawChange_63 ?_
        refine lv_iload_n X.1 X.2.1 dX1_rawChange_64 rfl (lv_at hl 3 rfl) ?_
        refine lv_iload_n X.1 X.2.1 dX1_rawChange_65 rfl (lv_at hl 4 rfl) ?_
        refine wr_V (rV (As := [.int (oI (w32 (4 + x1))), .int (oI x2), .int (oI x3)]) (rest := []) X hT hWσ_18 hS (met_Blocks_change l (w := w) hV 0 (w32 (4 + x1)) x2 x3 _ σ_18 (by omega) (w32_r _) rx2 rx3 h) (cwV 3 X.2.2.2.2 (lw_V q1616 q1617 q1618 q137 q1619) rfl rfl rfl (by decide +kernel) ⟨Nat.le_of_ble_eq_true rfl, Nat.le_of_ble_eq_true rfl⟩) vl4_0 (by decide) rfl rfl hl.1 rfl (by first | exact Nat.le_of_ble_eq_true rfl | simp [catK, catI, catR, catL]) dX1_rawChange_66 ⟨Nat.le_refl _, Nat.le_refl _⟩) hS (fun σ_20 H locs rkσ_20 h hWσ_20 hS => ?_)
        have h := h rkσ_20
        refine lv_iload X.1 X.2.1 dX1_rawChange_69 (lv_at hl 0 rfl) ?_
        exact wret_I X hr hlk hWσ_20 hS rr_17 h dX1_rawChange_71
      · have h := h.2 hc
        refine lv_bipush (v := oI (-3)) X.1 X.2.1 dX1_rawChange_36 (by decide) ?_
        exact wret_I X hr hlk hWσ_16 hS ((rB_lit (-3) (by decide)).i) h dX1_rawChange_38
  · have h := h.2 hc
    refine lv_bipush (v := oI (-2)) X.1 X.2.1 dX1_rawChange_7 (by decide) ?_
    exact wret_I X hr hlk hW hS ((rB_lit (-2) (by decide)).i) h dX1_rawChange_9
/-! House.rawByte(II)I -/
set_option maxHeartbeats 4000000 in
set_option maxRecDepth 100000 in
theorem met_House_rawByte (l : Launch) {w : Wp} (hV : Hvl w) (x1 : Int) (x2 : Int) (Q : Int → St → Prop) (σ : St) (rx1 : rI x1) (rx2 : rI x2) (h : wp_House_rawByte (wc w) (wtv w) x1 x2 Q σ) : Met l yX1_rawByte (ws_ yX1_rawByte cX1_rawByte 3 (some .int)) rm_House_rawByte (PcW w σ [.ref (wad w 1 0), .int (oI x1), .int (oI x2)]) (QcI w Q) 0 0 (wA w) := by
  refine Met.ofW (cc := cX1_rawByte) (maxL := 3) (ret := (some .int)) (by decide) rfl ?_
  intro p e st m args below meth c s₁ B hml hv
  obtain ⟨hargs, hW, hT⟩ := hv
  have X : CallFix p m c cX1_rawByte 3 st _ lw_all RX1 := ⟨B.exec, B.bytes, hml, findClass_of_methodNamed B.named, fun w h => atoms_spec (ws := ws_ yX1_rawByte cX1_rawByte 3 (some .int)) B.pre w (List.mem_cons_of_mem _ h)⟩
  have hr := B.returns
  have hlk := B.notSynchronized
  have hS : va_S (wA w) st.heap st.heap [] := va_S.rf
  have vl1_0 : vl w 1 0 := hV.hv 1 rfl ⟨by omega, by show _ < (1 : Int); omega⟩
  have vl3_0 : vl w 3 0 := hV.hv 3 rfl ⟨by omega, by show _ < (2 : Int); omega⟩
  have vl4_0 : vl w 4 0 := hV.hv 4 rfl ⟨by omega, by show _ < (2 : Int); omega⟩
  have vl86_0 : vl w 86 0 := hV.hv 86 rfl ⟨by omega, by show _ < (1 : Int); omega⟩
  have hl := lv_entry ([.ref (wad w 1 0), .int (oI x1), .int (oI x2)]) (n := 3) (Nat.le_of_ble_eq_true rfl)
  have hfr := lg_entry_eq m ([.ref (wad w 1 0), .int (oI x1), .int (oI x2)]) 3
  rw [← hargs] at hfr
  rw [hfr]
  generalize (lg_sl ([.ref (wad w 1 0), .int (oI x1), .int (oI x2)]) ++ List.replicate (3 - (lg_sl ([.ref (wad w 1 0), .int (oI x1), .int (oI x2)])).length) Slot.unset).toArray = ls at hl ⊢
  have hl : lv_has ls 3 [(0, .ref (wad w 1 0)), (1, .int (oI x1)), (2, .int (oI x2))] := hl
  unfold wp_House_rawByte at h
  refine lv_aload_n X.1 X.2.1 dX1_rawByte_0 rfl (lv_at hl 0 rfl) ?_
  refine wg (v := .int (oI (gI σ 69 0))) X hT hW 1 5 69 vl1_0 rfl rfl (by decide) rfl (by decide) in_X1 q1075 rfl dX1_rawByte_1 ?_
  refine w_if_ne (tgt := 10) X ((hW.r.z 69 0 rfl).i) dX1_rawByte_4 (by decide) (fun hc => ?_) (fun hc => ?_)
  · have h := h.1 hc
    refine lv_aload_n X.1 X.2.1 dX1_rawByte_10 rfl (lv_at hl 0 rfl) ?_
    refine lv_iload_n X.1 X.2.1 dX1_rawByte_11 rfl (lv_at hl 1 rfl) ?_
    refine wr_Z (rV (As := [.int (oI x1)]) (rest := []) X hT hW hS (met_House_isRaw l (w := w) hV x1 _ σ rx1 h) (cwV 1 X.2.2.2.2 (lw_V q1596 q1598 qs70 q131 q1599) rfl rfl rfl (by decide +kernel) ⟨Nat.le_of_ble_eq_true rfl, Nat.le_of_ble_eq_true rfl⟩) vl1_0 (by decide) rfl rfl hl.1 rfl (by first | exact Nat.le_of_ble_eq_true rfl | simp [catK, catI, catR, catL]) dX1_rawByte_12 ⟨Nat.le_refl _, Nat.le_refl _⟩) hS (fun r_9 σ_10 H locs rr_9 rkσ_10 h hWσ_10 hS => ?_)
    have h := h rr_9 rkσ_10
    refine w_if_ne (tgt := 21) X rr_9.i dX1_rawByte_15 (by decide) (fun hc => ?_) (fun hc => ?_)
    · have h := h.1 hc
      refine lv_iload_n X.1 X.2.1 dX1_rawByte_21 rfl (lv_at hl 2 rfl) ?_
      refine lv_iconst (v := oI 0) X.1 X.2.1 dX1_rawByte_22 rfl ?_
      refine lv_aload_n X.1 X.2.1 dX1_rawByte_23 rfl (lv_at hl 0 rfl) ?_
      refine wg (v := .ref (wad w 3 0)) X hT hWσ_10 1 1 65 vl1_0 rfl rfl (by decide) rfl (by decide) in_X1 q1071 rfl dX1_rawByte_24 ?_
      refine wg (v := .ref (wad w 4 0)) X hT hWσ_10 3 0 192 vl3_0 rfl rfl (by decide) rfl (by decide) in_X5 q524 rfl dX1_rawByte_27 ?_
      refine lv_iconst (v := oI 4) X.1 X.2.1 dX1_rawByte_30 rfl ?_
      refine lv_iload_n X.1 X.2.1 dX1_rawByte_31 rfl (lv_at hl 1 rfl) ?_
      refine w_iadd X dX1_rawByte_32 ?_
      refine wr_I (rV (As := [.int (oI (w32 (4 + x1)))]) (rest := [.int (oI 0), .int (oI x2)]) X hT hWσ_10 hS (met_Blocks_written l (w := w) hV 0 (w32 (4 + x1)) _ σ_10 (by omega) (w32_r _) h) (cwV 1 X.2.2.2.2 (lw_V q1600 q1018 q1019 q137 q1020) rfl rfl rfl (by decide +kernel) ⟨Nat.le_of_ble_eq_true rfl, Nat.le_of_ble_eq_true rfl⟩) vl4_0 (by decide) rfl rfl hl.1 rfl (by first | exact Nat.le_of_ble_eq_true rfl | simp [catK, catI, catR, catL]) dX1_rawByte_33 ⟨Nat.le_refl _, Nat.le_refl _⟩) hS (fun r_11 σ_12 H locs rr_11 rkσ_12 h hWσ_12 hS => ?_)
      have h := h rr_11 rkσ_12
      refine lv_sipush (v := oI 128) X.1 X.2.1 dX1_rawByte_36 (by decide) ?_
      refine w_imul X dX1_rawByte_39 ?_
      refine lv_iconst (v := oI 1) X.1 X.2.1 dX1_rawByte_40 rfl ?_
      refine w_isub X dX1_rawByte_41 ?_
      refine wr_Z (rS (As := [.int (oI x2), .int (oI 0), .int (oI (w32 ((w32 (r_11 * 128)) - 1)))]) (rest := []) X hT hWσ_12 hS (met_House_isIn l (w := w) x2 0 (w32 ((w32 (r_11 * 128)) - 1)) _ σ_12 rx2 rZ_0.i (w32_r _) h) (va_cwS 3 X.2.2.2.2 (lw_S q208 q209 q131 q210) rfl rfl rfl (by decide +kernel) ⟨Nat.le_of_ble_eq_true rfl, Nat.le_of_ble_eq_true rfl⟩) rfl hl.1 rfl (by first | exact Nat.le_of_ble_eq_true rfl | simp [catK, catI, catR, catL]) dX1_rawByte_42 ⟨Nat.le_refl _, Nat.le_refl _⟩) hS (fun r_13 σ_14 H locs rr_13 rkσ_14 h hWσ_14 hS => ?_)
      have h := h rr_13 rkσ_14
      refine w_if_ne (tgt := 50) X rr_13.i dX1_rawByte_45 (by decide) (fun hc => ?_) (fun hc => ?_)
      · have h := h.1 hc
        refine lv_aload_n X.1 X.2.1 dX1_rawByte_50 rfl (lv_at hl 0 rfl) ?_
        refine wg (v := .ref (wad w 3 0)) X hT hWσ_14 1 1 65 vl1_0 rfl rfl (by decide) rfl (by decide) in_X1 q1071 rfl dX1_rawByte_51 ?_
        refine wg (v := .ref (wad w 4 0)) X hT hWσ_14 3 0 192 vl3_0 rfl rfl (by decide) rfl (by decide) in_X5 q524 rfl dX1_rawByte_54 ?_
        refine lv_iconst (v := oI 4) X.1 X.2.1 dX1_rawByte_57 rfl ?_
        refine lv_iload_n X.1 X.2.1 dX1_rawByte_58 rfl (lv_at hl 1 rfl) ?_
        refine w_iadd X dX1_rawByte_59 ?_
        refine lv_iload_n X.1 X.2.1 dX1_rawByte_60 rfl (lv_at hl 2 rfl) ?_
        refine lv_sipush (v := oI 128) X.1 X.2.1 dX1_rawByte_61 (by decide) ?_
        refine w_idiv X rx2 (rI_lit 128 (by decide)) (by decide) dX1_rawByte_64 ?_
        refine lv_aload_n X.1 X.2.1 dX1_rawByte_65 rfl (lv_at hl 0 rfl) ?_
        refine wg (v := .ref (wad w 86 0)) X hT hWσ_14 1 22 86 vl1_0 rfl rfl (by decide) rfl (by decide) in_X1 q1092 rfl dX1_rawByte_66 ?_
        refine lv_iconst (v := oI 0) X.1 X.2.1 dX1_rawByte_69 rfl ?_
        refine wr_V (rV (As := [.int (oI (w32 (4 + x1))), .int (oI (jdv x2 128)), .ref (wad w 86 0), .int (oI 0)]) (rest := []) X hT hWσ_14 hS (met_Blocks_read l (w := w) hV 0 (w32 (4 + x1)) (jdv x2 128) 86 0 0 _ σ_14 (by omega) (w32_r _) (jdv_r _ _) vl86_0 (by decide) rfl rZ_0.i h) (cwV 4 X.2.2.2.2 (lw_V q1624 q1200 q1201 q137 q1202) rfl rfl rfl (by decide +kernel) ⟨Nat.le_of_ble_eq_true rfl, Nat.le_of_ble_eq_true rfl⟩) vl4_0 (by decide) rfl rfl hl.1 rfl (by first | exact Nat.le_of_ble_eq_true rfl | simp [catK, catI, catR, catL]) dX1_rawByte_70 ⟨Nat.le_refl _, Nat.le_refl _⟩) hS (fun σ_16 H locs rkσ_16 h hWσ_16 hS => ?_)
        have h := h rkσ_16
        refine lv_aload_n X.1 X.2.1 dX1_rawByte_73 rfl (lv_at hl 0 rfl) ?_
        refine wg (v := .ref (wad w 86 0)) X hT hWσ_16 1 22 86 vl1_0 rfl rfl (by decide) rfl (by decide) in_X1 q1092 rfl dX1_rawByte_74 ?_
        refine lv_iload_n X.1 X.2.1 dX1_rawByte_77 rfl (lv_at hl 2 rfl) ?_
        refine lv_sipush (v := oI 128) X.1 X.2.1 dX1_rawByte_78 (by decide) ?_
        refine w_irem X rx2 (rI_lit 128 (by decide)) (by decide) dX1_rawByte_81 ?_
        obtain ⟨bi, h⟩ := h
        refine w_bald (n := 128) X hT hWσ_16 86 vl86_0 (by decide) rfl rfl bi dX1_rawByte_82 ?_
        refine lv_sipush (v := oI 255) X.1 X.2.1 dX1_rawByte_83 (by decide) ?_
        refine w_iand X dX1_rawByte_86 ?_
        exact wret_I X hr hlk hWσ_16 hS (iand_r _ _) h dX1_rawByte_87
      · have h := h.2 hc
        refine lv_iconst (v := oI (-1)) X.1 X.2.1 dX1_rawByte_48 rfl ?_
        exact wret_I X hr hlk hWσ_14 hS ((rB_lit (-1) (by decide)).i) h dX1_rawByte_49
    · have h := h.2 hc
      refine lv_bipush (v := oI (-3)) X.1 X.2.1 dX1_rawByte_18 (by decide) ?_
      exact wret_I X hr hlk hWσ_10 hS ((rB_lit (-3) (by decide)).i) h dX1_rawByte_20
  · have h := h.2 hc
    refine lv_bipush (v := oI (-2)) X.1 X.2.1 dX1_rawByte_7 (by decide) ?_
    exact wret_I X hr hlk hW hS ((rB_lit (-2) (by decide)).i) h dX1_rawByte_9
/-! House.rawPages(I)I -/
set_option maxHeartbeats 4000000 in
set_option maxRecDepth 100000 in
theorem met_House_rawPages (l : Launch) {w : Wp} (hV : Hvl w) (x1 : Int) (Q : Int → St → Prop) (σ : St) (rx1 : rI x1) (h : wp_House_rawPages (wc w) (wtv w) x1 Q σ) : Met l yX1_rawPages (ws_ yX1_rawPages cX1_rawPages 2 (some .int)) rm_House_rawPages (PcW w σ [.ref (wad w 1 0), .int (oI x1)]) (QcI w Q) 0 0 (wA w) := by
  refine Met.ofW (cc := cX1_rawPages) (maxL := 2) (ret := (some .int)) (by decide) rfl ?_
  intro p e st m args below meth c s₁ B hml hv
  obtain ⟨hargs, hW, hT⟩ := hv
  have X : CallFix p m c cX1_rawPages 2 st _ lw_all RX1 := ⟨B.exec, B.bytes, hml, findClass_of_methodNamed B.named, fun w h => atoms_spec (ws := ws_ yX1_rawPages cX1_rawPages 2 (some .int)) B.pre w (List.mem_cons_of_mem _ h)⟩
  have hr := B.returns
  have hlk := B.notSynchronized
  have hS : va_S (wA w) st.heap st.heap [] := va_S.rf
  have vl1_0 : vl w 1 0 := hV.hv 1 rfl ⟨by omega, by show _ < (1 : Int); omega⟩
  have vl3_0 : vl w 3 0 := hV.hv 3 rfl ⟨by omega, by show _ < (2 : Int); omega⟩
  have vl4_0 : vl w 4 0 := hV.hv 4 rfl ⟨by omega, by show _ < (2 : Int); omega⟩
  have hl := lv_entry ([.ref (wad w 1 0), .int (oI x1)]) (n := 2) (Nat.le_of_ble_eq_true rfl)
  have hfr := lg_entry_eq m ([.ref (wad w 1 0), .int (oI x1)]) 2
  rw [← hargs] at hfr
  rw [hfr]
  generalize (lg_sl ([.ref (wad w 1 0), .int (oI x1)]) ++ List.replicate (2 - (lg_sl ([.ref (wad w 1 0), .int (oI x1)])).length) Slot.unset).toArray = ls at hl ⊢
  have hl : lv_has ls 2 [(0, .ref (wad w 1 0)), (1, .int (oI x1))] := hl
  unfold wp_House_rawPages at h
  refine lv_aload_n X.1 X.2.1 dX1_rawPages_0 rfl (lv_at hl 0 rfl) ?_
  refine wg (v := .int (oI (gI σ 69 0))) X hT hW 1 5 69 vl1_0 rfl rfl (by decide) rfl (by decide) in_X1 q1075 rfl dX1_rawPages_1 ?_
  refine w_if_ne (tgt := 12) X ((hW.r.z 69 0 rfl).i) dX1_rawPages_4 (by decide) (fun hc => ?_) (fun hc => ?_)
  · have h := h.1 hc
    refine lv_aload_n X.1 X.2.1 dX1_rawPages_12 rfl (lv_at hl 0 rfl) ?_
    refine lv_iload_n X.1 X.2.1 dX1_rawPages_13 rfl (lv_at hl 1 rfl) ?_
    refine wr_Z (rV (As := [.int (oI x1)]) (rest := []) X hT hW hS (met_House_isRaw l (w := w) hV x1 _ σ rx1 h) (cwV 1 X.2.2.2.2 (lw_V q1596 q1598 qs70 q131 q1599) rfl rfl rfl (by decide +kernel) ⟨Nat.le_of_ble_eq_true rfl, Nat.le_of_ble_eq_true rfl⟩) vl1_0 (by decide) rfl rfl hl.1 rfl (by first | exact Nat.le_of_ble_eq_true rfl | simp [catK, catI, catR, catL]) dX1_rawPages_14 ⟨Nat.le_refl _, Nat.le_refl _⟩) hS (fun r_5 σ_6 H locs rr_5 rkσ_6 h hWσ_6 hS => ?_)
    have h := h rr_5 rkσ_6
    refine w_if_eq (tgt := 36) X rr_5.i dX1_rawPages_17 (by decide) (fun hc => ?_) (fun hc => ?_)
    · have h := h.1 hc
      refine lv_bipush (v := oI (-3)) X.1 X.2.1 dX1_rawPages_36 (by decide) ?_
      exact wret_I X hr hlk hWσ_6 hS ((rB_lit (-3) (by decide)).i) h dX1_rawPages_38
    · have h := h.2 hc
      refine lv_aload_n X.1 X.2.1 dX1_rawPages_20 rfl (lv_at hl 0 rfl) ?_
      refine wg (v := .ref (wad w 3 0)) X hT hWσ_6 1 1 65 vl1_0 rfl rfl (by decide) rfl (by decide) in_X1 q1071 rfl dX1_rawPages_21 ?_
      refine wg (v := .ref (wad w 4 0)) X hT hWσ_6 3 0 192 vl3_0 rfl rfl (by decide) rfl (by decide) in_X5 q524 rfl dX1_rawPages_24 ?_
      refine lv_iconst (v := oI 4) X.1 X.2.1 dX1_rawPages_27 rfl ?_
      refine lv_iload_n X.1 X.2.1 dX1_rawPages_28 rfl (lv_at hl 1 rfl) ?_
      refine w_iadd X dX1_rawPages_29 ?_
      refine wr_I (rV (As := [.int (oI (w32 (4 + x1)))]) (rest := []) X hT hWσ_6 hS (met_Blocks_written l (w := w) hV 0 (w32 (4 + x1)) _ σ_6 (by omega) (w32_r _) h) (cwV 1 X.2.2.2.2 (lw_V q1600 q1018 q1019 q137 q1020) rfl rfl rfl (by decide +kernel) ⟨Nat.le_of_ble_eq_true rfl, Nat.le_of_ble_eq_true rfl⟩) vl4_0 (by decide) rfl rfl hl.1 rfl (by first | exact Nat.le_of_ble_eq_true rfl | simp [catK, catI, catR, catL]) dX1_rawPages_30 ⟨Nat.le_refl _, Nat.le_refl _⟩) hS (fun r_7 σ_8 H locs rr_7 rkσ_8 h hWσ_8 hS => ?_)
      have h := h rr_7 rkσ_8
      refine lv_goto (tgt := 38) X.1 X.2.1 dX1_rawPages_33 (by decide) ?_
      exact wret_I X hr hlk hWσ_8 hS rr_7 h dX1_rawPages_38
  · have h := h.2 hc
    refine lv_bipush (v := oI (-2)) X.1 X.2.1 dX1_rawPages_7 (by decide) ?_
    refine lv_goto (tgt := 38) X.1 X.2.1 dX1_rawPages_9 (by decide) ?_
    exact wret_I X hr hlk hW hS ((rB_lit (-2) (by decide)).i) h dX1_rawPages_38
/-! House.sync()I -/
set_option maxHeartbeats 4000000 in
set_option maxRecDepth 100000 in
theorem met_House_sync (l : Launch) {w : Wp} (hV : Hvl w) (Q : Int → St → Prop) (σ : St) (h : wp_House_sync (wc w) (wtv w) Q σ) : Met l yX1_sync (ws_ yX1_sync cX1_sync 2 (some .int)) rm_House_sync (PcW w σ [.ref (wad w 1 0)]) (QcI w Q) 0 0 (wA w) := by
  refine Met.ofW (cc := cX1_sync) (maxL := 2) (ret := (some .int)) (by decide) rfl ?_
  intro p e st m args below meth c s₁ B hml hv
  obtain ⟨hargs, hW, hT⟩ := hv
  have X : CallFix p m c cX1_sync 2 st _ lw_all RX1 := ⟨B.exec, B.bytes, hml, findClass_of_methodNamed B.named, fun w h => atoms_spec (ws := ws_ yX1_sync cX1_sync 2 (some .int)) B.pre w (List.mem_cons_of_mem _ h)⟩
  have hr := B.returns
  have hlk := B.notSynchronized
  have hS : va_S (wA w) st.heap st.heap [] := va_S.rf
  have vl1_0 : vl w 1 0 := hV.hv 1 rfl ⟨by omega, by show _ < (1 : Int); omega⟩
  have vl3_0 : vl w 3 0 := hV.hv 3 rfl ⟨by omega, by show _ < (2 : Int); omega⟩
  have hl := lv_entry ([.ref (wad w 1 0)]) (n := 2) (Nat.le_of_ble_eq_true rfl)
  have hfr := lg_entry_eq m ([.ref (wad w 1 0)]) 2
  rw [← hargs] at hfr
  rw [hfr]
  generalize (lg_sl ([.ref (wad w 1 0)]) ++ List.replicate (2 - (lg_sl ([.ref (wad w 1 0)])).length) Slot.unset).toArray = ls at hl ⊢
  have hl : lv_has ls 2 [(0, .ref (wad w 1 0))] := hl
  unfold wp_House_sync at h
  refine lv_aload_n X.1 X.2.1 dX1_sync_0 rfl (lv_at hl 0 rfl) ?_
  refine wg (v := .int (oI (gI σ 69 0))) X hT hW 1 5 69 vl1_0 rfl rfl (by decide) rfl (by decide) in_X1 q1075 rfl dX1_sync_1 ?_
  refine w_if_ne (tgt := 10) X ((hW.r.z 69 0 rfl).i) dX1_sync_4 (by decide) (fun hc => ?_) (fun hc => ?_)
  · have h := h.1 hc
    refine lv_aload_n X.1 X.2.1 dX1_sync_10 rfl (lv_at hl 0 rfl) ?_
    refine wg (v := .ref (wad w 3 0)) X hT hW 1 1 65 vl1_0 rfl rfl (by decide) rfl (by decide) in_X1 q1071 rfl dX1_sync_11 ?_
    refine wg (v := .int (oI (gI σ 205 0))) X hT hW 3 13 205 vl3_0 rfl rfl (by decide) rfl (by decide) in_X5 q541 rfl dX1_sync_14 ?_
    refine w_top (fun y1_4 ey1_4 => ?_)
    have h := h y1_4 ey1_4
    have ry1_4 : rI y1_4 := by rw [ey1_4]; exact (hW.r.i 205 0 rfl)
    refine lv_istore_n (i := 1) (lv' := [(1, .int (oI y1_4)), (0, .ref (wad w 1 0))]) X.1 X.2.1 dX1_sync_17 rfl hl (by decide) (by first | rfl | simp [catK, catI, catR, catL]) (fun ls hl => ?_)
    refine lv_aload_n X.1 X.2.1 dX1_sync_18 rfl (lv_at hl 1 rfl) ?_
    refine wg (v := .ref (wad w 3 0)) X hT hW 1 1 65 vl1_0 rfl rfl (by decide) rfl (by decide) in_X1 q1071 rfl dX1_sync_19 ?_
    refine wr_V (rV (As := []) (rest := []) X hT hW hS (met_Store_sync l (w := w) hV 0 _ σ (by omega) h) (cwV 0 X.2.2.2.2 (lw_V q1633 q1266 q1267 q136 q1268) rfl rfl rfl (by decide +kernel) ⟨Nat.le_of_ble_eq_true rfl, Nat.le_of_ble_eq_true rfl⟩) vl3_0 (by decide) rfl rfl hl.1 rfl (by first | exact Nat.le_of_ble_eq_true rfl | simp [catK, catI, catR, catL]) dX1_sync_22 ⟨Nat.le_refl _, Nat.le_refl _⟩) hS (fun σ_6 H locs rkσ_6 h hWσ_6 hS => ?_)
    have h := h rkσ_6
    refine lv_iload_n X.1 X.2.1 dX1_sync_25 rfl (lv_at hl 0 rfl) ?_
    exact wret_I X hr hlk hWσ_6 hS ry1_4 h dX1_sync_26
  · have h := h.2 hc
    refine lv_bipush (v := oI (-2)) X.1 X.2.1 dX1_sync_7 (by decide) ?_
    exact wret_I X hr hlk hW hS ((rB_lit (-2) (by decide)).i) h dX1_sync_9
/-! House.waiting()I -/
set_option maxHeartbeats 4000000 in
set_option maxRecDepth 100000 in
theorem met_House_waiting (l : Launch) {w : Wp} (hV : Hvl w) (Q : Int → St → Prop) (σ : St) (h : wp_House_waiting (wc w) (wtv w) Q σ) : Met l yX1_waiting (ws_ yX1_waiting cX1_waiting 1 (some .int)) rm_House_waiting (PcW w σ [.ref (wad w 1 0)]) (QcI w Q) 0 0 (wA w) := by
  refine Met.ofW (cc := cX1_waiting) (maxL := 1) (ret := (some .int)) (by decide) rfl ?_
  intro p e st m args below meth c s₁ B hml hv
  obtain ⟨hargs, hW, hT⟩ := hv
  have X : CallFix p m c cX1_waiting 1 st _ lw_all RX1 := ⟨B.exec, B.bytes, hml, findClass_of_methodNamed B.named, fun w h => atoms_spec (ws := ws_ yX1_waiting cX1_waiting 1 (some .int)) B.pre w (List.mem_cons_of_mem _ h)⟩
  have hr := B.returns
  have hlk := B.notSynchronized
  have hS : va_S (wA w) st.heap st.heap [] := va_S.rf
  have vl1_0 : vl w 1 0 := hV.hv 1 rfl ⟨by omega, by show _ < (1 : Int); omega⟩
  have vl3_0 : vl w 3 0 := hV.hv 3 rfl ⟨by omega, by show _ < (2 : Int); omega⟩
  have hl := lv_entry ([.ref (wad w 1 0)]) (n := 1) (Nat.le_of_ble_eq_true rfl)
  have hfr := lg_entry_eq m ([.ref (wad w 1 0)]) 1
  rw [← hargs] at hfr
  rw [hfr]
  generalize (lg_sl ([.ref (wad w 1 0)]) ++ List.replicate (1 - (lg_sl ([.ref (wad w 1 0)])).length) Slot.unset).toArray = ls at hl ⊢
  have hl : lv_has ls 1 [(0, .ref (wad w 1 0))] := hl
  unfold wp_House_waiting at h
  refine lv_aload_n X.1 X.2.1 dX1_waiting_0 rfl (lv_at hl 0 rfl) ?_
  refine wg (v := .int (oI (gI σ 69 0))) X hT hW 1 5 69 vl1_0 rfl rfl (by decide) rfl (by decide) in_X1 q1075 rfl dX1_waiting_1 ?_
  refine w_if_eq (tgt := 17) X ((hW.r.z 69 0 rfl).i) dX1_waiting_4 (by decide) (fun hc => ?_) (fun hc => ?_)
  · have h := h.1 hc
    refine lv_bipush (v := oI (-2)) X.1 X.2.1 dX1_waiting_17 (by decide) ?_
    exact wret_I X hr hlk hW hS ((rB_lit (-2) (by decide)).i) h dX1_waiting_19
  · have h := h.2 hc
    refine lv_aload_n X.1 X.2.1 dX1_waiting_7 rfl (lv_at hl 0 rfl) ?_
    refine wg (v := .ref (wad w 3 0)) X hT hW 1 1 65 vl1_0 rfl rfl (by decide) rfl (by decide) in_X1 q1071 rfl dX1_waiting_8 ?_
    refine wg (v := .int (oI (gI σ 205 0))) X hT hW 3 13 205 vl3_0 rfl rfl (by decide) rfl (by decide) in_X5 q541 rfl dX1_waiting_11 ?_
    refine lv_goto (tgt := 19) X.1 X.2.1 dX1_waiting_14 (by decide) ?_
    exact wret_I X hr hlk hW hS (hW.r.i 205 0 rfl) h dX1_waiting_19
/-! House.cut()I -/
set_option maxHeartbeats 4000000 in
set_option maxRecDepth 100000 in
theorem met_House_cut (l : Launch) {w : Wp} (hV : Hvl w) (Q : Int → St → Prop) (σ : St) (h : wp_House_cut (wc w) (wtv w) Q σ) : Met l yX1_cut (ws_ yX1_cut cX1_cut 2 (some .int)) rm_House_cut (PcW w σ [.ref (wad w 1 0)]) (QcI w Q) 0 0 (wA w) := by
  refine Met.ofW (cc := cX1_cut) (maxL := 2) (ret := (some .int)) (by decide) rfl ?_
  intro p e st m args below meth c s₁ B hml hv
  obtain ⟨hargs, hW, hT⟩ := hv
  have X : CallFix p m c cX1_cut 2 st _ lw_all RX1 := ⟨B.exec, B.bytes, hml, findClass_of_methodNamed B.named, fun w h => atoms_spec (ws := ws_ yX1_cut cX1_cut 2 (some .int)) B.pre w (List.mem_cons_of_mem _ h)⟩
  have hr := B.returns
  have hlk := B.notSynchronized
  have hS : va_S (wA w) st.heap st.heap [] := va_S.rf
  have vl1_0 : vl w 1 0 := hV.hv 1 rfl ⟨by omega, by show _ < (1 : Int); omega⟩
  have vl3_0 : vl w 3 0 := hV.hv 3 rfl ⟨by omega, by show _ < (2 : Int); omega⟩
  have vl70_0 : vl w 70 0 := hV.hv 70 rfl ⟨by omega, by show _ < (1 : Int); omega⟩
  have hl := lv_entry ([.ref (wad w 1 0)]) (n := 2) (Nat.le_of_ble_eq_true rfl)
  have hfr := lg_entry_eq m ([.ref (wad w 1 0)]) 2
  rw [← hargs] at hfr
  rw [hfr]
  generalize (lg_sl ([.ref (wad w 1 0)]) ++ List.replicate (2 - (lg_sl ([.ref (wad w 1 0)])).length) Slot.unset).toArray = ls at hl ⊢
  have hl : lv_has ls 2 [(0, .ref (wad w 1 0))] := hl
  unfold wp_House_cut at h
  refine lv_aload_n X.1 X.2.1 dX1_cut_0 rfl (lv_at hl 0 rfl) ?_
  refine wg (v := .int (oI (gI σ 69 0))) X hT hW 1 5 69 vl1_0 rfl rfl (by decide) rfl (by decide) in_X1 q1075 rfl dX1_cut_1 ?_
  refine w_if_ne (tgt := 10) X ((hW.r.z 69 0 rfl).i) dX1_cut_4 (by decide) (fun hc => ?_) (fun hc => ?_)
  · have h := h.1 hc
    refine lv_aload_n X.1 X.2.1 dX1_cut_10 rfl (lv_at hl 0 rfl) ?_
    refine wg (v := .ref (wad w 3 0)) X hT hW 1 1 65 vl1_0 rfl rfl (by decide) rfl (by decide) in_X1 q1071 rfl dX1_cut_11 ?_
    refine wg (v := .int (oI (gI σ 205 0))) X hT hW 3 13 205 vl3_0 rfl rfl (by decide) rfl (by decide) in_X5 q541 rfl dX1_cut_14 ?_
    refine w_top (fun y1_8 ey1_8 => ?_)
    have h := h y1_8 ey1_8
    have ry1_8 : rI y1_8 := by rw [ey1_8]; exact (hW.r.i 205 0 rfl)
    refine lv_istore_n (i := 1) (lv' := [(1, .int (oI y1_8)), (0, .ref (wad w 1 0))]) X.1 X.2.1 dX1_cut_17 rfl hl (by decide) (by first | rfl | simp [catK, catI, catR, catL]) (fun ls hl => ?_)
    refine lv_aload_n X.1 X.2.1 dX1_cut_18 rfl (lv_at hl 1 rfl) ?_
    refine wg (v := .ref (wad w 3 0)) X hT hW 1 1 65 vl1_0 rfl rfl (by decide) rfl (by decide) in_X1 q1071 rfl dX1_cut_19 ?_
    refine wr_V (rV (As := []) (rest := []) X hT hW hS (met_Store_lose l (w := w) hV 0 _ σ (by omega) h) (cwV 0 X.2.2.2.2 (lw_V q1642 q1643 q1644 q136 q1645) rfl rfl rfl (by decide +kernel) ⟨Nat.le_of_ble_eq_true rfl, Nat.le_of_ble_eq_true rfl⟩) vl3_0 (by decide) rfl rfl hl.1 rfl (by first | exact Nat.le_of_ble_eq_true rfl | simp [catK, catI, catR, catL]) dX1_cut_22 ⟨Nat.le_refl _, Nat.le_refl _⟩) hS (fun σ_10 H locs rkσ_10 h hWσ_10 hS => ?_)
    have h := h rkσ_10
    refine lv_aload_n X.1 X.2.1 dX1_cut_25 rfl (lv_at hl 1 rfl) ?_
    refine wg (v := .ref (wad w 70 0)) X hT hWσ_10 1 6 70 vl1_0 rfl rfl (by decide) rfl (by decide) in_X1 q1076 rfl dX1_cut_26 ?_
    refine lv_iconst (v := oI 0) X.1 X.2.1 dX1_cut_29 rfl ?_
    refine wr_V (rS (As := [.ref (wad w 70 0), .int (oI 0)]) (rest := []) X hT hWσ_10 hS (met_Arrays_fill_2 l (w := w) 70 0 0 _ σ_10 vl70_0 (by decide) rfl rZ_0.i h) (va_cwS 2 X.2.2.2.2 (lw_S q1650 q653 q135 q654) rfl rfl rfl (by decide +kernel) ⟨Nat.le_of_ble_eq_true rfl, Nat.le_of_ble_eq_true rfl⟩) rfl hl.1 rfl (by first | exact Nat.le_of_ble_eq_true rfl | simp [catK, catI, catR, catL]) dX1_cut_30 ⟨Nat.le_refl _, Nat.le_refl _⟩) hS (fun σ_12 H locs rkσ_12 h hWσ_12 hS => ?_)
    have h := h rkσ_12
    refine lv_aload_n X.1 X.2.1 dX1_cut_33 rfl (lv_at hl 1 rfl) ?_
    refine lv_iconst (v := oI 0) X.1 X.2.1 dX1_cut_34 rfl ?_
    refine wput (z := 0) X hT hWσ_12 hS 1 24 88 vl1_0 rfl rfl (by decide) rfl (by decide) in_X1 tyX1 tyX1_ok nmX1 q1094 rfl rfl rZ_0.i (fv0 w rfl) rfl rfl dX1_cut_35 (fun H locs hN hS => ?_)
    obtain ⟨σ_13, eσ_13⟩ : ∃ x, x = sI σ_12 88 0 0 := ⟨_, rfl⟩
    have hWσ_13 : Wo w σ_13 H := eσ_13 ▸ hN
    have h := h σ_13 eσ_13
    clear hN
    refine lv_aload_n X.1 X.2.1 dX1_cut_38 rfl (lv_at hl 1 rfl) ?_
    refine lv_iconst (v := oI 0) X.1 X.2.1 dX1_cut_39 rfl ?_
    refine wput (z := 0) X hT hWσ_13 hS 1 5 69 vl1_0 rfl rfl (by decide) rfl (by decide) in_X1 tyX1 tyX1_ok nmX1 q1075 rfl rfl rZ_0 (fv3 w rfl) (nrZ rZ_0) (ftZ rZ_0) dX1_cut_40 (fun H locs hN hS => ?_)
    obtain ⟨σ_14, eσ_14⟩ : ∃ x, x = sI σ_13 69 0 0 := ⟨_, rfl⟩
    have hWσ_14 : Wo w σ_14 H := eσ_14 ▸ hN
    have h := h σ_14 eσ_14
    clear hN
    refine lv_iload_n X.1 X.2.1 dX1_cut_43 rfl (lv_at hl 0 rfl) ?_
    exact wret_I X hr hlk hWσ_14 hS ry1_8 h dX1_cut_44
  · have h := h.2 hc
    refine lv_bipush (v := oI (-2)) X.1 X.2.1 dX1_cut_7 (by decide) ?_
    exact wret_I X hr hlk hW hS ((rB_lit (-2) (by decide)).i) h dX1_cut_9
/-! House.on()I -/
set_option maxHeartbeats 4000000 in
set_option maxRecDepth 100000 in
theorem wk_House_on_L31B {p : Program} {l : Launch} {e : Env} {st : State} {m : MethodId} {args : Array Value} {below : List Frame} {meth : Method} {c : Code} {w : Wp} {Q : Int → St → Prop} (X : CallFix p m c cX1_on 3 st args lw_all RX1) (hr : meth.sig.returnType = (some .int)) (hlk : meth.locks = false) (hT : Tb w st) (hV : Hvl w) (K31 : Int → Int → St → Prop) (hK31 : ∀ (y1 y2 : Int) (σ : St) (H : Heap) (locs : List Loc) (ls : Array Slot), rI y1 → rI y2 → lv_has ls 3 [(0, .ref (wad w 1 0)), (1, .int (oI y1)), (2, .int (oI y2))] → Wo w σ H → va_S (wA w) st.heap H locs → K31 y1 y2 σ → W p l e (headSpec (ws_ yX1_on cX1_on 3 (some .int)) rm_House_on).room st m args below meth c H locs 0 0 (MQ below (QcI w Q) args st 0 0 (wA w)) (F0 m 31 ls [])) : ∀ (y1 y2 : Int) (σ : St) (H : Heap) (locs : List Loc) (ls : Array Slot), rI y1 → rI y2 → lv_has ls 3 [(0, .ref (wad w 1 0)), (1, .int (oI y1)), (2, .int (oI y2))] → Wo w σ H → va_S (wA w) st.heap H locs → wp_House_on_L31 (wc w) (wtv w) Q K31 y1 y2 σ → W p l e (headSpec (ws_ yX1_on cX1_on 3 (some .int)) rm_House_on).room st m args below meth c H locs 0 0 (MQ below (QcI w Q) args st 0 0 (wA w)) (F0 m 31 ls []) := by
  have vl1_0 : vl w 1 0 := hV.hv 1 rfl ⟨by omega, by show _ < (1 : Int); omega⟩
  have vl217_0 : vl w 217 0 := hV.hv 217 rfl ⟨by omega, by show _ < (2 : Int); omega⟩
  have vl3_0 : vl w 3 0 := hV.hv 3 rfl ⟨by omega, by show _ < (2 : Int); omega⟩
  intro y1 y2 σ H locs ls ry1 ry2 hl hW hS h
  unfold wp_House_on_L31 at h
  refine lv_iload_n X.1 X.2.1 dX1_on_31 rfl (lv_at hl 2 rfl) ?_
  refine lv_iload_n X.1 X.2.1 dX1_on_32 rfl (lv_at hl 1 rfl) ?_
  refine w_icmp_ge (tgt := 58) X ry2 ry1 dX1_on_33 (by decide) (fun hc => ?_) (fun hc => ?_)
  · have h := h.1 hc
    refine lv_aload_n X.1 X.2.1 dX1_on_58 rfl (lv_at hl 0 rfl) ?_
    refine wg (v := .ref (wad w 3 0)) X hT hW 1 1 65 vl1_0 rfl rfl (by decide) rfl (by decide) in_X1 q1071 rfl dX1_on_59 ?_
    refine lv_iconst (v := oI 0) X.1 X.2.1 dX1_on_62 rfl ?_
    refine wput (z := 0) X hT hW hS 3 26 218 vl3_0 rfl rfl (by decide) rfl (by decide) in_X5 tyX5 tyX5_ok nmX5 q558 rfl rfl rZ_0.i (fv0 w rfl) rfl rfl dX1_on_63 (fun H locs hN hS => ?_)
    obtain ⟨σ_25, eσ_25⟩ : ∃ x, x = sI σ 218 0 0 := ⟨_, rfl⟩
    have hWσ_25 : Wo w σ_25 H := eσ_25 ▸ hN
    have h := h σ_25 eσ_25
    clear hN
    refine lv_aload_n X.1 X.2.1 dX1_on_66 rfl (lv_at hl 0 rfl) ?_
    refine wg (v := .ref (wad w 3 0)) X hT hWσ_25 1 1 65 vl1_0 rfl rfl (by decide) rfl (by decide) in_X1 q1071 rfl dX1_on_67 ?_
    refine wr_V (rV (As := []) (rest := []) X hT hWσ_25 hS (met_Store_settle l (w := w) hV 0 _ σ_25 (by omega) h) (cwV 0 X.2.2.2.2 (lw_V q1724 q1725 q1726 q136 q1727) rfl rfl rfl (by decide +kernel) ⟨Nat.le_of_ble_eq_true rfl, Nat.le_of_ble_eq_true rfl⟩) vl3_0 (by decide) rfl rfl hl.1 rfl (by first | exact Nat.le_of_ble_eq_true rfl | simp [catK, catI, catR, catL]) dX1_on_70 ⟨Nat.le_refl _, Nat.le_refl _⟩) hS (fun σ_27 H locs rkσ_27 h hWσ_27 hS => ?_)
    have h := h rkσ_27
    refine lv_aload_n X.1 X.2.1 dX1_on_73 rfl (lv_at hl 0 rfl) ?_
    refine wr_V (rV (As := []) (rest := []) X hT hWσ_27 hS (met_House_count l (w := w) hV _ σ_27 h) (cwV 0 X.2.2.2.2 (lw_V q1060 q1062 qs29 q131 q1063) rfl rfl rfl (by decide +kernel) ⟨Nat.le_of_ble_eq_true rfl, Nat.le_of_ble_eq_true rfl⟩) vl1_0 (by decide) rfl rfl hl.1 rfl (by first | exact Nat.le_of_ble_eq_true rfl | simp [catK, catI, catR, catL]) dX1_on_74 ⟨Nat.le_refl _, Nat.le_refl _⟩) hS (fun σ_29 H locs rkσ_29 h hWσ_29 hS => ?_)
    have h := h rkσ_29
    refine lv_iload_n X.1 X.2.1 dX1_on_77 rfl (lv_at hl 1 rfl) ?_
    exact wret_I X hr hlk hWσ_29 hS ry1 h dX1_on_78
  · have h := h.2 hc
    refine lv_aload_n X.1 X.2.1 dX1_on_36 rfl (lv_at hl 0 rfl) ?_
    refine wg (v := .ref (wad w 3 0)) X hT hW 1 1 65 vl1_0 rfl rfl (by decide) rfl (by decide) in_X1 q1071 rfl dX1_on_37 ?_
    refine lv_aload_n X.1 X.2.1 dX1_on_40 rfl (lv_at hl 0 rfl) ?_
    refine wg (v := .ref (wad w 3 0)) X hT hW 1 1 65 vl1_0 rfl rfl (by decide) rfl (by decide) in_X1 q1071 rfl dX1_on_41 ?_
    refine wg (v := .ref (wad w 217 0)) X hT hW 3 25 217 vl3_0 rfl rfl (by decide) rfl (by decide) in_X5 q556 rfl dX1_on_44 ?_
    refine lv_iload_n X.1 X.2.1 dX1_on_47 rfl (lv_at hl 2 rfl) ?_
    obtain ⟨bi, h⟩ := h
    refine w_iald (n := 16) X hT hW 217 vl217_0 (by decide) rfl rfl bi dX1_on_48 ?_
    refine wr_V (rV (As := [.int (oI (gA σ 217 0 y2))]) (rest := []) X hT hW hS (met_Store_forget l (w := w) hV 0 (gA σ 217 0 y2) _ σ (by omega) (hW.r.ai 217 0 y2 rfl) h) (cwV 1 X.2.2.2.2 (lw_V q1723 q1381 q1382 q136 q1383) rfl rfl rfl (by decide +kernel) ⟨Nat.le_of_ble_eq_true rfl, Nat.le_of_ble_eq_true rfl⟩) vl3_0 (by decide) rfl rfl hl.1 rfl (by first | exact Nat.le_of_ble_eq_true rfl | simp [catK, catI, catR, catL]) dX1_on_49 ⟨Nat.le_refl _, Nat.le_refl _⟩) hS (fun σ_31 H locs rkσ_31 h hWσ_31 hS => ?_)
    have h := h rkσ_31
    obtain ⟨y2_32, ey2_32⟩ : ∃ y : Int, y = w32 (y2 + 1) := ⟨_, rfl⟩
    have h := h y2_32 ey2_32
    have ry2_32 : rI y2_32 := by rw [ey2_32]; exact w32_r _
    refine lv_iinc (v := oI y2_32) (lv' := [(2, .int (oI y2_32)), (0, .ref (wad w 1 0)), (1, .int (oI y1))]) X.1 X.2.1 dX1_on_52 hl (k := 2) rfl (by rw [ey2_32]; exact oI_add _ _) (by decide) (by first | rfl | simp [catK, catI, catR, catL]) (fun ls hl => ?_)
    refine lv_goto (tgt := 31) X.1 X.2.1 dX1_on_55 (by decide) ?_
    exact hK31 y1 y2_32 σ_31 _ _ _ ry1 ry2_32 (lv_sub hl [1, 2, 0] rfl) hWσ_31 hS h
theorem wk_House_on_L31 {p : Program} {l : Launch} {e : Env} {st : State} {m : MethodId} {args : Array Value} {below : List Frame} {meth : Method} {c : Code} {w : Wp} {Q : Int → St → Prop} (X : CallFix p m c cX1_on 3 st args lw_all RX1) (hr : meth.sig.returnType = (some .int)) (hlk : meth.locks = false) (hT : Tb w st) (hV : Hvl w) : ∀ (y1 y2 : Int) (σ : St) (H : Heap) (locs : List Loc) (ls : Array Slot), rI y1 → rI y2 → lv_has ls 3 [(0, .ref (wad w 1 0)), (1, .int (oI y1)), (2, .int (oI y2))] → Wo w σ H → va_S (wA w) st.heap H locs → lQ2 (wp_House_on_L31 (wc w) (wtv w) Q) y1 y2 σ → W p l e (headSpec (ws_ yX1_on cX1_on 3 (some .int)) rm_House_on).room st m args below meth c H locs 0 0 (MQ below (QcI w Q) args st 0 0 (wA w)) (F0 m 31 ls []) := by
  intro y1 y2 σ H locs ls ry1 ry2 hl hW hS h
  obtain ⟨fu, h⟩ := h
  induction fu generalizing y1 y2 σ H locs ls with
  | zero => exact h.elim
  | succ fu ih =>
    exact wk_House_on_L31B X hr hlk hT hV (lq2 (wp_House_on_L31 (wc w) (wtv w) Q) fu) (fun y1 y2 σ H locs ls ry1 ry2 hl hW hS h => ih y1 y2 σ H locs ls ry1 ry2 hl hW hS h) y1 y2 σ H locs ls ry1 ry2 hl hW hS h
set_option maxHeartbeats 4000000 in
set_option maxRecDepth 100000 in
theorem met_House_on (l : Launch) {w : Wp} (hV : Hvl w) (Q : Int → St → Prop) (σ : St) (h : wp_House_on (wc w) (wtv w) Q σ) : Met l yX1_on (ws_ yX1_on cX1_on 3 (some .int)) rm_House_on (PcW w σ [.ref (wad w 1 0)]) (QcI w Q) 0 0 (wA w) := by
  refine Met.ofW (cc := cX1_on) (maxL := 3) (ret := (some .int)) (by decide) rfl ?_
  intro p e st m args below meth c s₁ B hml hv
  obtain ⟨hargs, hW, hT⟩ := hv
  have X : CallFix p m c cX1_on 3 st _ lw_all RX1 := ⟨B.exec, B.bytes, hml, findClass_of_methodNamed B.named, fun w h => atoms_spec (ws := ws_ yX1_on cX1_on 3 (some .int)) B.pre w (List.mem_cons_of_mem _ h)⟩
  have hr := B.returns
  have hlk := B.notSynchronized
  have hS : va_S (wA w) st.heap st.heap [] := va_S.rf
  have vl1_0 : vl w 1 0 := hV.hv 1 rfl ⟨by omega, by show _ < (1 : Int); omega⟩
  have vl3_0 : vl w 3 0 := hV.hv 3 rfl ⟨by omega, by show _ < (2 : Int); omega⟩
  have hl := lv_entry ([.ref (wad w 1 0)]) (n := 3) (Nat.le_of_ble_eq_true rfl)
  have hfr := lg_entry_eq m ([.ref (wad w 1 0)]) 3
  rw [← hargs] at hfr
  rw [hfr]
  generalize (lg_sl ([.ref (wad w 1 0)]) ++ List.replicate (3 - (lg_sl ([.ref (wad w 1 0)])).length) Slot.unset).toArray = ls at hl ⊢
  have hl : lv_has ls 3 [(0, .ref (wad w 1 0))] := hl
  unfold wp_House_on at h
  refine lv_aload_n X.1 X.2.1 dX1_on_0 rfl (lv_at hl 0 rfl) ?_
  refine wg (v := .int (oI (gI σ 69 0))) X hT hW 1 5 69 vl1_0 rfl rfl (by decide) rfl (by decide) in_X1 q1075 rfl dX1_on_1 ?_
  refine w_if_eq (tgt := 9) X ((hW.r.z 69 0 rfl).i) dX1_on_4 (by decide) (fun hc => ?_) (fun hc => ?_)
  · have h := h.1 hc
    refine lv_aload_n X.1 X.2.1 dX1_on_9 rfl (lv_at hl 0 rfl) ?_
    refine lv_iconst (v := oI 1) X.1 X.2.1 dX1_on_10 rfl ?_
    refine wput (z := 1) X hT hW hS 1 5 69 vl1_0 rfl rfl (by decide) rfl (by decide) in_X1 tyX1 tyX1_ok nmX1 q1075 rfl rfl rZ_1 (fv3 w rfl) (nrZ rZ_1) (ftZ rZ_1) dX1_on_11 (fun H locs hN hS => ?_)
    obtain ⟨σ_33, eσ_33⟩ : ∃ x, x = sI σ 69 0 1 := ⟨_, rfl⟩
    have hWσ_33 : Wo w σ_33 H := eσ_33 ▸ hN
    have h := h σ_33 eσ_33
    clear hN
    refine lv_aload_n X.1 X.2.1 dX1_on_14 rfl (lv_at hl 0 rfl) ?_
    refine wg (v := .ref (wad w 3 0)) X hT hWσ_33 1 1 65 vl1_0 rfl rfl (by decide) rfl (by decide) in_X1 q1071 rfl dX1_on_15 ?_
    refine wr_V (rV (As := []) (rest := []) X hT hWσ_33 hS (met_Store_find l (w := w) hV 0 _ σ_33 (by omega) h) (cwV 0 X.2.2.2.2 (lw_V q1655 q1656 q1657 q136 q1658) rfl rfl rfl (by decide +kernel) ⟨Nat.le_of_ble_eq_true rfl, Nat.le_of_ble_eq_true rfl⟩) vl3_0 (by decide) rfl rfl hl.1 rfl (by first | exact Nat.le_of_ble_eq_true rfl | simp [catK, catI, catR, catL]) dX1_on_18 ⟨Nat.le_refl _, Nat.le_refl _⟩) hS (fun σ_35 H locs rkσ_35 h hWσ_35 hS => ?_)
    have h := h rkσ_35
    refine lv_aload_n X.1 X.2.1 dX1_on_21 rfl (lv_at hl 0 rfl) ?_
    refine wg (v := .ref (wad w 3 0)) X hT hWσ_35 1 1 65 vl1_0 rfl rfl (by decide) rfl (by decide) in_X1 q1071 rfl dX1_on_22 ?_
    refine wg (v := .int (oI (gI σ_35 218 0))) X hT hWσ_35 3 26 218 vl3_0 rfl rfl (by decide) rfl (by decide) in_X5 q558 rfl dX1_on_25 ?_
    refine w_top (fun y1_36 ey1_36 => ?_)
    have h := h y1_36 ey1_36
    have ry1_36 : rI y1_36 := by rw [ey1_36]; exact (hWσ_35.r.i 218 0 rfl)
    refine lv_istore_n (i := 1) (lv' := [(1, .int (oI y1_36)), (0, .ref (wad w 1 0))]) X.1 X.2.1 dX1_on_28 rfl hl (by decide) (by first | rfl | simp [catK, catI, catR, catL]) (fun ls hl => ?_)
    refine lv_iconst (v := oI 0) X.1 X.2.1 dX1_on_29 rfl ?_
    refine lv_istore_n (i := 2) (lv' := [(2, .int (oI 0)), (1, .int (oI y1_36)), (0, .ref (wad w 1 0))]) X.1 X.2.1 dX1_on_30 rfl hl (by decide) (by first | rfl | simp [catK, catI, catR, catL]) (fun ls hl => ?_)
    exact wk_House_on_L31 X hr hlk hT hV y1_36 0 σ_35 _ _ _ ry1_36 rZ_0.i (lv_sub hl [2, 1, 0] rfl) hWσ_35 hS h
  · have h := h.2 hc
    refine lv_iconst (v := oI (-1)) X.1 X.2.1 dX1_on_7 rfl ?_
    exact wret_I X hr hlk hW hS ((rB_lit (-1) (by decide)).i) h dX1_on_8
/-! House.work()V -/
set_option maxHeartbeats 4000000 in
set_option maxRecDepth 100000 in
theorem met_House_work (l : Launch) {w : Wp} (hV : Hvl w) (Q : St → Prop) (σ : St) (h : wp_House_work (wc w) (wtv w) Q σ) : Met l yX1_work (ws_ yX1_work cX1_work 1 none) rm_House_work (PcW w σ [.ref (wad w 1 0)]) (QcV w Q) 0 0 (wA w) := by
  refine Met.ofW (cc := cX1_work) (maxL := 1) (ret := none) (by decide) rfl ?_
  intro p e st m args below meth c s₁ B hml hv
  obtain ⟨hargs, hW, hT⟩ := hv
  have X : CallFix p m c cX1_work 1 st _ lw_all RX1 := ⟨B.exec, B.bytes, hml, findClass_of_methodNamed B.named, fun w h => atoms_spec (ws := ws_ yX1_work cX1_work 1 none) B.pre w (List.mem_cons_of_mem _ h)⟩
  have hr := B.returns
  have hlk := B.notSynchronized
  have hS : va_S (wA w) st.heap st.heap [] := va_S.rf
  have vl1_0 : vl w 1 0 := hV.hv 1 rfl ⟨by omega, by show _ < (1 : Int); omega⟩
  have vl3_0 : vl w 3 0 := hV.hv 3 rfl ⟨by omega, by show _ < (2 : Int); omega⟩
  have hl := lv_entry ([.ref (wad w 1 0)]) (n := 1) (Nat.le_of_ble_eq_true rfl)
  have hfr := lg_entry_eq m ([.ref (wad w 1 0)]) 1
  rw [← hargs] at hfr
  rw [hfr]
  generalize (lg_sl ([.ref (wad w 1 0)]) ++ List.replicate (1 - (lg_sl ([.ref (wad w 1 0)])).length) Slot.unset).toArray = ls at hl ⊢
  have hl : lv_has ls 1 [(0, .ref (wad w 1 0))] := hl
  unfold wp_House_work at h
  refine lv_aload_n X.1 X.2.1 dX1_work_0 rfl (lv_at hl 0 rfl) ?_
  refine wg (v := .int (oI (gI σ 69 0))) X hT hW 1 5 69 vl1_0 rfl rfl (by decide) rfl (by decide) in_X1 q1075 rfl dX1_work_1 ?_
  refine w_if_eq (tgt := 14) X ((hW.r.z 69 0 rfl).i) dX1_work_4 (by decide) (fun hc => ?_) (fun hc => ?_)
  · have h := h.1 hc
    exact wret_V X hr hlk hW hS h dX1_work_14
  · have h := h.2 hc
    refine lv_aload_n X.1 X.2.1 dX1_work_7 rfl (lv_at hl 0 rfl) ?_
    refine wg (v := .ref (wad w 3 0)) X hT hW 1 1 65 vl1_0 rfl rfl (by decide) rfl (by decide) in_X1 q1071 rfl dX1_work_8 ?_
    refine wr_V (rV (As := []) (rest := []) X hT hW hS (met_Store_work l (w := w) hV 0 _ σ (by omega) h) (cwV 0 X.2.2.2.2 (lw_V q1733 q1734 q1735 q136 q1736) rfl rfl rfl (by decide +kernel) ⟨Nat.le_of_ble_eq_true rfl, Nat.le_of_ble_eq_true rfl⟩) vl3_0 (by decide) rfl rfl hl.1 rfl (by first | exact Nat.le_of_ble_eq_true rfl | simp [catK, catI, catR, catL]) dX1_work_11 ⟨Nat.le_refl _, Nat.le_refl _⟩) hS (fun σ_4 H locs rkσ_4 h hWσ_4 hS => ?_)
    have h := h rkσ_4
    exact wret_V X hr hlk hWσ_4 hS h dX1_work_14
/-! House.fail(I)Z -/
set_option maxHeartbeats 4000000 in
set_option maxRecDepth 100000 in
theorem met_House_fail (l : Launch) {w : Wp} (hV : Hvl w) (x1 : Int) (Q : Int → St → Prop) (σ : St) (rx1 : rI x1) (h : wp_House_fail (wc w) (wtv w) x1 Q σ) : Met l yX1_fail (ws_ yX1_fail cX1_fail 2 (some .boolean)) rm_House_fail (PcW w σ [.ref (wad w 1 0), .int (oI x1)]) (QcZ w Q) 0 0 (wA w) := by
  refine Met.ofW (cc := cX1_fail) (maxL := 2) (ret := (some .boolean)) (by decide) rfl ?_
  intro p e st m args below meth c s₁ B hml hv
  obtain ⟨hargs, hW, hT⟩ := hv
  have X : CallFix p m c cX1_fail 2 st _ lw_all RX1 := ⟨B.exec, B.bytes, hml, findClass_of_methodNamed B.named, fun w h => atoms_spec (ws := ws_ yX1_fail cX1_fail 2 (some .boolean)) B.pre w (List.mem_cons_of_mem _ h)⟩
  have hr := B.returns
  have hlk := B.notSynchronized
  have hS : va_S (wA w) st.heap st.heap [] := va_S.rf
  have vl1_0 : vl w 1 0 := hV.hv 1 rfl ⟨by omega, by show _ < (1 : Int); omega⟩
  have vl2_0 : vl w 2 0 := hV.hv 2 rfl ⟨by omega, by show _ < (1 : Int); omega⟩
  have hl := lv_entry ([.ref (wad w 1 0), .int (oI x1)]) (n := 2) (Nat.le_of_ble_eq_true rfl)
  have hfr := lg_entry_eq m ([.ref (wad w 1 0), .int (oI x1)]) 2
  rw [← hargs] at hfr
  rw [hfr]
  generalize (lg_sl ([.ref (wad w 1 0), .int (oI x1)]) ++ List.replicate (2 - (lg_sl ([.ref (wad w 1 0), .int (oI x1)])).length) Slot.unset).toArray = ls at hl ⊢
  have hl : lv_has ls 2 [(0, .ref (wad w 1 0)), (1, .int (oI x1))] := hl
  unfold wp_House_fail at h
  refine lv_aload_n X.1 X.2.1 dX1_fail_0 rfl (lv_at hl 0 rfl) ?_
  refine wg (v := .int (oI (gI σ 69 0))) X hT hW 1 5 69 vl1_0 rfl rfl (by decide) rfl (by decide) in_X1 q1075 rfl dX1_fail_1 ?_
  refine w_if_eq (tgt := 26) X ((hW.r.z 69 0 rfl).i) dX1_fail_4 (by decide) (fun hc => ?_) (fun hc => ?_)
  · have h := h.1 hc
    refine lv_iconst (v := oI 0) X.1 X.2.1 dX1_fail_26 rfl ?_
    exact wret_Z X hr hlk hW hS rZ_0 h dX1_fail_27
  · have h := h.2 hc
    refine lv_iload_n X.1 X.2.1 dX1_fail_7 rfl (lv_at hl 1 rfl) ?_
    refine lv_iconst (v := oI 1) X.1 X.2.1 dX1_fail_8 rfl ?_
    refine lv_sipush (v := oI 1000) X.1 X.2.1 dX1_fail_9 (by decide) ?_
    refine wr_Z (rS (As := [.int (oI x1), .int (oI 1), .int (oI 1000)]) (rest := []) X hT hW hS (met_House_isIn l (w := w) x1 1 1000 _ σ rx1 rZ_1.i (rI_lit 1000 (by decide)) h) (va_cwS 3 X.2.2.2.2 (lw_S q208 q209 q131 q210) rfl rfl rfl (by decide +kernel) ⟨Nat.le_of_ble_eq_true rfl, Nat.le_of_ble_eq_true rfl⟩) rfl hl.1 rfl (by first | exact Nat.le_of_ble_eq_true rfl | simp [catK, catI, catR, catL]) dX1_fail_12 ⟨Nat.le_refl _, Nat.le_refl _⟩) hS (fun r_6 σ_7 H locs rr_6 rkσ_7 h hWσ_7 hS => ?_)
    have h := h rr_6 rkσ_7
    refine w_if_eq (tgt := 26) X rr_6.i dX1_fail_15 (by decide) (fun hc => ?_) (fun hc => ?_)
    · have h := h.1 hc
      refine lv_iconst (v := oI 0) X.1 X.2.1 dX1_fail_26 rfl ?_
      exact wret_Z X hr hlk hWσ_7 hS rZ_0 h dX1_fail_27
    · have h := h.2 hc
      refine lv_aload_n X.1 X.2.1 dX1_fail_18 rfl (lv_at hl 0 rfl) ?_
      refine wg (v := .int (oI (gI σ_7 73 0))) X hT hWσ_7 1 9 73 vl1_0 rfl rfl (by decide) rfl (by decide) in_X1 q1079 rfl dX1_fail_19 ?_
      refine lv_iconst (v := oI 4) X.1 X.2.1 dX1_fail_22 rfl ?_
      refine w_icmp_ne (tgt := 28) X (hWσ_7.r.i 73 0 rfl) ((rB_lit 4 (by decide)).i) dX1_fail_23 (by decide) (fun hc => ?_) (fun hc => ?_)
      · have h := h.1 hc
        refine lv_aload_n X.1 X.2.1 dX1_fail_28 rfl (lv_at hl 0 rfl) ?_
        refine lv_dup X.1 X.2.1 dX1_fail_29 rfl ?_
        refine wg (v := .int (oI (gI σ_7 73 0))) X hT hWσ_7 1 9 73 vl1_0 rfl rfl (by decide) rfl (by decide) in_X1 q1079 rfl dX1_fail_30 ?_
        refine lv_iconst (v := oI 1) X.1 X.2.1 dX1_fail_33 rfl ?_
        refine w_iadd X dX1_fail_34 ?_
        refine wput (z := w32 ((gI σ_7 73 0) + 1)) X hT hWσ_7 hS 1 9 73 vl1_0 rfl rfl (by decide) rfl (by decide) in_X1 tyX1 tyX1_ok nmX1 q1079 rfl rfl (w32_r _) (fv0 w rfl) rfl rfl dX1_fail_35 (fun H locs hN hS => ?_)
        obtain ⟨σ_8, eσ_8⟩ : ∃ x, x = sI σ_7 73 0 (w32 ((gI σ_7 73 0) + 1)) := ⟨_, rfl⟩
        have hWσ_8 : Wo w σ_8 H := eσ_8 ▸ hN
        have h := h σ_8 eσ_8
        clear hN
        refine lv_aload_n X.1 X.2.1 dX1_fail_38 rfl (lv_at hl 0 rfl) ?_
        refine wg (v := .ref (wad w 2 0)) X hT hWσ_8 1 0 64 vl1_0 rfl rfl (by decide) rfl (by decide) in_X1 q1070 rfl dX1_fail_39 ?_
        refine lv_iload_n X.1 X.2.1 dX1_fail_42 rfl (lv_at hl 1 rfl) ?_
        refine wr_V (rV (As := [.int (oI x1)]) (rest := []) X hT hWσ_8 hS (met_Flash_failIn l (w := w) hV x1 _ σ_8 rx1 h) (cwV 1 X.2.2.2.2 (lw_V q1774 q1775 q1776 q134 q1777) rfl rfl rfl (by decide +kernel) ⟨Nat.le_of_ble_eq_true rfl, Nat.le_of_ble_eq_true rfl⟩) vl2_0 (by decide) rfl rfl hl.1 rfl (by first | exact Nat.le_of_ble_eq_true rfl | simp [catK, catI, catR, catL]) dX1_fail_43 ⟨Nat.le_refl _, Nat.le_refl _⟩) hS (fun σ_10 H locs rkσ_10 h hWσ_10 hS => ?_)
        have h := h rkσ_10
        refine lv_iconst (v := oI 1) X.1 X.2.1 dX1_fail_46 rfl ?_
        exact wret_Z X hr hlk hWσ_10 hS rZ_1 h dX1_fail_47
      · have h := h.2 hc
        refine lv_iconst (v := oI 0) X.1 X.2.1 dX1_fail_26 rfl ?_
        exact wret_Z X hr hlk hWσ_7 hS rZ_0 h dX1_fail_27
/-! House.flip(I)Z -/
set_option maxHeartbeats 4000000 in
set_option maxRecDepth 100000 in
theorem met_House_flip (l : Launch) {w : Wp} (hV : Hvl w) (x1 : Int) (Q : Int → St → Prop) (σ : St) (rx1 : rI x1) (h : wp_House_flip (wc w) (wtv w) x1 Q σ) : Met l yX1_flip (ws_ yX1_flip cX1_flip 2 (some .boolean)) rm_House_flip (PcW w σ [.ref (wad w 1 0), .int (oI x1)]) (QcZ w Q) 0 0 (wA w) := by
  refine Met.ofW (cc := cX1_flip) (maxL := 2) (ret := (some .boolean)) (by decide) rfl ?_
  intro p e st m args below meth c s₁ B hml hv
  obtain ⟨hargs, hW, hT⟩ := hv
  have X : CallFix p m c cX1_flip 2 st _ lw_all RX1 := ⟨B.exec, B.bytes, hml, findClass_of_methodNamed B.named, fun w h => atoms_spec (ws := ws_ yX1_flip cX1_flip 2 (some .boolean)) B.pre w (List.mem_cons_of_mem _ h)⟩
  have hr := B.returns
  have hlk := B.notSynchronized
  have hS : va_S (wA w) st.heap st.heap [] := va_S.rf
  have vl1_0 : vl w 1 0 := hV.hv 1 rfl ⟨by omega, by show _ < (1 : Int); omega⟩
  have vl2_0 : vl w 2 0 := hV.hv 2 rfl ⟨by omega, by show _ < (1 : Int); omega⟩
  have hl := lv_entry ([.ref (wad w 1 0), .int (oI x1)]) (n := 2) (Nat.le_of_ble_eq_true rfl)
  have hfr := lg_entry_eq m ([.ref (wad w 1 0), .int (oI x1)]) 2
  rw [← hargs] at hfr
  rw [hfr]
  generalize (lg_sl ([.ref (wad w 1 0), .int (oI x1)]) ++ List.replicate (2 - (lg_sl ([.ref (wad w 1 0), .int (oI x1)])).length) Slot.unset).toArray = ls at hl ⊢
  have hl : lv_has ls 2 [(0, .ref (wad w 1 0)), (1, .int (oI x1))] := hl
  unfold wp_House_flip at h
  refine lv_aload_n X.1 X.2.1 dX1_flip_0 rfl (lv_at hl 0 rfl) ?_
  refine wg (v := .int (oI (gI σ 69 0))) X hT hW 1 5 69 vl1_0 rfl rfl (by decide) rfl (by decide) in_X1 q1075 rfl dX1_flip_1 ?_
  refine w_if_eq (tgt := 21) X ((hW.r.z 69 0 rfl).i) dX1_flip_4 (by decide) (fun hc => ?_) (fun hc => ?_)
  · have h := h.1 hc
    refine lv_iconst (v := oI 0) X.1 X.2.1 dX1_flip_21 rfl ?_
    exact wret_Z X hr hlk hW hS rZ_0 h dX1_flip_22
  · have h := h.2 hc
    refine lv_iload_n X.1 X.2.1 dX1_flip_7 rfl (lv_at hl 1 rfl) ?_
    refine w_if_lt (tgt := 21) X rx1 dX1_flip_8 (by decide) (fun hc => ?_) (fun hc => ?_)
    · have h := h.1 hc
      refine lv_iconst (v := oI 0) X.1 X.2.1 dX1_flip_21 rfl ?_
      exact wret_Z X hr hlk hW hS rZ_0 h dX1_flip_22
    · have h := h.2 hc
      refine lv_aload_n X.1 X.2.1 dX1_flip_11 rfl (lv_at hl 0 rfl) ?_
      refine wg (v := .int (oI (gI σ 74 0))) X hT hW 1 10 74 vl1_0 rfl rfl (by decide) rfl (by decide) in_X1 q1080 rfl dX1_flip_12 ?_
      refine lv_sipush (v := oI 200) X.1 X.2.1 dX1_flip_15 (by decide) ?_
      refine w_icmp_ne (tgt := 23) X (hW.r.i 74 0 rfl) (rI_lit 200 (by decide)) dX1_flip_18 (by decide) (fun hc => ?_) (fun hc => ?_)
      · have h := h.1 hc
        refine lv_aload_n X.1 X.2.1 dX1_flip_23 rfl (lv_at hl 0 rfl) ?_
        refine lv_dup X.1 X.2.1 dX1_flip_24 rfl ?_
        refine wg (v := .int (oI (gI σ 74 0))) X hT hW 1 10 74 vl1_0 rfl rfl (by decide) rfl (by decide) in_X1 q1080 rfl dX1_flip_25 ?_
        refine lv_iconst (v := oI 1) X.1 X.2.1 dX1_flip_28 rfl ?_
        refine w_iadd X dX1_flip_29 ?_
        refine wput (z := w32 ((gI σ 74 0) + 1)) X hT hW hS 1 10 74 vl1_0 rfl rfl (by decide) rfl (by decide) in_X1 tyX1 tyX1_ok nmX1 q1080 rfl rfl (w32_r _) (fv0 w rfl) rfl rfl dX1_flip_30 (fun H locs hN hS => ?_)
        obtain ⟨σ_4, eσ_4⟩ : ∃ x, x = sI σ 74 0 (w32 ((gI σ 74 0) + 1)) := ⟨_, rfl⟩
        have hWσ_4 : Wo w σ_4 H := eσ_4 ▸ hN
        have h := h σ_4 eσ_4
        clear hN
        refine lv_aload_n X.1 X.2.1 dX1_flip_33 rfl (lv_at hl 0 rfl) ?_
        refine wg (v := .ref (wad w 2 0)) X hT hWσ_4 1 0 64 vl1_0 rfl rfl (by decide) rfl (by decide) in_X1 q1070 rfl dX1_flip_34 ?_
        refine lv_iload_n X.1 X.2.1 dX1_flip_37 rfl (lv_at hl 1 rfl) ?_
        refine wr_V (rV (As := [.int (oI x1)]) (rest := []) X hT hWσ_4 hS (met_Flash_turn l (w := w) hV x1 _ σ_4 rx1 h) (cwV 1 X.2.2.2.2 (lw_V q1782 q1783 q1784 q134 q1785) rfl rfl rfl (by decide +kernel) ⟨Nat.le_of_ble_eq_true rfl, Nat.le_of_ble_eq_true rfl⟩) vl2_0 (by decide) rfl rfl hl.1 rfl (by first | exact Nat.le_of_ble_eq_true rfl | simp [catK, catI, catR, catL]) dX1_flip_38 ⟨Nat.le_refl _, Nat.le_refl _⟩) hS (fun σ_6 H locs rkσ_6 h hWσ_6 hS => ?_)
        have h := h rkσ_6
        refine lv_iconst (v := oI 1) X.1 X.2.1 dX1_flip_41 rfl ?_
        exact wret_Z X hr hlk hWσ_6 hS rZ_1 h dX1_flip_42
      · have h := h.2 hc
        refine lv_iconst (v := oI 0) X.1 X.2.1 dX1_flip_21 rfl ?_
        exact wret_Z X hr hlk hW hS rZ_0 h dX1_flip_22
/-! House.openHandles()I -/
set_option maxHeartbeats 4000000 in
set_option maxRecDepth 100000 in
theorem wk_House_openHandles_L4B {p : Program} {l : Launch} {e : Env} {st : State} {m : MethodId} {args : Array Value} {below : List Frame} {meth : Method} {c : Code} {w : Wp} {Q : Int → St → Prop} (X : CallFix p m c cX1_openHandles 3 st args lw_all RX1) (hr : meth.sig.returnType = (some .int)) (hlk : meth.locks = false) (hT : Tb w st) (hV : Hvl w) (K4 : Int → Int → St → Prop) (hK4 : ∀ (y1 y2 : Int) (σ : St) (H : Heap) (locs : List Loc) (ls : Array Slot), rI y1 → rI y2 → lv_has ls 3 [(0, .ref (wad w 1 0)), (1, .int (oI y1)), (2, .int (oI y2))] → Wo w σ H → va_S (wA w) st.heap H locs → K4 y1 y2 σ → W p l e (headSpec (ws_ yX1_openHandles cX1_openHandles 3 (some .int)) rm_House_openHandles).room st m args below meth c H locs 0 0 (MQ below (QcI w Q) args st 0 0 (wA w)) (F0 m 4 ls [])) : ∀ (y1 y2 : Int) (σ : St) (H : Heap) (locs : List Loc) (ls : Array Slot), rI y1 → rI y2 → lv_has ls 3 [(0, .ref (wad w 1 0)), (1, .int (oI y1)), (2, .int (oI y2))] → Wo w σ H → va_S (wA w) st.heap H locs → wp_House_openHandles_L4 (wc w) (wtv w) Q K4 y1 y2 σ → W p l e (headSpec (ws_ yX1_openHandles cX1_openHandles 3 (some .int)) rm_House_openHandles).room st m args below meth c H locs 0 0 (MQ below (QcI w Q) args st 0 0 (wA w)) (F0 m 4 ls []) := by
  have vl1_0 : vl w 1 0 := hV.hv 1 rfl ⟨by omega, by show _ < (1 : Int); omega⟩
  have vl70_0 : vl w 70 0 := hV.hv 70 rfl ⟨by omega, by show _ < (1 : Int); omega⟩
  intro y1 y2 σ H locs ls ry1 ry2 hl hW hS h
  unfold wp_House_openHandles_L4 at h
  refine lv_iload_n X.1 X.2.1 dX1_openHandles_4 rfl (lv_at hl 2 rfl) ?_
  refine lv_bipush (v := oI 8) X.1 X.2.1 dX1_openHandles_5 (by decide) ?_
  refine w_icmp_ge (tgt := 33) X ry2 ((rB_lit 8 (by decide)).i) dX1_openHandles_7 (by decide) (fun hc => ?_) (fun hc => ?_)
  · have h := h.1 hc
    refine lv_iload_n X.1 X.2.1 dX1_openHandles_33 rfl (lv_at hl 1 rfl) ?_
    exact wret_I X hr hlk hW hS ry1 h dX1_openHandles_34
  · have h := h.2 hc
    refine lv_iload_n X.1 X.2.1 dX1_openHandles_10 rfl (lv_at hl 1 rfl) ?_
    refine lv_aload_n X.1 X.2.1 dX1_openHandles_11 rfl (lv_at hl 0 rfl) ?_
    refine wg (v := .ref (wad w 70 0)) X hT hW 1 6 70 vl1_0 rfl rfl (by decide) rfl (by decide) in_X1 q1076 rfl dX1_openHandles_12 ?_
    refine lv_iload_n X.1 X.2.1 dX1_openHandles_15 rfl (lv_at hl 2 rfl) ?_
    obtain ⟨bi, h⟩ := h
    refine w_iald (n := 8) X hT hW 70 vl70_0 (by decide) rfl rfl bi dX1_openHandles_16 ?_
    refine w_cut (pc2 := 25) (st2 := [.int (oI (if (gA σ 70 0 y2) ≤ 0 then (0 : Int) else (1 : Int))), .int (oI y1)]) (fun hj => ?_) ?_
    · refine w_if_le (tgt := 24) X (hW.r.ai 70 0 y2 rfl) dX1_openHandles_17 (by decide) (fun hc => ?_) (fun hc => ?_)
      · refine lv_iconst (v := oI 0) X.1 X.2.1 dX1_openHandles_24 rfl ?_
        rw [if_pos hc] at hj; exact hj
      · refine lv_iconst (v := oI 1) X.1 X.2.1 dX1_openHandles_20 rfl ?_
        refine lv_goto (tgt := 25) X.1 X.2.1 dX1_openHandles_21 (by decide) ?_
        rw [if_neg hc] at hj; exact hj
    refine w_iadd X dX1_openHandles_25 ?_
    refine w_top (fun y1_5 ey1_5 => ?_)
    have h := h y1_5 ey1_5
    have ry1_5 : rI y1_5 := by rw [ey1_5]; exact (w32_r _)
    refine lv_istore_n (i := 1) (lv' := [(1, .int (oI y1_5)), (0, .ref (wad w 1 0)), (2, .int (oI y2))]) X.1 X.2.1 dX1_openHandles_26 rfl hl (by decide) (by first | rfl | simp [catK, catI, catR, catL]) (fun ls hl => ?_)
    obtain ⟨y2_6, ey2_6⟩ : ∃ y : Int, y = w32 (y2 + 1) := ⟨_, rfl⟩
    have h := h y2_6 ey2_6
    have ry2_6 : rI y2_6 := by rw [ey2_6]; exact w32_r _
    refine lv_iinc (v := oI y2_6) (lv' := [(2, .int (oI y2_6)), (1, .int (oI y1_5)), (0, .ref (wad w 1 0))]) X.1 X.2.1 dX1_openHandles_27 hl (k := 2) rfl (by rw [ey2_6]; exact oI_add _ _) (by decide) (by first | rfl | simp [catK, catI, catR, catL]) (fun ls hl => ?_)
    refine lv_goto (tgt := 4) X.1 X.2.1 dX1_openHandles_30 (by decide) ?_
    exact hK4 y1_5 y2_6 σ _ _ _ ry1_5 ry2_6 (lv_sub hl [2, 1, 0] rfl) hW hS h
theorem wk_House_openHandles_L4 {p : Program} {l : Launch} {e : Env} {st : State} {m : MethodId} {args : Array Value} {below : List Frame} {meth : Method} {c : Code} {w : Wp} {Q : Int → St → Prop} (X : CallFix p m c cX1_openHandles 3 st args lw_all RX1) (hr : meth.sig.returnType = (some .int)) (hlk : meth.locks = false) (hT : Tb w st) (hV : Hvl w) : ∀ (y1 y2 : Int) (σ : St) (H : Heap) (locs : List Loc) (ls : Array Slot), rI y1 → rI y2 → lv_has ls 3 [(0, .ref (wad w 1 0)), (1, .int (oI y1)), (2, .int (oI y2))] → Wo w σ H → va_S (wA w) st.heap H locs → lQ2 (wp_House_openHandles_L4 (wc w) (wtv w) Q) y1 y2 σ → W p l e (headSpec (ws_ yX1_openHandles cX1_openHandles 3 (some .int)) rm_House_openHandles).room st m args below meth c H locs 0 0 (MQ below (QcI w Q) args st 0 0 (wA w)) (F0 m 4 ls []) := by
  intro y1 y2 σ H locs ls ry1 ry2 hl hW hS h
  obtain ⟨fu, h⟩ := h
  induction fu generalizing y1 y2 σ H locs ls with
  | zero => exact h.elim
  | succ fu ih =>
    exact wk_House_openHandles_L4B X hr hlk hT hV (lq2 (wp_House_openHandles_L4 (wc w) (wtv w) Q) fu) (fun y1 y2 σ H locs ls ry1 ry2 hl hW hS h => ih y1 y2 σ H locs ls ry1 ry2 hl hW hS h) y1 y2 σ H locs ls ry1 ry2 hl hW hS h
set_option maxHeartbeats 4000000 in
set_option maxRecDepth 100000 in
theorem met_House_openHandles (l : Launch) {w : Wp} (hV : Hvl w) (Q : Int → St → Prop) (σ : St) (h : wp_House_openHandles (wc w) (wtv w) Q σ) : Met l yX1_openHandles (ws_ yX1_openHandles cX1_openHandles 3 (some .int)) rm_House_openHandles (PcW w σ [.ref (wad w 1 0)]) (QcI w Q) 0 0 (wA w) := by
  refine Met.ofW (cc := cX1_openHandles) (maxL := 3) (ret := (some .int)) (by decide) rfl ?_
  intro p e st m args below meth c s₁ B hml hv
  obtain ⟨hargs, hW, hT⟩ := hv
  have X : CallFix p m c cX1_openHandles 3 st _ lw_all RX1 := ⟨B.exec, B.bytes, hml, findClass_of_methodNamed B.named, fun w h => atoms_spec (ws := ws_ yX1_openHandles cX1_openHandles 3 (some .int)) B.pre w (List.mem_cons_of_mem _ h)⟩
  have hr := B.returns
  have hlk := B.notSynchronized
  have hS : va_S (wA w) st.heap st.heap [] := va_S.rf
  have vl1_0 : vl w 1 0 := hV.hv 1 rfl ⟨by omega, by show _ < (1 : Int); omega⟩
  have hl := lv_entry ([.ref (wad w 1 0)]) (n := 3) (Nat.le_of_ble_eq_true rfl)
  have hfr := lg_entry_eq m ([.ref (wad w 1 0)]) 3
  rw [← hargs] at hfr
  rw [hfr]
  generalize (lg_sl ([.ref (wad w 1 0)]) ++ List.replicate (3 - (lg_sl ([.ref (wad w 1 0)])).length) Slot.unset).toArray = ls at hl ⊢
  have hl : lv_has ls 3 [(0, .ref (wad w 1 0))] := hl
  unfold wp_House_openHandles at h
  refine lv_iconst (v := oI 0) X.1 X.2.1 dX1_openHandles_0 rfl ?_
  refine lv_istore_n (i := 1) (lv' := [(1, .int (oI 0)), (0, .ref (wad w 1 0))]) X.1 X.2.1 dX1_openHandles_1 rfl hl (by decide) (by first | rfl | simp [catK, catI, catR, catL]) (fun ls hl => ?_)
  refine lv_iconst (v := oI 0) X.1 X.2.1 dX1_openHandles_2 rfl ?_
  refine lv_istore_n (i := 2) (lv' := [(2, .int (oI 0)), (1, .int (oI 0)), (0, .ref (wad w 1 0))]) X.1 X.2.1 dX1_openHandles_3 rfl hl (by decide) (by first | rfl | simp [catK, catI, catR, catL]) (fun ls hl => ?_)
  exact wk_House_openHandles_L4 X hr hlk hT hV 0 0 σ _ _ _ rZ_0.i rZ_0.i (lv_sub hl [2, 1, 0] rfl) hW hS h
/-! House.told(I)I -/
set_option maxHeartbeats 4000000 in
set_option maxRecDepth 100000 in
theorem met_House_told (l : Launch) {w : Wp} (hV : Hvl w) (x1 : Int) (Q : Int → St → Prop) (σ : St) (rx1 : rI x1) (h : wp_House_told (wc w) (wtv w) x1 Q σ) : Met l yX1_told (ws_ yX1_told cX1_told 2 (some .int)) rm_House_told (PcW w σ [.ref (wad w 1 0), .int (oI x1)]) (QcI w Q) 0 0 (wA w) := by
  refine Met.ofW (cc := cX1_told) (maxL := 2) (ret := (some .int)) (by decide) rfl ?_
  intro p e st m args below meth c s₁ B hml hv
  obtain ⟨hargs, hW, hT⟩ := hv
  have X : CallFix p m c cX1_told 2 st _ lw_all RX1 := ⟨B.exec, B.bytes, hml, findClass_of_methodNamed B.named, fun w h => atoms_spec (ws := ws_ yX1_told cX1_told 2 (some .int)) B.pre w (List.mem_cons_of_mem _ h)⟩
  have hr := B.returns
  have hlk := B.notSynchronized
  have hS : va_S (wA w) st.heap st.heap [] := va_S.rf
  have vl1_0 : vl w 1 0 := hV.hv 1 rfl ⟨by omega, by show _ < (1 : Int); omega⟩
  have vl3_0 : vl w 3 0 := hV.hv 3 rfl ⟨by omega, by show _ < (2 : Int); omega⟩
  have hl := lv_entry ([.ref (wad w 1 0), .int (oI x1)]) (n := 2) (Nat.le_of_ble_eq_true rfl)
  have hfr := lg_entry_eq m ([.ref (wad w 1 0), .int (oI x1)]) 2
  rw [← hargs] at hfr
  rw [hfr]
  generalize (lg_sl ([.ref (wad w 1 0), .int (oI x1)]) ++ List.replicate (2 - (lg_sl ([.ref (wad w 1 0), .int (oI x1)])).length) Slot.unset).toArray = ls at hl ⊢
  have hl : lv_has ls 2 [(0, .ref (wad w 1 0)), (1, .int (oI x1))] := hl
  unfold wp_House_told at h
  refine lv_aload_n X.1 X.2.1 dX1_told_0 rfl (lv_at hl 0 rfl) ?_
  refine wg (v := .int (oI (gI σ 69 0))) X hT hW 1 5 69 vl1_0 rfl rfl (by decide) rfl (by decide) in_X1 q1075 rfl dX1_told_1 ?_
  refine w_if_ne (tgt := 10) X ((hW.r.z 69 0 rfl).i) dX1_told_4 (by decide) (fun hc => ?_) (fun hc => ?_)
  · have h := h.1 hc
    refine lv_iload_n X.1 X.2.1 dX1_told_10 rfl (lv_at hl 1 rfl) ?_
    by_cases hc0 : x1 = 0
    · have h := h.1 hc0
      refine w_tabIn (tgt := 60) (z := 0) X rx1 dX1_told_11 hc0 (by decide) (by decide) rfl (by decide) ?_
      refine lv_aload_n X.1 X.2.1 dX1_told_60 rfl (lv_at hl 0 rfl) ?_
      refine wg (v := .int (oI (gI σ 71 0))) X hT hW 1 7 71 vl1_0 rfl rfl (by decide) rfl (by decide) in_X1 q1077 rfl dX1_told_61 ?_
      exact wret_I X hr hlk hW hS (hW.r.i 71 0 rfl) h dX1_told_64
    by_cases hc1 : x1 = 1
    · have h := h.2.1 hc1
      refine w_tabIn (tgt := 65) (z := 1) X rx1 dX1_told_11 hc1 (by decide) (by decide) rfl (by decide) ?_
      refine lv_aload_n X.1 X.2.1 dX1_told_65 rfl (lv_at hl 0 rfl) ?_
      refine wg (v := .int (oI (cap (wc w)))) X hT hW 1 4 68 vl1_0 rfl rfl (by decide) rfl (by decide) in_X1 q1074 rfl dX1_told_66 ?_
      exact wret_I X hr hlk hW hS (cin_r hT.c 68) h dX1_told_69
    by_cases hc2 : x1 = 2
    · have h := h.2.2.1 hc2
      refine w_tabIn (tgt := 70) (z := 2) X rx1 dX1_told_11 hc2 (by decide) (by decide) rfl (by decide) ?_
      refine lv_aload_n X.1 X.2.1 dX1_told_70 rfl (lv_at hl 0 rfl) ?_
      refine wg (v := .int (oI (gI σ 72 0))) X hT hW 1 8 72 vl1_0 rfl rfl (by decide) rfl (by decide) in_X1 q1078 rfl dX1_told_71 ?_
      exact wret_I X hr hlk hW hS (hW.r.i 72 0 rfl) h dX1_told_74
    by_cases hc3 : x1 = 3
    · have h := h.2.2.2.1 hc3
      refine w_tabIn (tgt := 75) (z := 3) X rx1 dX1_told_11 hc3 (by decide) (by decide) rfl (by decide) ?_
      refine lv_aload_n X.1 X.2.1 dX1_told_75 rfl (lv_at hl 0 rfl) ?_
      refine wr_I (rV (As := []) (rest := []) X hT hW hS (met_House_openHandles l (w := w) hV _ σ h) (cwV 0 X.2.2.2.2 (lw_V q1790 q1792 qs86 q131 q1793) rfl rfl rfl (by decide +kernel) ⟨Nat.le_of_ble_eq_true rfl, Nat.le_of_ble_eq_true rfl⟩) vl1_0 (by decide) rfl rfl hl.1 rfl (by first | exact Nat.le_of_ble_eq_true rfl | simp [catK, catI, catR, catL]) dX1_told_76 ⟨Nat.le_refl _, Nat.le_refl _⟩) hS (fun r_5 σ_6 H locs rr_5 rkσ_6 h hWσ_6 hS => ?_)
      have h := h rr_5 rkσ_6
      exact wret_I X hr hlk hWσ_6 hS rr_5 h dX1_told_79
    by_cases hc4 : x1 = 4
    · have h := h.2.2.2.2.1 hc4
      refine w_tabIn (tgt := 80) (z := 4) X rx1 dX1_told_11 hc4 (by decide) (by decide) rfl (by decide) ?_
      refine lv_aload_n X.1 X.2.1 dX1_told_80 rfl (lv_at hl 0 rfl) ?_
      refine wg (v := .ref (wad w 3 0)) X hT hW 1 1 65 vl1_0 rfl rfl (by decide) rfl (by decide) in_X1 q1071 rfl dX1_told_81 ?_
      refine wr_I (rV (As := []) (rest := []) X hT hW hS (met_Store_place l (w := w) hV 0 _ σ (by omega) h) (cwV 0 X.2.2.2.2 (lw_V q1794 q1795 q1796 q136 q1797) rfl rfl rfl (by decide +kernel) ⟨Nat.le_of_ble_eq_true rfl, Nat.le_of_ble_eq_true rfl⟩) vl3_0 (by decide) rfl rfl hl.1 rfl (by first | exact Nat.le_of_ble_eq_true rfl | simp [catK, catI, catR, catL]) dX1_told_84 ⟨Nat.le_refl _, Nat.le_refl _⟩) hS (fun r_7 σ_8 H locs rr_7 rkσ_8 h hWσ_8 hS => ?_)
      have h := h rr_7 rkσ_8
      exact wret_I X hr hlk hWσ_8 hS rr_7 h dX1_told_87
    by_cases hc5 : x1 = 5
    · have h := h.2.2.2.2.2.1 hc5
      refine w_tabIn (tgt := 88) (z := 5) X rx1 dX1_told_11 hc5 (by decide) (by decide) rfl (by decide) ?_
      refine lv_aload_n X.1 X.2.1 dX1_told_88 rfl (lv_at hl 0 rfl) ?_
      refine wg (v := .ref (wad w 3 0)) X hT hW 1 1 65 vl1_0 rfl rfl (by decide) rfl (by decide) in_X1 q1071 rfl dX1_told_89 ?_
      refine wg (v := .int (oI (gI σ 203 0))) X hT hW 3 11 203 vl3_0 rfl rfl (by decide) rfl (by decide) in_X5 q538 rfl dX1_told_92 ?_
      exact wret_I X hr hlk hW hS (hW.r.i 203 0 rfl) h dX1_told_95
    by_cases hc6 : x1 = 6
    · have h := h.2.2.2.2.2.2.1 hc6
      refine w_tabIn (tgt := 96) (z := 6) X rx1 dX1_told_11 hc6 (by decide) (by decide) rfl (by decide) ?_
      refine lv_aload_n X.1 X.2.1 dX1_told_96 rfl (lv_at hl 0 rfl) ?_
      refine wg (v := .int (oI (gI σ 73 0))) X hT hW 1 9 73 vl1_0 rfl rfl (by decide) rfl (by decide) in_X1 q1079 rfl dX1_told_97 ?_
      exact wret_I X hr hlk hW hS (hW.r.i 73 0 rfl) h dX1_told_100
    by_cases hc7 : x1 = 7
    · have h := h.2.2.2.2.2.2.2.1 hc7
      refine w_tabIn (tgt := 101) (z := 7) X rx1 dX1_told_11 hc7 (by decide) (by decide) rfl (by decide) ?_
      refine lv_aload_n X.1 X.2.1 dX1_told_101 rfl (lv_at hl 0 rfl) ?_
      refine wg (v := .int (oI (gI σ 74 0))) X hT hW 1 10 74 vl1_0 rfl rfl (by decide) rfl (by decide) in_X1 q1080 rfl dX1_told_102 ?_
      exact wret_I X hr hlk hW hS (hW.r.i 74 0 rfl) h dX1_told_105
    by_cases hc8 : x1 = 8
    · have h := h.2.2.2.2.2.2.2.2.1 hc8
      refine w_tabIn (tgt := 106) (z := 8) X rx1 dX1_told_11 hc8 (by decide) (by decide) rfl (by decide) ?_
      refine lv_aload_n X.1 X.2.1 dX1_told_106 rfl (lv_at hl 0 rfl) ?_
      refine wg (v := .int (oI (gI σ 88 0))) X hT hW 1 24 88 vl1_0 rfl rfl (by decide) rfl (by decide) in_X1 q1094 rfl dX1_told_107 ?_
      exact wret_I X hr hlk hW hS (hW.r.i 88 0 rfl) h dX1_told_110
    have hcd : x1 < 0 ∨ 8 < x1 := by omega
    have h := h.2.2.2.2.2.2.2.2.2 hcd
    refine w_tabOut (tgt := 111) X rx1 dX1_told_11 hcd (by decide) ?_
    refine lv_bipush (v := oI (-3)) X.1 X.2.1 dX1_told_111 (by decide) ?_
    exact wret_I X hr hlk hW hS ((rB_lit (-3) (by decide)).i) h dX1_told_113
  · have h := h.2 hc
    refine lv_bipush (v := oI (-2)) X.1 X.2.1 dX1_told_7 (by decide) ?_
    exact wret_I X hr hlk hW hS ((rB_lit (-2) (by decide)).i) h dX1_told_9
/-! House.many(II)I -/
set_option maxHeartbeats 4000000 in
set_option maxRecDepth 100000 in
theorem wk_House_many_L23B {p : Program} {l : Launch} {e : Env} {st : State} {m : MethodId} {args : Array Value} {below : List Frame} {meth : Method} {c : Code} {w : Wp} {x1 : Int} {x2 : Int} {Q : Int → St → Prop} (X : CallFix p m c cX1_many 7 st args lw_all RX1) (hr : meth.sig.returnType = (some .int)) (hlk : meth.locks = false) (hT : Tb w st) (hV : Hvl w) (rx1 : rI x1) (rx2 : rI x2) (K23 : Int → Int → Int → St → Prop) (hK23 : ∀ (y3 y5 y6 : Int) (σ : St) (H : Heap) (locs : List Loc) (ls : Array Slot), rJ y3 → rI y5 → rZ y6 → lv_has ls 7 [(0, .ref (wad w 1 0)), (3, .long (oL y3)), (5, .int (oI y5)), (6, .int (oI y6))] → Wo w σ H → va_S (wA w) st.heap H locs → K23 y3 y5 y6 σ → W p l e (headSpec (ws_ yX1_many cX1_many 7 (some .int)) rm_House_many).room st m args below meth c H locs 0 0 (MQ below (QcI w Q) args st 0 0 (wA w)) (F0 m 23 ls [])) : ∀ (y3 y5 y6 : Int) (σ : St) (H : Heap) (locs : List Loc) (ls : Array Slot), rJ y3 → rI y5 → rZ y6 → lv_has ls 7 [(0, .ref (wad w 1 0)), (3, .long (oL y3)), (5, .int (oI y5)), (6, .int (oI y6))] → Wo w σ H → va_S (wA w) st.heap H locs → wp_House_many_L23 (wc w) (wtv w) x1 x2 Q K23 y3 y5 y6 σ → W p l e (headSpec (ws_ yX1_many cX1_many 7 (some .int)) rm_House_many).room st m args below meth c H locs 0 0 (MQ below (QcI w Q) args st 0 0 (wA w)) (F0 m 23 ls []) := by
  have vl1_0 : vl w 1 0 := hV.hv 1 rfl ⟨by omega, by show _ < (1 : Int); omega⟩
  have vl3_0 : vl w 3 0 := hV.hv 3 rfl ⟨by omega, by show _ < (2 : Int); omega⟩
  have vl6_0 : vl w 6 0 := hV.hv 6 rfl ⟨by omega, by show _ < (2 : Int); omega⟩
  intro y3 y5 y6 σ H locs ls ry3 ry5 ry6 hl hW hS h
  unfold wp_House_many_L23 at h
  refine lv_iload X.1 X.2.1 dX1_many_23 (lv_at hl 3 rfl) ?_
  refine w_if_eq (tgt := 61) X ry6.i dX1_many_25 (by decide) (fun hc => ?_) (fun hc => ?_)
  · have h := h.1 hc
    refine lv_iload X.1 X.2.1 dX1_many_61 (lv_at hl 2 rfl) ?_
    exact wret_I X hr hlk hW hS ry5 h dX1_many_63
  · have h := h.2 hc
    refine lv_aload_n X.1 X.2.1 dX1_many_28 rfl (lv_at hl 0 rfl) ?_
    refine wg (v := .ref (wad w 3 0)) X hT hW 1 1 65 vl1_0 rfl rfl (by decide) rfl (by decide) in_X1 q1071 rfl dX1_many_29 ?_
    refine wg (v := .ref (wad w 6 0)) X hT hW 3 2 194 vl3_0 rfl rfl (by decide) rfl (by decide) in_X5 q527 rfl dX1_many_32 ?_
    refine wg (v := .long (oL (gI σ 391 0))) X hT hW 6 7 391 vl6_0 rfl rfl (by decide) rfl (by decide) in_X8 q454 rfl dX1_many_35 ?_
    refine lv_lload_n X.1 X.2.1 dX1_many_38 rfl (lv_at hl 1 rfl) ?_
    refine w_lcmp_ne (tgt := 61) X (hW.r.j 391 0 rfl) ry3 dX1_many_39 dX1_many_40 (by decide) (fun hc => ?_) (fun hc => ?_)
    · have h := h.1 hc
      refine lv_iload X.1 X.2.1 dX1_many_61 (lv_at hl 2 rfl) ?_
      exact wret_I X hr hlk hW hS ry5 h dX1_many_63
    · have h := h.2 hc
      obtain ⟨y5_15, ey5_15⟩ : ∃ y : Int, y = w32 (y5 + 1) := ⟨_, rfl⟩
      have h := h y5_15 ey5_15
      have ry5_15 : rI y5_15 := by rw [ey5_15]; exact w32_r _
      refine lv_iinc (v := oI y5_15) (lv' := [(5, .int (oI y5_15)), (0, .ref (wad w 1 0)), (3, .long (oL y3)), (6, .int (oI y6))]) X.1 X.2.1 dX1_many_43 hl (k := 2) rfl (by rw [ey5_15]; exact oI_add _ _) (by decide) (by first | rfl | simp [catK, catI, catR, catL]) (fun ls hl => ?_)
      refine lv_aload_n X.1 X.2.1 dX1_many_46 rfl (lv_at hl 1 rfl) ?_
      refine wg (v := .ref (wad w 3 0)) X hT hW 1 1 65 vl1_0 rfl rfl (by decide) rfl (by decide) in_X1 q1071 rfl dX1_many_47 ?_
      refine wg (v := .ref (wad w 6 0)) X hT hW 3 2 194 vl3_0 rfl rfl (by decide) rfl (by decide) in_X5 q527 rfl dX1_many_50 ?_
      refine wr_Z (rV (As := []) (rest := []) X hT hW hS (met_Index_next l (w := w) hV 0 _ σ (by omega) h) (cwV 0 X.2.2.2.2 (lw_V q1065 q1066 q1067 q139 q1068) rfl rfl rfl (by decide +kernel) ⟨Nat.le_of_ble_eq_true rfl, Nat.le_of_ble_eq_true rfl⟩) vl6_0 (by decide) rfl rfl hl.1 rfl (by first | exact Nat.le_of_ble_eq_true rfl | simp [catK, catI, catR, catL]) dX1_many_53 ⟨Nat.le_refl _, Nat.le_refl _⟩) hS (fun r_16 σ_17 H locs rr_16 rkσ_17 h hWσ_17 hS => ?_)
      have h := h rr_16 rkσ_17
      refine lv_istore (i := 6) (lv' := [(6, .int (oI r_16)), (5, .int (oI y5_15)), (0, .ref (wad w 1 0)), (3, .long (oL y3))]) X.1 X.2.1 dX1_many_56 hl (by decide) (by first | rfl | simp [catK, catI, catR, catL]) (fun ls hl => ?_)
      refine lv_goto (tgt := 23) X.1 X.2.1 dX1_many_58 (by decide) ?_
      exact hK23 y3 y5_15 r_16 σ_17 _ _ _ ry3 ry5_15 rr_16 (lv_sub hl [2, 3, 1, 0] rfl) hWσ_17 hS h
theorem wk_House_many_L23 {p : Program} {l : Launch} {e : Env} {st : State} {m : MethodId} {args : Array Value} {below : List Frame} {meth : Method} {c : Code} {w : Wp} {x1 : Int} {x2 : Int} {Q : Int → St → Prop} (X : CallFix p m c cX1_many 7 st args lw_all RX1) (hr : meth.sig.returnType = (some .int)) (hlk : meth.locks = false) (hT : Tb w st) (hV : Hvl w) (rx1 : rI x1) (rx2 : rI x2) : ∀ (y3 y5 y6 : Int) (σ : St) (H : Heap) (locs : List Loc) (ls : Array Slot), rJ y3 → rI y5 → rZ y6 → lv_has ls 7 [(0, .ref (wad w 1 0)), (3, .long (oL y3)), (5, .int (oI y5)), (6, .int (oI y6))] → Wo w σ H → va_S (wA w) st.heap H locs → lQ3 (wp_House_many_L23 (wc w) (wtv w) x1 x2 Q) y3 y5 y6 σ → W p l e (headSpec (ws_ yX1_many cX1_many 7 (some .int)) rm_House_many).room st m args below meth c H locs 0 0 (MQ below (QcI w Q) args st 0 0 (wA w)) (F0 m 23 ls []) := by
  intro y3 y5 y6 σ H locs ls ry3 ry5 ry6 hl hW hS h
  obtain ⟨fu, h⟩ := h
  induction fu generalizing y3 y5 y6 σ H locs ls with
  | zero => exact h.elim
  | succ fu ih =>
    exact wk_House_many_L23B X hr hlk hT hV rx1 rx2 (lq3 (wp_House_many_L23 (wc w) (wtv w) x1 x2 Q) fu) (fun y3 y5 y6 σ H locs ls ry3 ry5 ry6 hl hW hS h => ih y3 y5 y6 σ H locs ls ry3 ry5 ry6 hl hW hS h) y3 y5 y6 σ H locs ls ry3 ry5 ry6 hl hW hS h
set_option maxHeartbeats 4000000 in
set_option maxRecDepth 100000 in
theorem met_House_many (l : Launch) {w : Wp} (hV : Hvl w) (x1 : Int) (x2 : Int) (Q : Int → St → Prop) (σ : St) (rx1 : rI x1) (rx2 : rI x2) (h : wp_House_many (wc w) (wtv w) x1 x2 Q σ) : Met l yX1_many (ws_ yX1_many cX1_many 7 (some .int)) rm_House_many (PcW w σ [.ref (wad w 1 0), .int (oI x1), .int (oI x2)]) (QcI w Q) 0 0 (wA w) := by
  refine Met.ofW (cc := cX1_many) (maxL := 7) (ret := (some .int)) (by decide) rfl ?_
  intro p e st m args below meth c s₁ B hml hv
  obtain ⟨hargs, hW, hT⟩ := hv
  have X : CallFix p m c cX1_many 7 st _ lw_all RX1 := ⟨B.exec, B.bytes, hml, findClass_of_methodNamed B.named, fun w h => atoms_spec (ws := ws_ yX1_many cX1_many 7 (some .int)) B.pre w (List.mem_cons_of_mem _ h)⟩
  have hr := B.returns
  have hlk := B.notSynchronized
  have hS : va_S (wA w) st.heap st.heap [] := va_S.rf
  have vl1_0 : vl w 1 0 := hV.hv 1 rfl ⟨by omega, by show _ < (1 : Int); omega⟩
  have vl3_0 : vl w 3 0 := hV.hv 3 rfl ⟨by omega, by show _ < (2 : Int); omega⟩
  have vl6_0 : vl w 6 0 := hV.hv 6 rfl ⟨by omega, by show _ < (2 : Int); omega⟩
  have hl := lv_entry ([.ref (wad w 1 0), .int (oI x1), .int (oI x2)]) (n := 7) (Nat.le_of_ble_eq_true rfl)
  have hfr := lg_entry_eq m ([.ref (wad w 1 0), .int (oI x1), .int (oI x2)]) 7
  rw [← hargs] at hfr
  rw [hfr]
  generalize (lg_sl ([.ref (wad w 1 0), .int (oI x1), .int (oI x2)]) ++ List.replicate (7 - (lg_sl ([.ref (wad w 1 0), .int (oI x1), .int (oI x2)])).length) Slot.unset).toArray = ls at hl ⊢
  have hl : lv_has ls 7 [(0, .ref (wad w 1 0)), (1, .int (oI x1)), (2, .int (oI x2))] := hl
  unfold wp_House_many at h
  refine lv_iload_n X.1 X.2.1 dX1_many_0 rfl (lv_at hl 1 rfl) ?_
  refine lv_iload_n X.1 X.2.1 dX1_many_1 rfl (lv_at hl 2 rfl) ?_
  refine wr_J (rS (As := [.int (oI x1), .int (oI x2)]) (rest := []) X hT hW hS (met_House_keyOf l (w := w) x1 x2 _ σ rx1 rx2 h) (va_cwS 2 X.2.2.2.2 (lw_S q1181 q894 q131 q895) rfl rfl rfl (by decide +kernel) ⟨Nat.le_of_ble_eq_true rfl, Nat.le_of_ble_eq_true rfl⟩) rfl hl.1 rfl (by first | exact Nat.le_of_ble_eq_true rfl | simp [catK, catI, catR, catL]) dX1_many_2 ⟨Nat.le_refl _, Nat.le_refl _⟩) hS (fun r_18 σ_19 H locs rr_18 rkσ_19 h hWσ_19 hS => ?_)
  have h := h rr_18 rkσ_19
  refine lv_lstore_n (i := 3) (lv' := [(3, .long (oL r_18)), (0, .ref (wad w 1 0)), (1, .int (oI x1)), (2, .int (oI x2))]) X.1 X.2.1 dX1_many_5 rfl hl (by decide) (by first | rfl | simp [catK, catI, catR, catL]) (fun ls hl => ?_)
  refine lv_iconst (v := oI 0) X.1 X.2.1 dX1_many_6 rfl ?_
  refine lv_istore (i := 5) (lv' := [(5, .int (oI 0)), (3, .long (oL r_18)), (0, .ref (wad w 1 0)), (1, .int (oI x1)), (2, .int (oI x2))]) X.1 X.2.1 dX1_many_7 hl (by decide) (by first | rfl | simp [catK, catI, catR, catL]) (fun ls hl => ?_)
  refine lv_aload_n X.1 X.2.1 dX1_many_9 rfl (lv_at hl 2 rfl) ?_
  refine wg (v := .ref (wad w 3 0)) X hT hWσ_19 1 1 65 vl1_0 rfl rfl (by decide) rfl (by decide) in_X1 q1071 rfl dX1_many_10 ?_
  refine wg (v := .ref (wad w 6 0)) X hT hWσ_19 3 2 194 vl3_0 rfl rfl (by decide) rfl (by decide) in_X5 q527 rfl dX1_many_13 ?_
  refine lv_lload_n X.1 X.2.1 dX1_many_16 rfl (lv_at hl 1 rfl) ?_
  refine lv_lconst (v := oL 0) X.1 X.2.1 dX1_many_17 (by decide) ?_
  refine wr_Z (rV (As := [.long (oL r_18), .long (oL 0)]) (rest := []) X hT hWσ_19 hS (met_Index_seek l (w := w) hV 0 r_18 0 _ σ_19 (by omega) rr_18 (rJ_lit 0 (by decide)) h) (cwV 2 X.2.2.2.2 (lw_V q1064 q906 q907 q139 q908) rfl rfl rfl (by decide +kernel) ⟨Nat.le_of_ble_eq_true rfl, Nat.le_of_ble_eq_true rfl⟩) vl6_0 (by decide) rfl rfl hl.1 rfl (by first | exact Nat.le_of_ble_eq_true rfl | simp [catK, catI, catR, catL]) dX1_many_18 ⟨Nat.le_refl _, Nat.le_refl _⟩) hS (fun r_20 σ_21 H locs rr_20 rkσ_21 h hWσ_21 hS => ?_)
  have h := h rr_20 rkσ_21
  refine lv_istore (i := 6) (lv' := [(6, .int (oI r_20)), (5, .int (oI 0)), (3, .long (oL r_18)), (0, .ref (wad w 1 0)), (1, .int (oI x1)), (2, .int (oI x2))]) X.1 X.2.1 dX1_many_21 hl (by decide) (by first | rfl | simp [catK, catI, catR, catL]) (fun ls hl => ?_)
  exact wk_House_many_L23 X hr hlk hT hV rx1 rx2 r_18 0 r_20 σ_21 _ _ _ rr_18 rZ_0.i rr_20 (lv_sub hl [3, 2, 1, 0] rfl) hWσ_21 hS h
/-! House.linksOf(II)I -/
set_option maxHeartbeats 4000000 in
set_option maxRecDepth 100000 in
theorem wk_House_linksOf_L5B {p : Program} {l : Launch} {e : Env} {st : State} {m : MethodId} {args : Array Value} {below : List Frame} {meth : Method} {c : Code} {w : Wp} {x1 : Int} {x2 : Int} {Q : Int → St → Prop} (X : CallFix p m c cX1_linksOf 5 st args lw_all RX1) (hr : meth.sig.returnType = (some .int)) (hlk : meth.locks = false) (hT : Tb w st) (hV : Hvl w) (rx1 : rI x1) (rx2 : rI x2) (K5 : Int → Int → St → Prop) (hK5 : ∀ (y3 y4 : Int) (σ : St) (H : Heap) (locs : List Loc) (ls : Array Slot), rI y3 → rI y4 → lv_has ls 5 [(0, .ref (wad w 1 0)), (1, .int (oI x1)), (2, .int (oI x2)), (3, .int (oI y3)), (4, .int (oI y4))] → Wo w σ H → va_S (wA w) st.heap H locs → K5 y3 y4 σ → W p l e (headSpec (ws_ yX1_linksOf cX1_linksOf 5 (some .int)) rm_House_linksOf).room st m args below meth c H locs 0 0 (MQ below (QcI w Q) args st 0 0 (wA w)) (F0 m 5 ls [])) : ∀ (y3 y4 : Int) (σ : St) (H : Heap) (locs : List Loc) (ls : Array Slot), rI y3 → rI y4 → lv_has ls 5 [(0, .ref (wad w 1 0)), (1, .int (oI x1)), (2, .int (oI x2)), (3, .int (oI y3)), (4, .int (oI y4))] → Wo w σ H → va_S (wA w) st.heap H locs → wp_House_linksOf_L5 (wc w) (wtv w) x1 x2 Q K5 y3 y4 σ → W p l e (headSpec (ws_ yX1_linksOf cX1_linksOf 5 (some .int)) rm_House_linksOf).room st m args below meth c H locs 0 0 (MQ below (QcI w Q) args st 0 0 (wA w)) (F0 m 5 ls []) := by
  have vl1_0 : vl w 1 0 := hV.hv 1 rfl ⟨by omega, by show _ < (1 : Int); omega⟩
  have vl84_0 : vl w 84 0 := hV.hv 84 rfl ⟨by omega, by show _ < (1 : Int); omega⟩
  intro y3 y4 σ H locs ls ry3 ry4 hl hW hS h
  unfold wp_House_linksOf_L5 at h
  refine lv_iload X.1 X.2.1 dX1_linksOf_5 (lv_at hl 4 rfl) ?_
  refine lv_iload_n X.1 X.2.1 dX1_linksOf_7 rfl (lv_at hl 2 rfl) ?_
  refine w_icmp_ge (tgt := 36) X ry4 rx2 dX1_linksOf_8 (by decide) (fun hc => ?_) (fun hc => ?_)
  · have h := h.1 hc
    refine lv_iload_n X.1 X.2.1 dX1_linksOf_36 rfl (lv_at hl 3 rfl) ?_
    exact wret_I X hr hlk hW hS ry3 h dX1_linksOf_37
  · have h := h.2 hc
    refine lv_iload_n X.1 X.2.1 dX1_linksOf_11 rfl (lv_at hl 3 rfl) ?_
    refine lv_aload_n X.1 X.2.1 dX1_linksOf_12 rfl (lv_at hl 0 rfl) ?_
    refine wg (v := .ref (wad w 84 0)) X hT hW 1 20 84 vl1_0 rfl rfl (by decide) rfl (by decide) in_X1 q1090 rfl dX1_linksOf_13 ?_
    refine lv_iload X.1 X.2.1 dX1_linksOf_16 (lv_at hl 4 rfl) ?_
    obtain ⟨bi, h⟩ := h
    refine w_iald (n := 768) X hT hW 84 vl84_0 (by decide) rfl rfl bi dX1_linksOf_18 ?_
    refine lv_iload_n X.1 X.2.1 dX1_linksOf_19 rfl (lv_at hl 1 rfl) ?_
    refine w_cut (pc2 := 28) (st2 := [.int (oI (if (gA σ 84 0 y4) = x1 then (1 : Int) else (0 : Int))), .int (oI y3)]) (fun hj => ?_) ?_
    · refine w_icmp_ne (tgt := 27) X (hW.r.ai 84 0 y4 rfl) rx1 dX1_linksOf_20 (by decide) (fun hc => ?_) (fun hc => ?_)
      · refine lv_iconst (v := oI 0) X.1 X.2.1 dX1_linksOf_27 rfl ?_
        rw [if_neg hc] at hj; exact hj
      · refine lv_iconst (v := oI 1) X.1 X.2.1 dX1_linksOf_23 rfl ?_
        refine lv_goto (tgt := 28) X.1 X.2.1 dX1_linksOf_24 (by decide) ?_
        rw [if_pos hc] at hj; exact hj
    refine w_iadd X dX1_linksOf_28 ?_
    refine w_top (fun y3_5 ey3_5 => ?_)
    have h := h y3_5 ey3_5
    have ry3_5 : rI y3_5 := by rw [ey3_5]; exact (w32_r _)
    refine lv_istore_n (i := 3) (lv' := [(3, .int (oI y3_5)), (0, .ref (wad w 1 0)), (1, .int (oI x1)), (2, .int (oI x2)), (4, .int (oI y4))]) X.1 X.2.1 dX1_linksOf_29 rfl hl (by decide) (by first | rfl | simp [catK, catI, catR, catL]) (fun ls hl => ?_)
    obtain ⟨y4_6, ey4_6⟩ : ∃ y : Int, y = w32 (y4 + 1) := ⟨_, rfl⟩
    have h := h y4_6 ey4_6
    have ry4_6 : rI y4_6 := by rw [ey4_6]; exact w32_r _
    refine lv_iinc (v := oI y4_6) (lv' := [(4, .int (oI y4_6)), (3, .int (oI y3_5)), (0, .ref (wad w 1 0)), (1, .int (oI x1)), (2, .int (oI x2))]) X.1 X.2.1 dX1_linksOf_30 hl (k := 4) rfl (by rw [ey4_6]; exact oI_add _ _) (by decide) (by first | rfl | simp [catK, catI, catR, catL]) (fun ls hl => ?_)
    refine lv_goto (tgt := 5) X.1 X.2.1 dX1_linksOf_33 (by decide) ?_
    exact hK5 y3_5 y4_6 σ _ _ _ ry3_5 ry4_6 (lv_sub hl [2, 3, 4, 1, 0] rfl) hW hS h
theorem wk_House_linksOf_L5 {p : Program} {l : Launch} {e : Env} {st : State} {m : MethodId} {args : Array Value} {below : List Frame} {meth : Method} {c : Code} {w : Wp} {x1 : Int} {x2 : Int} {Q : Int → St → Prop} (X : CallFix p m c cX1_linksOf 5 st args lw_all RX1) (hr : meth.sig.returnType = (some .int)) (hlk : meth.locks = false) (hT : Tb w st) (hV : Hvl w) (rx1 : rI x1) (rx2 : rI x2) : ∀ (y3 y4 : Int) (σ : St) (H : Heap) (locs : List Loc) (ls : Array Slot), rI y3 → rI y4 → lv_has ls 5 [(0, .ref (wad w 1 0)), (1, .int (oI x1)), (2, .int (oI x2)), (3, .int (oI y3)), (4, .int (oI y4))] → Wo w σ H → va_S (wA w) st.heap H locs → lQ2 (wp_House_linksOf_L5 (wc w) (wtv w) x1 x2 Q) y3 y4 σ → W p l e (headSpec (ws_ yX1_linksOf cX1_linksOf 5 (some .int)) rm_House_linksOf).room st m args below meth c H locs 0 0 (MQ below (QcI w Q) args st 0 0 (wA w)) (F0 m 5 ls []) := by
  intro y3 y4 σ H locs ls ry3 ry4 hl hW hS h
  obtain ⟨fu, h⟩ := h
  induction fu generalizing y3 y4 σ H locs ls with
  | zero => exact h.elim
  | succ fu ih =>
    exact wk_House_linksOf_L5B X hr hlk hT hV rx1 rx2 (lq2 (wp_House_linksOf_L5 (wc w) (wtv w) x1 x2 Q) fu) (fun y3 y4 σ H locs ls ry3 ry4 hl hW hS h => ih y3 y4 σ H locs ls ry3 ry4 hl hW hS h) y3 y4 σ H locs ls ry3 ry4 hl hW hS h
set_option maxHeartbeats 4000000 in
set_option maxRecDepth 100000 in
theorem met_House_linksOf (l : Launch) {w : Wp} (hV : Hvl w) (x1 : Int) (x2 : Int) (Q : Int → St → Prop) (σ : St) (rx1 : rI x1) (rx2 : rI x2) (h : wp_House_linksOf (wc w) (wtv w) x1 x2 Q σ) : Met l yX1_linksOf (ws_ yX1_linksOf cX1_linksOf 5 (some .int)) rm_House_linksOf (PcW w σ [.ref (wad w 1 0), .int (oI x1), .int (oI x2)]) (QcI w Q) 0 0 (wA w) := by
  refine Met.ofW (cc := cX1_linksOf) (maxL := 5) (ret := (some .int)) (by decide) rfl ?_
  intro p e st m args below meth c s₁ B hml hv
  obtain ⟨hargs, hW, hT⟩ := hv
  have X : CallFix p m c cX1_linksOf 5 st _ lw_all RX1 := ⟨B.exec, B.bytes, hml, findClass_of_methodNamed B.named, fun w h => atoms_spec (ws := ws_ yX1_linksOf cX1_linksOf 5 (some .int)) B.pre w (List.mem_cons_of_mem _ h)⟩
  have hr := B.returns
  have hlk := B.notSynchronized
  have hS : va_S (wA w) st.heap st.heap [] := va_S.rf
  have vl1_0 : vl w 1 0 := hV.hv 1 rfl ⟨by omega, by show _ < (1 : Int); omega⟩
  have hl := lv_entry ([.ref (wad w 1 0), .int (oI x1), .int (oI x2)]) (n := 5) (Nat.le_of_ble_eq_true rfl)
  have hfr := lg_entry_eq m ([.ref (wad w 1 0), .int (oI x1), .int (oI x2)]) 5
  rw [← hargs] at hfr
  rw [hfr]
  generalize (lg_sl ([.ref (wad w 1 0), .int (oI x1), .int (oI x2)]) ++ List.replicate (5 - (lg_sl ([.ref (wad w 1 0), .int (oI x1), .int (oI x2)])).length) Slot.unset).toArray = ls at hl ⊢
  have hl : lv_has ls 5 [(0, .ref (wad w 1 0)), (1, .int (oI x1)), (2, .int (oI x2))] := hl
  unfold wp_House_linksOf at h
  refine lv_iconst (v := oI 0) X.1 X.2.1 dX1_linksOf_0 rfl ?_
  refine lv_istore_n (i := 3) (lv' := [(3, .int (oI 0)), (0, .ref (wad w 1 0)), (1, .int (oI x1)), (2, .int (oI x2))]) X.1 X.2.1 dX1_linksOf_1 rfl hl (by decide) (by first | rfl | simp [catK, catI, catR, catL]) (fun ls hl => ?_)
  refine lv_iconst (v := oI 0) X.1 X.2.1 dX1_linksOf_2 rfl ?_
  refine lv_istore (i := 4) (lv' := [(4, .int (oI 0)), (3, .int (oI 0)), (0, .ref (wad w 1 0)), (1, .int (oI x1)), (2, .int (oI x2))]) X.1 X.2.1 dX1_linksOf_3 hl (by decide) (by first | rfl | simp [catK, catI, catR, catL]) (fun ls hl => ?_)
  exact wk_House_linksOf_L5 X hr hlk hT hV rx1 rx2 0 0 σ _ _ _ rZ_0.i rZ_0.i (lv_sub hl [2, 3, 4, 1, 0] rfl) hW hS h
/-! House.goesTogether()Z -/
set_option maxHeartbeats 4000000 in
set_option maxRecDepth 100000 in
theorem wk_House_goesTogether_b273 {p : Program} {l : Launch} {e : Env} {st : State} {m : MethodId} {args : Array Value} {below : List Frame} {meth : Method} {c : Code} {w : Wp} {Q : Int → St → Prop} (X : CallFix p m c cX1_goesTogether 14 st args lw_all RX1) (hr : meth.sig.returnType = (some .boolean)) (hlk : meth.locks = false) (hT : Tb w st) (hV : Hvl w) (K278 : Int → Int → Int → Int → Int → Int → Int → Int → St → Prop) (hK278 : ∀ (y1 y2 y3 y4 y7 y9 t0 t1 : Int) (σ : St) (H : Heap) (locs : List Loc) (ls : Array Slot), rI y1 → rI y2 → rI y3 → rI y4 → rJ y7 → rJ y9 → rZ t0 → rZ t1 → lv_has ls 14 [(0, .ref (wad w 1 0)), (1, .int (oI y1)), (2, .int (oI y2)), (3, .int (oI y3)), (4, .int (oI y4)), (7, .long (oL y7)), (9, .long (oL y9))] → Wo w σ H → va_S (wA w) st.heap H locs → K278 y1 y2 y3 y4 y7 y9 t0 t1 σ → W p l e (headSpec (ws_ yX1_goesTogether cX1_goesTogether 14 (some .boolean)) rm_House_goesTogether).room st m args below meth c H locs 0 0 (MQ below (QcZ w Q) args st 0 0 (wA w)) (F0 m 278 ls [.int (oI t0), .int (oI t1)])) : ∀ (y1 y2 y3 y4 y7 y9 t0 : Int) (σ : St) (H : Heap) (locs : List Loc) (ls : Array Slot), rI y1 → rI y2 → rI y3 → rI y4 → rJ y7 → rJ y9 → rZ t0 → lv_has ls 14 [(0, .ref (wad w 1 0)), (1, .int (oI y1)), (2, .int (oI y2)), (3, .int (oI y3)), (4, .int (oI y4)), (7, .long (oL y7)), (9, .long (oL y9))] → Wo w σ H → va_S (wA w) st.heap H locs → wp_House_goesTogether_b273 (wc w) (wtv w) Q K278 y1 y2 y3 y4 y7 y9 t0 σ → W p l e (headSpec (ws_ yX1_goesTogether cX1_goesTogether 14 (some .boolean)) rm_House_goesTogether).room st m args below meth c H locs 0 0 (MQ below (QcZ w Q) args st 0 0 (wA w)) (F0 m 273 ls [.int (oI t0)]) := by

  intro y1 y2 y3 y4 y7 y9 t0 σ H locs ls ry1 ry2 ry3 ry4 ry7 ry9 rt0 hl hW hS h
  unfold wp_House_goesTogether_b273 at h
  refine lv_iconst (v := oI 1) X.1 X.2.1 dX1_goesTogether_273 rfl ?_
  refine lv_goto (tgt := 278) X.1 X.2.1 dX1_goesTogether_274 (by decide) ?_
  exact hK278 y1 y2 y3 y4 y7 y9 1 t0 σ _ _ _ ry1 ry2 ry3 ry4 ry7 ry9 rZ_1 rt0 (lv_sub hl [0, 1, 2, 3, 4, 5, 6] rfl) hW hS h
set_option maxHeartbeats 4000000 in
set_option maxRecDepth 100000 in
theorem wk_House_goesTogether_b277 {p : Program} {l : Launch} {e : Env} {st : State} {m : MethodId} {args : Array Value} {below : List Frame} {meth : Method} {c : Code} {w : Wp} {Q : Int → St → Prop} (X : CallFix p m c cX1_goesTogether 14 st args lw_all RX1) (hr : meth.sig.returnType = (some .boolean)) (hlk : meth.locks = false) (hT : Tb w st) (hV : Hvl w) (K278 : Int → Int → Int → Int → Int → Int → Int → Int → St → Prop) (hK278 : ∀ (y1 y2 y3 y4 y7 y9 t0 t1 : Int) (σ : St) (H : Heap) (locs : List Loc) (ls : Array Slot), rI y1 → rI y2 → rI y3 → rI y4 → rJ y7 → rJ y9 → rZ t0 → rZ t1 → lv_has ls 14 [(0, .ref (wad w 1 0)), (1, .int (oI y1)), (2, .int (oI y2)), (3, .int (oI y3)), (4, .int (oI y4)), (7, .long (oL y7)), (9, .long (oL y9))] → Wo w σ H → va_S (wA w) st.heap H locs → K278 y1 y2 y3 y4 y7 y9 t0 t1 σ → W p l e (headSpec (ws_ yX1_goesTogether cX1_goesTogether 14 (some .boolean)) rm_House_goesTogether).room st m args below meth c H locs 0 0 (MQ below (QcZ w Q) args st 0 0 (wA w)) (F0 m 278 ls [.int (oI t0), .int (oI t1)])) : ∀ (y1 y2 y3 y4 y7 y9 t0 : Int) (σ : St) (H : Heap) (locs : List Loc) (ls : Array Slot), rI y1 → rI y2 → rI y3 → rI y4 → rJ y7 → rJ y9 → rZ t0 → lv_has ls 14 [(0, .ref (wad w 1 0)), (1, .int (oI y1)), (2, .int (oI y2)), (3, .int (oI y3)), (4, .int (oI y4)), (7, .long (oL y7)), (9, .long (oL y9))] → Wo w σ H → va_S (wA w) st.heap H locs → wp_House_goesTogether_b277 (wc w) (wtv w) Q K278 y1 y2 y3 y4 y7 y9 t0 σ → W p l e (headSpec (ws_ yX1_goesTogether cX1_goesTogether 14 (some .boolean)) rm_House_goesTogether).room st m args below meth c H locs 0 0 (MQ below (QcZ w Q) args st 0 0 (wA w)) (F0 m 277 ls [.int (oI t0)]) := by

  intro y1 y2 y3 y4 y7 y9 t0 σ H locs ls ry1 ry2 ry3 ry4 ry7 ry9 rt0 hl hW hS h
  unfold wp_House_goesTogether_b277 at h
  refine lv_iconst (v := oI 0) X.1 X.2.1 dX1_goesTogether_277 rfl ?_
  exact hK278 y1 y2 y3 y4 y7 y9 0 t0 σ _ _ _ ry1 ry2 ry3 ry4 ry7 ry9 rZ_0 rt0 (lv_sub hl [0, 1, 2, 3, 4, 5, 6] rfl) hW hS h
set_option maxHeartbeats 4000000 in
set_option maxRecDepth 100000 in
theorem wk_House_goesTogether_b278 {p : Program} {l : Launch} {e : Env} {st : State} {m : MethodId} {args : Array Value} {below : List Frame} {meth : Method} {c : Code} {w : Wp} {Q : Int → St → Prop} (X : CallFix p m c cX1_goesTogether 14 st args lw_all RX1) (hr : meth.sig.returnType = (some .boolean)) (hlk : meth.locks = false) (hT : Tb w st) (hV : Hvl w) (K536 : Int → Int → Int → Int → Int → Int → Int → St → Prop) (hK536 : ∀ (y1 y2 y3 y4 y5 y7 y9 : Int) (σ : St) (H : Heap) (locs : List Loc) (ls : Array Slot), rI y1 → rI y2 → rI y3 → rI y4 → rZ y5 → rJ y7 → rJ y9 → lv_has ls 14 [(0, .ref (wad w 1 0)), (1, .int (oI y1)), (2, .int (oI y2)), (3, .int (oI y3)), (4, .int (oI y4)), (5, .int (oI y5)), (7, .long (oL y7)), (9, .long (oL y9))] → Wo w σ H → va_S (wA w) st.heap H locs → K536 y1 y2 y3 y4 y5 y7 y9 σ → W p l e (headSpec (ws_ yX1_goesTogether cX1_goesTogether 14 (some .boolean)) rm_House_goesTogether).room st m args below meth c H locs 0 0 (MQ below (QcZ w Q) args st 0 0 (wA w)) (F0 m 536 ls [])) : ∀ (y1 y2 y3 y4 y7 y9 t0 t1 : Int) (σ : St) (H : Heap) (locs : List Loc) (ls : Array Slot), rI y1 → rI y2 → rI y3 → rI y4 → rJ y7 → rJ y9 → rZ t0 → rZ t1 → lv_has ls 14 [(0, .ref (wad w 1 0)), (1, .int (oI y1)), (2, .int (oI y2)), (3, .int (oI y3)), (4, .int (oI y4)), (7, .long (oL y7)), (9, .long (oL y9))] → Wo w σ H → va_S (wA w) st.heap H locs → wp_House_goesTogether_b278 (wc w) (wtv w) Q K536 y1 y2 y3 y4 y7 y9 t0 t1 σ → W p l e (headSpec (ws_ yX1_goesTogether cX1_goesTogether 14 (some .boolean)) rm_House_goesTogether).room st m args below meth c H locs 0 0 (MQ below (QcZ w Q) args st 0 0 (wA w)) (F0 m 278 ls [.int (oI t0), .int (oI t1)]) := by

  intro y1 y2 y3 y4 y7 y9 t0 t1 σ H locs ls ry1 ry2 ry3 ry4 ry7 ry9 rt0 rt1 hl hW hS h
  unfold wp_House_goesTogether_b278 at h
  refine w_iand X dX1_goesTogether_278 ?_
  refine w_top (fun y5_233 ey5_233 => ?_)
  have h := h y5_233 ey5_233
  have ry5_233 : rZ y5_233 := by rw [ey5_233]; exact (iand_Z rt1 rt0)
  refine lv_istore (i := 5) (lv' := [(5, .int (oI y5_233)), (0, .ref (wad w 1 0)), (1, .int (oI y1)), (2, .int (oI y2)), (3, .int (oI y3)), (4, .int (oI y4)), (7, .long (oL y7)), (9, .long (oL y9))]) X.1 X.2.1 dX1_goesTogether_279 hl (by decide) (by first | rfl | simp [catK, catI, catR, catL]) (fun ls hl => ?_)
  refine lv_goto (tgt := 536) X.1 X.2.1 dX1_goesTogether_281 (by decide) ?_
  exact hK536 y1 y2 y3 y4 y5_233 y7 y9 σ _ _ _ ry1 ry2 ry3 ry4 ry5_233 ry7 ry9 (lv_sub hl [1, 2, 3, 4, 5, 0, 6, 7] rfl) hW hS h
set_option maxHeartbeats 4000000 in
set_option maxRecDepth 100000 in
theorem wk_House_goesTogether_b561 {p : Program} {l : Launch} {e : Env} {st : State} {m : MethodId} {args : Array Value} {below : List Frame} {meth : Method} {c : Code} {w : Wp} {Q : Int → St → Prop} (X : CallFix p m c cX1_goesTogether 14 st args lw_all RX1) (hr : meth.sig.returnType = (some .boolean)) (hlk : meth.locks = false) (hT : Tb w st) (hV : Hvl w) (K30 : Int → Int → Int → Int → Int → Int → St → Prop) (hK30 : ∀ (y1 y2 y3 y4 y5 y6 : Int) (σ : St) (H : Heap) (locs : List Loc) (ls : Array Slot), rI y1 → rI y2 → rI y3 → rI y4 → rZ y5 → rZ y6 → lv_has ls 14 [(0, .ref (wad w 1 0)), (1, .int (oI y1)), (2, .int (oI y2)), (3, .int (oI y3)), (4, .int (oI y4)), (5, .int (oI y5)), (6, .int (oI y6))] → Wo w σ H → va_S (wA w) st.heap H locs → K30 y1 y2 y3 y4 y5 y6 σ → W p l e (headSpec (ws_ yX1_goesTogether cX1_goesTogether 14 (some .boolean)) rm_House_goesTogether).room st m args below meth c H locs 0 0 (MQ below (QcZ w Q) args st 0 0 (wA w)) (F0 m 30 ls [])) : ∀ (y1 y2 y3 y4 y5 y9 t0 : Int) (σ : St) (H : Heap) (locs : List Loc) (ls : Array Slot), rI y1 → rI y2 → rI y3 → rI y4 → rZ y5 → rJ y9 → rJ t0 → lv_has ls 14 [(0, .ref (wad w 1 0)), (1, .int (oI y1)), (2, .int (oI y2)), (3, .int (oI y3)), (4, .int (oI y4)), (5, .int (oI y5)), (9, .long (oL y9))] → Wo w σ H → va_S (wA w) st.heap H locs → wp_House_goesTogether_b561 (wc w) (wtv w) Q K30 y1 y2 y3 y4 y5 y9 t0 σ → W p l e (headSpec (ws_ yX1_goesTogether cX1_goesTogether 14 (some .boolean)) rm_House_goesTogether).room st m args below meth c H locs 0 0 (MQ below (QcZ w Q) args st 0 0 (wA w)) (F0 m 561 ls [.long (oL t0), .ref (wad w 6 0)]) := by
  have vl6_0 : vl w 6 0 := hV.hv 6 rfl ⟨by omega, by show _ < (2 : Int); omega⟩
  intro y1 y2 y3 y4 y5 y9 t0 σ H locs ls ry1 ry2 ry3 ry4 ry5 ry9 rt0 hl hW hS h
  unfold wp_House_goesTogether_b561 at h
  refine lv_lload X.1 X.2.1 dX1_goesTogether_561 (lv_at hl 6 rfl) ?_
  refine lv_lconst (v := oL 1) X.1 X.2.1 dX1_goesTogether_563 (by decide) ?_
  refine w_ladd X dX1_goesTogether_564 ?_
  refine wr_Z (rV (As := [.long (oL t0), .long (oL (w64 (y9 + 1)))]) (rest := []) X hT hW hS (met_Index_seek l (w := w) hV 0 t0 (w64 (y9 + 1)) _ σ (by omega) rt0 (w64_r _) h) (cwV 2 X.2.2.2.2 (lw_V q1064 q906 q907 q139 q908) rfl rfl rfl (by decide +kernel) ⟨Nat.le_of_ble_eq_true rfl, Nat.le_of_ble_eq_true rfl⟩) vl6_0 (by decide) rfl rfl hl.1 rfl (by first | exact Nat.le_of_ble_eq_true rfl | simp [catK, catI, catR, catL]) dX1_goesTogether_565 ⟨Nat.le_refl _, Nat.le_refl _⟩) hS (fun r_234 σ_235 H locs rr_234 rkσ_235 h hWσ_235 hS => ?_)
  have h := h rr_234 rkσ_235
  refine lv_istore (i := 6) (lv' := [(6, .int (oI r_234)), (0, .ref (wad w 1 0)), (1, .int (oI y1)), (2, .int (oI y2)), (3, .int (oI y3)), (4, .int (oI y4)), (5, .int (oI y5)), (9, .long (oL y9))]) X.1 X.2.1 dX1_goesTogether_568 hl (by decide) (by first | rfl | simp [catK, catI, catR, catL]) (fun ls hl => ?_)
  refine lv_goto (tgt := 30) X.1 X.2.1 dX1_goesTogether_570 (by decide) ?_
  exact hK30 y1 y2 y3 y4 y5 r_234 σ_235 _ _ _ ry1 ry2 ry3 ry4 ry5 rr_234 (lv_sub hl [1, 2, 3, 4, 5, 6, 0] rfl) hWσ_235 hS h
set_option maxHeartbeats 4000000 in
set_option maxRecDepth 100000 in
theorem wk_House_goesTogether_b218 {p : Program} {l : Launch} {e : Env} {st : State} {m : MethodId} {args : Array Value} {below : List Frame} {meth : Method} {c : Code} {w : Wp} {Q : Int → St → Prop} (X : CallFix p m c cX1_goesTogether 14 st args lw_all RX1) (hr : meth.sig.returnType = (some .boolean)) (hlk : meth.locks = false) (hT : Tb w st) (hV : Hvl w) (K223 : Int → Int → Int → Int → Int → Int → Int → Int → Int → St → Prop) (hK223 : ∀ (y1 y2 y3 y4 y7 y9 y11 t0 t1 : Int) (σ : St) (H : Heap) (locs : List Loc) (ls : Array Slot), rI y1 → rI y2 → rI y3 → rI y4 → rJ y7 → rJ y9 → rI y11 → rZ t0 → rZ t1 → lv_has ls 14 [(0, .ref (wad w 1 0)), (1, .int (oI y1)), (2, .int (oI y2)), (3, .int (oI y3)), (4, .int (oI y4)), (7, .long (oL y7)), (9, .long (oL y9)), (11, .int (oI y11))] → Wo w σ H → va_S (wA w) st.heap H locs → K223 y1 y2 y3 y4 y7 y9 y11 t0 t1 σ → W p l e (headSpec (ws_ yX1_goesTogether cX1_goesTogether 14 (some .boolean)) rm_House_goesTogether).room st m args below meth c H locs 0 0 (MQ below (QcZ w Q) args st 0 0 (wA w)) (F0 m 223 ls [.int (oI t0), .int (oI t1)])) : ∀ (y1 y2 y3 y4 y7 y9 y11 t0 : Int) (σ : St) (H : Heap) (locs : List Loc) (ls : Array Slot), rI y1 → rI y2 → rI y3 → rI y4 → rJ y7 → rJ y9 → rI y11 → rZ t0 → lv_has ls 14 [(0, .ref (wad w 1 0)), (1, .int (oI y1)), (2, .int (oI y2)), (3, .int (oI y3)), (4, .int (oI y4)), (7, .long (oL y7)), (9, .long (oL y9)), (11, .int (oI y11))] → Wo w σ H → va_S (wA w) st.heap H locs → wp_House_goesTogether_b218 (wc w) (wtv w) Q K223 y1 y2 y3 y4 y7 y9 y11 t0 σ → W p l e (headSpec (ws_ yX1_goesTogether cX1_goesTogether 14 (some .boolean)) rm_House_goesTogether).room st m args below meth c H locs 0 0 (MQ below (QcZ w Q) args st 0 0 (wA w)) (F0 m 218 ls [.int (oI t0)]) := by

  intro y1 y2 y3 y4 y7 y9 y11 t0 σ H locs ls ry1 ry2 ry3 ry4 ry7 ry9 ry11 rt0 hl hW hS h
  unfold wp_House_goesTogether_b218 at h
  refine lv_iconst (v := oI 1) X.1 X.2.1 dX1_goesTogether_218 rfl ?_
  refine lv_goto (tgt := 223) X.1 X.2.1 dX1_goesTogether_219 (by decide) ?_
  exact hK223 y1 y2 y3 y4 y7 y9 y11 1 t0 σ _ _ _ ry1 ry2 ry3 ry4 ry7 ry9 ry11 rZ_1 rt0 (lv_sub hl [0, 1, 2, 3, 4, 5, 6, 7] rfl) hW hS h
set_option maxHeartbeats 4000000 in
set_option maxRecDepth 100000 in
theorem wk_House_goesTogether_b222 {p : Program} {l : Launch} {e : Env} {st : State} {m : MethodId} {args : Array Value} {below : List Frame} {meth : Method} {c : Code} {w : Wp} {Q : Int → St → Prop} (X : CallFix p m c cX1_goesTogether 14 st args lw_all RX1) (hr : meth.sig.returnType = (some .boolean)) (hlk : meth.locks = false) (hT : Tb w st) (hV : Hvl w) (K223 : Int → Int → Int → Int → Int → Int → Int → Int → Int → St → Prop) (hK223 : ∀ (y1 y2 y3 y4 y7 y9 y11 t0 t1 : Int) (σ : St) (H : Heap) (locs : List Loc) (ls : Array Slot), rI y1 → rI y2 → rI y3 → rI y4 → rJ y7 → rJ y9 → rI y11 → rZ t0 → rZ t1 → lv_has ls 14 [(0, .ref (wad w 1 0)), (1, .int (oI y1)), (2, .int (oI y2)), (3, .int (oI y3)), (4, .int (oI y4)), (7, .long (oL y7)), (9, .long (oL y9)), (11, .int (oI y11))] → Wo w σ H → va_S (wA w) st.heap H locs → K223 y1 y2 y3 y4 y7 y9 y11 t0 t1 σ → W p l e (headSpec (ws_ yX1_goesTogether cX1_goesTogether 14 (some .boolean)) rm_House_goesTogether).room st m args below meth c H locs 0 0 (MQ below (QcZ w Q) args st 0 0 (wA w)) (F0 m 223 ls [.int (oI t0), .int (oI t1)])) : ∀ (y1 y2 y3 y4 y7 y9 y11 t0 : Int) (σ : St) (H : Heap) (locs : List Loc) (ls : Array Slot), rI y1 → rI y2 → rI y3 → rI y4 → rJ y7 → rJ y9 → rI y11 → rZ t0 → lv_has ls 14 [(0, .ref (wad w 1 0)), (1, .int (oI y1)), (2, .int (oI y2)), (3, .int (oI y3)), (4, .int (oI y4)), (7, .long (oL y7)), (9, .long (oL y9)), (11, .int (oI y11))] → Wo w σ H → va_S (wA w) st.heap H locs → wp_House_goesTogether_b222 (wc w) (wtv w) Q K223 y1 y2 y3 y4 y7 y9 y11 t0 σ → W p l e (headSpec (ws_ yX1_goesTogether cX1_goesTogether 14 (some .boolean)) rm_House_goesTogether).room st m args below meth c H locs 0 0 (MQ below (QcZ w Q) args st 0 0 (wA w)) (F0 m 222 ls [.int (oI t0)]) := by

  intro y1 y2 y3 y4 y7 y9 y11 t0 σ H locs ls ry1 ry2 ry3 ry4 ry7 ry9 ry11 rt0 hl hW hS h
  unfold wp_House_goesTogether_b222 at h
  refine lv_iconst (v := oI 0) X.1 X.2.1 dX1_goesTogether_222 rfl ?_
  exact hK223 y1 y2 y3 y4 y7 y9 y11 0 t0 σ _ _ _ ry1 ry2 ry3 ry4 ry7 ry9 ry11 rZ_0 rt0 (lv_sub hl [0, 1, 2, 3, 4, 5, 6, 7] rfl) hW hS h
set_option maxHeartbeats 4000000 in
set_option maxRecDepth 100000 in
theorem wk_House_goesTogether_b223 {p : Program} {l : Launch} {e : Env} {st : State} {m : MethodId} {args : Array Value} {below : List Frame} {meth : Method} {c : Code} {w : Wp} {Q : Int → St → Prop} (X : CallFix p m c cX1_goesTogether 14 st args lw_all RX1) (hr : meth.sig.returnType = (some .boolean)) (hlk : meth.locks = false) (hT : Tb w st) (hV : Hvl w) (K536 : Int → Int → Int → Int → Int → Int → Int → St → Prop) (hK536 : ∀ (y1 y2 y3 y4 y5 y7 y9 : Int) (σ : St) (H : Heap) (locs : List Loc) (ls : Array Slot), rI y1 → rI y2 → rI y3 → rI y4 → rZ y5 → rJ y7 → rJ y9 → lv_has ls 14 [(0, .ref (wad w 1 0)), (1, .int (oI y1)), (2, .int (oI y2)), (3, .int (oI y3)), (4, .int (oI y4)), (5, .int (oI y5)), (7, .long (oL y7)), (9, .long (oL y9))] → Wo w σ H → va_S (wA w) st.heap H locs → K536 y1 y2 y3 y4 y5 y7 y9 σ → W p l e (headSpec (ws_ yX1_goesTogether cX1_goesTogether 14 (some .boolean)) rm_House_goesTogether).room st m args below meth c H locs 0 0 (MQ below (QcZ w Q) args st 0 0 (wA w)) (F0 m 536 ls [])) : ∀ (y1 y2 y3 y4 y7 y9 y11 t0 t1 : Int) (σ : St) (H : Heap) (locs : List Loc) (ls : Array Slot), rI y1 → rI y2 → rI y3 → rI y4 → rJ y7 → rJ y9 → rI y11 → rZ t0 → rZ t1 → lv_has ls 14 [(0, .ref (wad w 1 0)), (1, .int (oI y1)), (2, .int (oI y2)), (3, .int (oI y3)), (4, .int (oI y4)), (7, .long (oL y7)), (9, .long (oL y9)), (11, .int (oI y11))] → Wo w σ H → va_S (wA w) st.heap H locs → wp_House_goesTogether_b223 (wc w) (wtv w) Q K536 y1 y2 y3 y4 y7 y9 y11 t0 t1 σ → W p l e (headSpec (ws_ yX1_goesTogether cX1_goesTogether 14 (some .boolean)) rm_House_goesTogether).room st m args below meth c H locs 0 0 (MQ below (QcZ w Q) args st 0 0 (wA w)) (F0 m 223 ls [.int (oI t0), .int (oI t1)]) := by
  have vl1_0 : vl w 1 0 := hV.hv 1 rfl ⟨by omega, by show _ < (1 : Int); omega⟩
  have vl10_0 : vl w 10 0 := hV.hv 10 rfl ⟨by omega, by show _ < (4 : Int); omega⟩
  intro y1 y2 y3 y4 y7 y9 y11 t0 t1 σ H locs ls ry1 ry2 ry3 ry4 ry7 ry9 ry11 rt0 rt1 hl hW hS h
  unfold wp_House_goesTogether_b223 at h
  refine w_iand X dX1_goesTogether_223 ?_
  refine w_top (fun y5_236 ey5_236 => ?_)
  have h := h y5_236 ey5_236
  have ry5_236 : rZ y5_236 := by rw [ey5_236]; exact (iand_Z rt1 rt0)
  refine lv_istore (i := 5) (lv' := [(5, .int (oI y5_236)), (0, .ref (wad w 1 0)), (1, .int (oI y1)), (2, .int (oI y2)), (3, .int (oI y3)), (4, .int (oI y4)), (7, .long (oL y7)), (9, .long (oL y9)), (11, .int (oI y11))]) X.1 X.2.1 dX1_goesTogether_224 hl (by decide) (by first | rfl | simp [catK, catI, catR, catL]) (fun ls hl => ?_)
  refine lv_iload X.1 X.2.1 dX1_goesTogether_226 (lv_at hl 0 rfl) ?_
  refine lv_aload_n X.1 X.2.1 dX1_goesTogether_228 rfl (lv_at hl 1 rfl) ?_
  refine lv_iload X.1 X.2.1 dX1_goesTogether_229 (lv_at hl 8 rfl) ?_
  refine lv_iconst (v := oI 3) X.1 X.2.1 dX1_goesTogether_231 rfl ?_
  refine wr_I (rV (As := [.int (oI y11), .int (oI 3)]) (rest := [.int (oI y5_236)]) X hT hW hS (met_House_many l (w := w) hV y11 3 _ σ ry11 ((rB_lit 3 (by decide)).i) h) (cwV 2 X.2.2.2.2 (lw_V q1826 q1828 qs89 q131 q1829) rfl rfl rfl (by decide +kernel) ⟨Nat.le_of_ble_eq_true rfl, Nat.le_of_ble_eq_true rfl⟩) vl1_0 (by decide) rfl rfl hl.1 rfl (by first | exact Nat.le_of_ble_eq_true rfl | simp [catK, catI, catR, catL]) dX1_goesTogether_232 ⟨Nat.le_refl _, Nat.le_refl _⟩) hS (fun r_237 σ_238 H locs rr_237 rkσ_238 h hWσ_238 hS => ?_)
  have h := h rr_237 rkσ_238
  refine lv_aload_n X.1 X.2.1 dX1_goesTogether_235 rfl (lv_at hl 1 rfl) ?_
  refine wg (v := .ref (wad w 10 0)) X hT hWσ_238 1 14 78 vl1_0 rfl rfl (by decide) rfl (by decide) in_X1 q1084 rfl dX1_goesTogether_236 ?_
  refine wg (v := .int (oI (gI σ_238 645 0))) X hT hWσ_238 10 5 645 vl10_0 rfl rfl (by decide) rfl (by decide) in_X3 q194 rfl dX1_goesTogether_239 ?_
  refine w_icmp_ne (tgt := 277) X rr_237 (hWσ_238.r.i 645 0 rfl) dX1_goesTogether_242 (by decide) (fun hc => ?_) (fun hc => ?_)
  · have h := h.1 hc
    exact wk_House_goesTogether_b277 X hr hlk hT hV (wp_House_goesTogether_b278 (wc w) (wtv w) Q K536) (wk_House_goesTogether_b278 X hr hlk hT hV K536 hK536) y1 y2 y3 y4 y7 y9 y5_236 σ_238 _ _ _ ry1 ry2 ry3 ry4 ry7 ry9 ry5_236 (lv_sub hl [1, 2, 3, 4, 5, 6, 7] rfl) hWσ_238 hS h
  · have h := h.2 hc
    refine lv_aload_n X.1 X.2.1 dX1_goesTogether_245 rfl (lv_at hl 1 rfl) ?_
    refine wg (v := .ref (wad w 10 0)) X hT hWσ_238 1 14 78 vl1_0 rfl rfl (by decide) rfl (by decide) in_X1 q1084 rfl dX1_goesTogether_246 ?_
    refine wg (v := .int (oI (gI σ_238 641 0))) X hT hWσ_238 10 1 641 vl10_0 rfl rfl (by decide) rfl (by decide) in_X3 q190 rfl dX1_goesTogether_249 ?_
    refine lv_iconst (v := oI 3) X.1 X.2.1 dX1_goesTogether_252 rfl ?_
    refine w_icmp_ne (tgt := 273) X (hWσ_238.r.i 641 0 rfl) ((rB_lit 3 (by decide)).i) dX1_goesTogether_253 (by decide) (fun hc => ?_) (fun hc => ?_)
    · have h := h.1 hc
      exact wk_House_goesTogether_b273 X hr hlk hT hV (wp_House_goesTogether_b278 (wc w) (wtv w) Q K536) (wk_House_goesTogether_b278 X hr hlk hT hV K536 hK536) y1 y2 y3 y4 y7 y9 y5_236 σ_238 _ _ _ ry1 ry2 ry3 ry4 ry7 ry9 ry5_236 (lv_sub hl [1, 2, 3, 4, 5, 6, 7] rfl) hWσ_238 hS h
    · have h := h.2 hc
      refine lv_aload_n X.1 X.2.1 dX1_goesTogether_256 rfl (lv_at hl 1 rfl) ?_
      refine lv_iload X.1 X.2.1 dX1_goesTogether_257 (lv_at hl 8 rfl) ?_
      refine lv_iconst (v := oI 0) X.1 X.2.1 dX1_goesTogether_259 rfl ?_
      refine wr_I (rV (As := [.int (oI y11), .int (oI 0)]) (rest := [.int (oI y5_236)]) X hT hWσ_238 hS (met_House_piece l (w := w) hV y11 0 _ σ_238 ry11 rZ_0.i h) (cwV 2 X.2.2.2.2 (lw_V q1479 q1481 qs64 q131 q1482) rfl rfl rfl (by decide +kernel) ⟨Nat.le_of_ble_eq_true rfl, Nat.le_of_ble_eq_true rfl⟩) vl1_0 (by decide) rfl rfl hl.1 rfl (by first | exact Nat.le_of_ble_eq_true rfl | simp [catK, catI, catR, catL]) dX1_goesTogether_260 ⟨Nat.le_refl _, Nat.le_refl _⟩) hS (fun r_239 σ_240 H locs rr_239 rkσ_240 h hWσ_240 hS => ?_)
      have h := h rr_239 rkσ_240
      refine lv_aload_n X.1 X.2.1 dX1_goesTogether_263 rfl (lv_at hl 1 rfl) ?_
      refine wg (v := .ref (wad w 10 0)) X hT hWσ_240 1 14 78 vl1_0 rfl rfl (by decide) rfl (by decide) in_X1 q1084 rfl dX1_goesTogether_264 ?_
      refine wg (v := .int (oI (gI σ_240 643 0))) X hT hWσ_240 10 3 643 vl10_0 rfl rfl (by decide) rfl (by decide) in_X3 q192 rfl dX1_goesTogether_267 ?_
      refine w_icmp_ne (tgt := 277) X rr_239 (hWσ_240.r.i 643 0 rfl) dX1_goesTogether_270 (by decide) (fun hc => ?_) (fun hc => ?_)
      · have h := h.1 hc
        exact wk_House_goesTogether_b277 X hr hlk hT hV (wp_House_goesTogether_b278 (wc w) (wtv w) Q K536) (wk_House_goesTogether_b278 X hr hlk hT hV K536 hK536) y1 y2 y3 y4 y7 y9 y5_236 σ_240 _ _ _ ry1 ry2 ry3 ry4 ry7 ry9 ry5_236 (lv_sub hl [1, 2, 3, 4, 5, 6, 7] rfl) hWσ_240 hS h
      · have h := h.2 hc
        exact wk_House_goesTogether_b273 X hr hlk hT hV (wp_House_goesTogether_b278 (wc w) (wtv w) Q K536) (wk_House_goesTogether_b278 X hr hlk hT hV K536 hK536) y1 y2 y3 y4 y7 y9 y5_236 σ_240 _ _ _ ry1 ry2 ry3 ry4 ry7 ry9 ry5_236 (lv_sub hl [1, 2, 3, 4, 5, 6, 7] rfl) hWσ_240 hS h
set_option maxHeartbeats 4000000 in
set_option maxRecDepth 100000 in
theorem wk_House_goesTogether_b636 {p : Program} {l : Launch} {e : Env} {st : State} {m : MethodId} {args : Array Value} {below : List Frame} {meth : Method} {c : Code} {w : Wp} {Q : Int → St → Prop} (X : CallFix p m c cX1_goesTogether 14 st args lw_all RX1) (hr : meth.sig.returnType = (some .boolean)) (hlk : meth.locks = false) (hT : Tb w st) (hV : Hvl w) (K637 : Int → Int → Int → Int → Int → Int → St → Prop) (hK637 : ∀ (y1 y2 y3 y7 t0 t1 : Int) (σ : St) (H : Heap) (locs : List Loc) (ls : Array Slot), rI y1 → rI y2 → rI y3 → rI y7 → rZ t0 → rZ t1 → lv_has ls 14 [(0, .ref (wad w 1 0)), (1, .int (oI y1)), (2, .int (oI y2)), (3, .int (oI y3)), (7, .int (oI y7))] → Wo w σ H → va_S (wA w) st.heap H locs → K637 y1 y2 y3 y7 t0 t1 σ → W p l e (headSpec (ws_ yX1_goesTogether cX1_goesTogether 14 (some .boolean)) rm_House_goesTogether).room st m args below meth c H locs 0 0 (MQ below (QcZ w Q) args st 0 0 (wA w)) (F0 m 637 ls [.int (oI t0), .int (oI t1)])) : ∀ (y1 y2 y3 y7 t0 : Int) (σ : St) (H : Heap) (locs : List Loc) (ls : Array Slot), rI y1 → rI y2 → rI y3 → rI y7 → rZ t0 → lv_has ls 14 [(0, .ref (wad w 1 0)), (1, .int (oI y1)), (2, .int (oI y2)), (3, .int (oI y3)), (7, .int (oI y7))] → Wo w σ H → va_S (wA w) st.heap H locs → wp_House_goesTogether_b636 (wc w) (wtv w) Q K637 y1 y2 y3 y7 t0 σ → W p l e (headSpec (ws_ yX1_goesTogether cX1_goesTogether 14 (some .boolean)) rm_House_goesTogether).room st m args below meth c H locs 0 0 (MQ below (QcZ w Q) args st 0 0 (wA w)) (F0 m 636 ls [.int (oI t0)]) := by

  intro y1 y2 y3 y7 t0 σ H locs ls ry1 ry2 ry3 ry7 rt0 hl hW hS h
  unfold wp_House_goesTogether_b636 at h
  refine lv_iconst (v := oI 0) X.1 X.2.1 dX1_goesTogether_636 rfl ?_
  exact hK637 y1 y2 y3 y7 0 t0 σ _ _ _ ry1 ry2 ry3 ry7 rZ_0 rt0 (lv_sub hl [0, 1, 2, 3, 4] rfl) hW hS h
set_option maxHeartbeats 4000000 in
set_option maxRecDepth 100000 in
theorem wk_House_goesTogether_b637 {p : Program} {l : Launch} {e : Env} {st : State} {m : MethodId} {args : Array Value} {below : List Frame} {meth : Method} {c : Code} {w : Wp} {Q : Int → St → Prop} (X : CallFix p m c cX1_goesTogether 14 st args lw_all RX1) (hr : meth.sig.returnType = (some .boolean)) (hlk : meth.locks = false) (hT : Tb w st) (hV : Hvl w) (K576 : Int → Int → Int → Int → Int → St → Prop) (hK576 : ∀ (y1 y2 y3 y5 y7 : Int) (σ : St) (H : Heap) (locs : List Loc) (ls : Array Slot), rI y1 → rI y2 → rI y3 → rZ y5 → rI y7 → lv_has ls 14 [(0, .ref (wad w 1 0)), (1, .int (oI y1)), (2, .int (oI y2)), (3, .int (oI y3)), (5, .int (oI y5)), (7, .int (oI y7))] → Wo w σ H → va_S (wA w) st.heap H locs → K576 y1 y2 y3 y5 y7 σ → W p l e (headSpec (ws_ yX1_goesTogether cX1_goesTogether 14 (some .boolean)) rm_House_goesTogether).room st m args below meth c H locs 0 0 (MQ below (QcZ w Q) args st 0 0 (wA w)) (F0 m 576 ls [])) : ∀ (y1 y2 y3 y7 t0 t1 : Int) (σ : St) (H : Heap) (locs : List Loc) (ls : Array Slot), rI y1 → rI y2 → rI y3 → rI y7 → rZ t0 → rZ t1 → lv_has ls 14 [(0, .ref (wad w 1 0)), (1, .int (oI y1)), (2, .int (oI y2)), (3, .int (oI y3)), (7, .int (oI y7))] → Wo w σ H → va_S (wA w) st.heap H locs → wp_House_goesTogether_b637 (wc w) (wtv w) Q K576 y1 y2 y3 y7 t0 t1 σ → W p l e (headSpec (ws_ yX1_goesTogether cX1_goesTogether 14 (some .boolean)) rm_House_goesTogether).room st m args below meth c H locs 0 0 (MQ below (QcZ w Q) args st 0 0 (wA w)) (F0 m 637 ls [.int (oI t0), .int (oI t1)]) := by

  intro y1 y2 y3 y7 t0 t1 σ H locs ls ry1 ry2 ry3 ry7 rt0 rt1 hl hW hS h
  unfold wp_House_goesTogether_b637 at h
  refine w_iand X dX1_goesTogether_637 ?_
  refine w_top (fun y5_241 ey5_241 => ?_)
  have h := h y5_241 ey5_241
  have ry5_241 : rZ y5_241 := by rw [ey5_241]; exact (iand_Z rt1 rt0)
  refine lv_istore (i := 5) (lv' := [(5, .int (oI y5_241)), (0, .ref (wad w 1 0)), (1, .int (oI y1)), (2, .int (oI y2)), (3, .int (oI y3)), (7, .int (oI y7))]) X.1 X.2.1 dX1_goesTogether_638 hl (by decide) (by first | rfl | simp [catK, catI, catR, catL]) (fun ls hl => ?_)
  obtain ⟨y7_242, ey7_242⟩ : ∃ y : Int, y = w32 (y7 + 1) := ⟨_, rfl⟩
  have h := h y7_242 ey7_242
  have ry7_242 : rI y7_242 := by rw [ey7_242]; exact w32_r _
  refine lv_iinc (v := oI y7_242) (lv' := [(7, .int (oI y7_242)), (5, .int (oI y5_241)), (0, .ref (wad w 1 0)), (1, .int (oI y1)), (2, .int (oI y2)), (3, .int (oI y3))]) X.1 X.2.1 dX1_goesTogether_640 hl (k := 5) rfl (by rw [ey7_242]; exact oI_add _ _) (by decide) (by first | rfl | simp [catK, catI, catR, catL]) (fun ls hl => ?_)
  refine lv_goto (tgt := 576) X.1 X.2.1 dX1_goesTogether_643 (by decide) ?_
  exact hK576 y1 y2 y3 y5_241 y7_242 σ _ _ _ ry1 ry2 ry3 ry5_241 ry7_242 (lv_sub hl [2, 3, 4, 5, 1, 0] rfl) hW hS h
set_option maxHeartbeats 4000000 in
set_option maxRecDepth 100000 in
theorem wk_House_goesTogether_b140 {p : Program} {l : Launch} {e : Env} {st : State} {m : MethodId} {args : Array Value} {below : List Frame} {meth : Method} {c : Code} {w : Wp} {Q : Int → St → Prop} (X : CallFix p m c cX1_goesTogether 14 st args lw_all RX1) (hr : meth.sig.returnType = (some .boolean)) (hlk : meth.locks = false) (hT : Tb w st) (hV : Hvl w) (K141 : Int → Int → Int → Int → Int → Int → Int → Int → Int → St → Prop) (hK141 : ∀ (y1 y2 y4 y5 y7 y9 y11 t0 t1 : Int) (σ : St) (H : Heap) (locs : List Loc) (ls : Array Slot), rI y1 → rI y2 → rI y4 → rZ y5 → rJ y7 → rJ y9 → rI y11 → rZ t0 → rI t1 → lv_has ls 14 [(0, .ref (wad w 1 0)), (1, .int (oI y1)), (2, .int (oI y2)), (4, .int (oI y4)), (5, .int (oI y5)), (7, .long (oL y7)), (9, .long (oL y9)), (11, .int (oI y11))] → Wo w σ H → va_S (wA w) st.heap H locs → K141 y1 y2 y4 y5 y7 y9 y11 t0 t1 σ → W p l e (headSpec (ws_ yX1_goesTogether cX1_goesTogether 14 (some .boolean)) rm_House_goesTogether).room st m args below meth c H locs 0 0 (MQ below (QcZ w Q) args st 0 0 (wA w)) (F0 m 141 ls [.int (oI t0), .int (oI t1)])) : ∀ (y1 y2 y4 y5 y7 y9 y11 t0 : Int) (σ : St) (H : Heap) (locs : List Loc) (ls : Array Slot), rI y1 → rI y2 → rI y4 → rZ y5 → rJ y7 → rJ y9 → rI y11 → rI t0 → lv_has ls 14 [(0, .ref (wad w 1 0)), (1, .int (oI y1)), (2, .int (oI y2)), (4, .int (oI y4)), (5, .int (oI y5)), (7, .long (oL y7)), (9, .long (oL y9)), (11, .int (oI y11))] → Wo w σ H → va_S (wA w) st.heap H locs → wp_House_goesTogether_b140 (wc w) (wtv w) Q K141 y1 y2 y4 y5 y7 y9 y11 t0 σ → W p l e (headSpec (ws_ yX1_goesTogether cX1_goesTogether 14 (some .boolean)) rm_House_goesTogether).room st m args below meth c H locs 0 0 (MQ below (QcZ w Q) args st 0 0 (wA w)) (F0 m 140 ls [.int (oI t0)]) := by

  intro y1 y2 y4 y5 y7 y9 y11 t0 σ H locs ls ry1 ry2 ry4 ry5 ry7 ry9 ry11 rt0 hl hW hS h
  unfold wp_House_goesTogether_b140 at h
  refine lv_iconst (v := oI 0) X.1 X.2.1 dX1_goesTogether_140 rfl ?_
  exact hK141 y1 y2 y4 y5 y7 y9 y11 0 t0 σ _ _ _ ry1 ry2 ry4 ry5 ry7 ry9 ry11 rZ_0 rt0 (lv_sub hl [0, 1, 2, 3, 4, 5, 6, 7] rfl) hW hS h
set_option maxHeartbeats 4000000 in
set_option maxRecDepth 100000 in
theorem wk_House_goesTogether_b141 {p : Program} {l : Launch} {e : Env} {st : State} {m : MethodId} {args : Array Value} {below : List Frame} {meth : Method} {c : Code} {w : Wp} {Q : Int → St → Prop} (X : CallFix p m c cX1_goesTogether 14 st args lw_all RX1) (hr : meth.sig.returnType = (some .boolean)) (hlk : meth.locks = false) (hT : Tb w st) (hV : Hvl w) (K536 : Int → Int → Int → Int → Int → Int → Int → St → Prop) (hK536 : ∀ (y1 y2 y3 y4 y5 y7 y9 : Int) (σ : St) (H : Heap) (locs : List Loc) (ls : Array Slot), rI y1 → rI y2 → rI y3 → rI y4 → rZ y5 → rJ y7 → rJ y9 → lv_has ls 14 [(0, .ref (wad w 1 0)), (1, .int (oI y1)), (2, .int (oI y2)), (3, .int (oI y3)), (4, .int (oI y4)), (5, .int (oI y5)), (7, .long (oL y7)), (9, .long (oL y9))] → Wo w σ H → va_S (wA w) st.heap H locs → K536 y1 y2 y3 y4 y5 y7 y9 σ → W p l e (headSpec (ws_ yX1_goesTogether cX1_goesTogether 14 (some .boolean)) rm_House_goesTogether).room st m args below meth c H locs 0 0 (MQ below (QcZ w Q) args st 0 0 (wA w)) (F0 m 536 ls [])) : ∀ (y1 y2 y4 y5 y7 y9 y11 t0 t1 : Int) (σ : St) (H : Heap) (locs : List Loc) (ls : Array Slot), rI y1 → rI y2 → rI y4 → rZ y5 → rJ y7 → rJ y9 → rI y11 → rZ t0 → rI t1 → lv_has ls 14 [(0, .ref (wad w 1 0)), (1, .int (oI y1)), (2, .int (oI y2)), (4, .int (oI y4)), (5, .int (oI y5)), (7, .long (oL y7)), (9, .long (oL y9)), (11, .int (oI y11))] → Wo w σ H → va_S (wA w) st.heap H locs → wp_House_goesTogether_b141 (wc w) (wtv w) Q K536 y1 y2 y4 y5 y7 y9 y11 t0 t1 σ → W p l e (headSpec (ws_ yX1_goesTogether cX1_goesTogether 14 (some .boolean)) rm_House_goesTogether).room st m args below meth c H locs 0 0 (MQ below (QcZ w Q) args st 0 0 (wA w)) (F0 m 141 ls [.int (oI t0), .int (oI t1)]) := by
  have vl1_0 : vl w 1 0 := hV.hv 1 rfl ⟨by omega, by show _ < (1 : Int); omega⟩
  have vl10_0 : vl w 10 0 := hV.hv 10 rfl ⟨by omega, by show _ < (4 : Int); omega⟩
  intro y1 y2 y4 y5 y7 y9 y11 t0 t1 σ H locs ls ry1 ry2 ry4 ry5 ry7 ry9 ry11 rt0 rt1 hl hW hS h
  unfold wp_House_goesTogether_b141 at h
  refine w_iadd X dX1_goesTogether_141 ?_
  refine w_top (fun y3_243 ey3_243 => ?_)
  have h := h y3_243 ey3_243
  have ry3_243 : rI y3_243 := by rw [ey3_243]; exact (w32_r _)
  refine lv_istore_n (i := 3) (lv' := [(3, .int (oI y3_243)), (0, .ref (wad w 1 0)), (1, .int (oI y1)), (2, .int (oI y2)), (4, .int (oI y4)), (5, .int (oI y5)), (7, .long (oL y7)), (9, .long (oL y9)), (11, .int (oI y11))]) X.1 X.2.1 dX1_goesTogether_142 rfl hl (by decide) (by first | rfl | simp [catK, catI, catR, catL]) (fun ls hl => ?_)
  refine lv_iload X.1 X.2.1 dX1_goesTogether_143 (lv_at hl 5 rfl) ?_
  refine lv_iload X.1 X.2.1 dX1_goesTogether_145 (lv_at hl 5 rfl) ?_
  refine w_if_eq (tgt := 222) X ry5.i dX1_goesTogether_147 (by decide) (fun hc => ?_) (fun hc => ?_)
  · have h := h.1 hc
    exact wk_House_goesTogether_b222 X hr hlk hT hV (wp_House_goesTogether_b223 (wc w) (wtv w) Q K536) (wk_House_goesTogether_b223 X hr hlk hT hV K536 hK536) y1 y2 y3_243 y4 y7 y9 y11 y5 σ _ _ _ ry1 ry2 ry3_243 ry4 ry7 ry9 ry11 ry5 (lv_sub hl [1, 2, 3, 0, 4, 6, 7, 8] rfl) hW hS h
  · have h := h.2 hc
    refine lv_aload_n X.1 X.2.1 dX1_goesTogether_150 rfl (lv_at hl 1 rfl) ?_
    refine wg (v := .ref (wad w 10 0)) X hT hW 1 14 78 vl1_0 rfl rfl (by decide) rfl (by decide) in_X1 q1084 rfl dX1_goesTogether_151 ?_
    refine wg (v := .int (oI (gI σ 641 0))) X hT hW 10 1 641 vl10_0 rfl rfl (by decide) rfl (by decide) in_X3 q190 rfl dX1_goesTogether_154 ?_
    refine lv_iconst (v := oI 1) X.1 X.2.1 dX1_goesTogether_157 rfl ?_
    refine w_icmp_ne (tgt := 181) X (hW.r.i 641 0 rfl) rZ_1.i dX1_goesTogether_158 (by decide) (fun hc => ?_) (fun hc => ?_)
    · have h := h.1 hc
      refine lv_aload_n X.1 X.2.1 dX1_goesTogether_181 rfl (lv_at hl 1 rfl) ?_
      refine lv_iload X.1 X.2.1 dX1_goesTogether_182 (lv_at hl 8 rfl) ?_
      refine lv_iload X.1 X.2.1 dX1_goesTogether_184 (lv_at hl 4 rfl) ?_
      refine wr_I (rV (As := [.int (oI y11), .int (oI y4)]) (rest := [.int (oI y5)]) X hT hW hS (met_House_linksOf l (w := w) hV y11 y4 _ σ ry11 ry4 h) (cwV 2 X.2.2.2.2 (lw_V q1830 q1832 qs90 q131 q1833) rfl rfl rfl (by decide +kernel) ⟨Nat.le_of_ble_eq_true rfl, Nat.le_of_ble_eq_true rfl⟩) vl1_0 (by decide) rfl rfl hl.1 rfl (by first | exact Nat.le_of_ble_eq_true rfl | simp [catK, catI, catR, catL]) dX1_goesTogether_186 ⟨Nat.le_refl _, Nat.le_refl _⟩) hS (fun r_244 σ_245 H locs rr_244 rkσ_245 h hWσ_245 hS => ?_)
      have h := h rr_244 rkσ_245
      refine lv_aload_n X.1 X.2.1 dX1_goesTogether_189 rfl (lv_at hl 1 rfl) ?_
      refine wg (v := .ref (wad w 10 0)) X hT hWσ_245 1 14 78 vl1_0 rfl rfl (by decide) rfl (by decide) in_X1 q1084 rfl dX1_goesTogether_190 ?_
      refine wg (v := .int (oI (gI σ_245 642 0))) X hT hWσ_245 10 2 642 vl10_0 rfl rfl (by decide) rfl (by decide) in_X3 q191 rfl dX1_goesTogether_193 ?_
      refine w_icmp_ne (tgt := 222) X rr_244 (hWσ_245.r.i 642 0 rfl) dX1_goesTogether_196 (by decide) (fun hc => ?_) (fun hc => ?_)
      · have h := h.1 hc
        exact wk_House_goesTogether_b222 X hr hlk hT hV (wp_House_goesTogether_b223 (wc w) (wtv w) Q K536) (wk_House_goesTogether_b223 X hr hlk hT hV K536 hK536) y1 y2 y3_243 y4 y7 y9 y11 y5 σ_245 _ _ _ ry1 ry2 ry3_243 ry4 ry7 ry9 ry11 ry5 (lv_sub hl [1, 2, 3, 0, 4, 6, 7, 8] rfl) hWσ_245 hS h
      · have h := h.2 hc
        refine lv_aload_n X.1 X.2.1 dX1_goesTogether_199 rfl (lv_at hl 1 rfl) ?_
        refine wg (v := .ref (wad w 10 0)) X hT hWσ_245 1 14 78 vl1_0 rfl rfl (by decide) rfl (by decide) in_X1 q1084 rfl dX1_goesTogether_200 ?_
        refine wg (v := .int (oI (gI σ_245 642 0))) X hT hWσ_245 10 2 642 vl10_0 rfl rfl (by decide) rfl (by decide) in_X3 q191 rfl dX1_goesTogether_203 ?_
        refine w_if_gt (tgt := 218) X (hWσ_245.r.i 642 0 rfl) dX1_goesTogether_206 (by decide) (fun hc => ?_) (fun hc => ?_)
        · have h := h.1 hc
          exact wk_House_goesTogether_b218 X hr hlk hT hV (wp_House_goesTogether_b223 (wc w) (wtv w) Q K536) (wk_House_goesTogether_b223 X hr hlk hT hV K536 hK536) y1 y2 y3_243 y4 y7 y9 y11 y5 σ_245 _ _ _ ry1 ry2 ry3_243 ry4 ry7 ry9 ry11 ry5 (lv_sub hl [1, 2, 3, 0, 4, 6, 7, 8] rfl) hWσ_245 hS h
        · have h := h.2 hc
          refine lv_aload_n X.1 X.2.1 dX1_goesTogether_209 rfl (lv_at hl 1 rfl) ?_
          refine lv_iload X.1 X.2.1 dX1_goesTogether_210 (lv_at hl 8 rfl) ?_
          refine wr_Z (rV (As := [.int (oI y11)]) (rest := [.int (oI y5)]) X hT hWσ_245 hS (met_House_isOpen l (w := w) hV y11 _ σ_245 ry11 h) (cwV 1 X.2.2.2.2 (lw_V q1412 q1414 qs56 q131 q1415) rfl rfl rfl (by decide +kernel) ⟨Nat.le_of_ble_eq_true rfl, Nat.le_of_ble_eq_true rfl⟩) vl1_0 (by decide) rfl rfl hl.1 rfl (by first | exact Nat.le_of_ble_eq_true rfl | simp [catK, catI, catR, catL]) dX1_goesTogether_212 ⟨Nat.le_refl _, Nat.le_refl _⟩) hS (fun r_246 σ_247 H locs rr_246 rkσ_247 h hWσ_247 hS => ?_)
          have h := h rr_246 rkσ_247
          refine w_if_eq (tgt := 222) X rr_246.i dX1_goesTogether_215 (by decide) (fun hc => ?_) (fun hc => ?_)
          · have h := h.1 hc
            exact wk_House_goesTogether_b222 X hr hlk hT hV (wp_House_goesTogether_b223 (wc w) (wtv w) Q K536) (wk_House_goesTogether_b223 X hr hlk hT hV K536 hK536) y1 y2 y3_243 y4 y7 y9 y11 y5 σ_247 _ _ _ ry1 ry2 ry3_243 ry4 ry7 ry9 ry11 ry5 (lv_sub hl [1, 2, 3, 0, 4, 6, 7, 8] rfl) hWσ_247 hS h
          · have h := h.2 hc
            exact wk_House_goesTogether_b218 X hr hlk hT hV (wp_House_goesTogether_b223 (wc w) (wtv w) Q K536) (wk_House_goesTogether_b223 X hr hlk hT hV K536 hK536) y1 y2 y3_243 y4 y7 y9 y11 y5 σ_247 _ _ _ ry1 ry2 ry3_243 ry4 ry7 ry9 ry11 ry5 (lv_sub hl [1, 2, 3, 0, 4, 6, 7, 8] rfl) hWσ_247 hS h
    · have h := h.2 hc
      refine lv_aload_n X.1 X.2.1 dX1_goesTogether_161 rfl (lv_at hl 1 rfl) ?_
      refine lv_iload X.1 X.2.1 dX1_goesTogether_162 (lv_at hl 8 rfl) ?_
      refine lv_iconst (v := oI 2) X.1 X.2.1 dX1_goesTogether_164 rfl ?_
      refine wr_I (rV (As := [.int (oI y11), .int (oI 2)]) (rest := [.int (oI y5)]) X hT hW hS (met_House_many l (w := w) hV y11 2 _ σ ry11 ((rB_lit 2 (by decide)).i) h) (cwV 2 X.2.2.2.2 (lw_V q1826 q1828 qs89 q131 q1829) rfl rfl rfl (by decide +kernel) ⟨Nat.le_of_ble_eq_true rfl, Nat.le_of_ble_eq_true rfl⟩) vl1_0 (by decide) rfl rfl hl.1 rfl (by first | exact Nat.le_of_ble_eq_true rfl | simp [catK, catI, catR, catL]) dX1_goesTogether_165 ⟨Nat.le_refl _, Nat.le_refl _⟩) hS (fun r_248 σ_249 H locs rr_248 rkσ_249 h hWσ_249 hS => ?_)
      have h := h rr_248 rkσ_249
      refine lv_aload_n X.1 X.2.1 dX1_goesTogether_168 rfl (lv_at hl 1 rfl) ?_
      refine wg (v := .ref (wad w 10 0)) X hT hWσ_249 1 14 78 vl1_0 rfl rfl (by decide) rfl (by decide) in_X1 q1084 rfl dX1_goesTogether_169 ?_
      refine wg (v := .int (oI (gI σ_249 644 0))) X hT hWσ_249 10 4 644 vl10_0 rfl rfl (by decide) rfl (by decide) in_X3 q193 rfl dX1_goesTogether_172 ?_
      refine w_icmp_ne (tgt := 222) X rr_248 (hWσ_249.r.i 644 0 rfl) dX1_goesTogether_175 (by decide) (fun hc => ?_) (fun hc => ?_)
      · have h := h.1 hc
        exact wk_House_goesTogether_b222 X hr hlk hT hV (wp_House_goesTogether_b223 (wc w) (wtv w) Q K536) (wk_House_goesTogether_b223 X hr hlk hT hV K536 hK536) y1 y2 y3_243 y4 y7 y9 y11 y5 σ_249 _ _ _ ry1 ry2 ry3_243 ry4 ry7 ry9 ry11 ry5 (lv_sub hl [1, 2, 3, 0, 4, 6, 7, 8] rfl) hWσ_249 hS h
      · have h := h.2 hc
        refine lv_goto (tgt := 218) X.1 X.2.1 dX1_goesTogether_178 (by decide) ?_
        exact wk_House_goesTogether_b218 X hr hlk hT hV (wp_House_goesTogether_b223 (wc w) (wtv w) Q K536) (wk_House_goesTogether_b223 X hr hlk hT hV K536 hK536) y1 y2 y3_243 y4 y7 y9 y11 y5 σ_249 _ _ _ ry1 ry2 ry3_243 ry4 ry7 ry9 ry11 ry5 (lv_sub hl [1, 2, 3, 0, 4, 6, 7, 8] rfl) hWσ_249 hS h
set_option maxHeartbeats 4000000 in
set_option maxRecDepth 100000 in
theorem wk_House_goesTogether_b532 {p : Program} {l : Launch} {e : Env} {st : State} {m : MethodId} {args : Array Value} {below : List Frame} {meth : Method} {c : Code} {w : Wp} {Q : Int → St → Prop} (X : CallFix p m c cX1_goesTogether 14 st args lw_all RX1) (hr : meth.sig.returnType = (some .boolean)) (hlk : meth.locks = false) (hT : Tb w st) (hV : Hvl w) (K533 : Int → Int → Int → Int → Int → Int → Int → Int → St → Prop) (hK533 : ∀ (y1 y2 y3 y4 y7 y9 t0 t1 : Int) (σ : St) (H : Heap) (locs : List Loc) (ls : Array Slot), rI y1 → rI y2 → rI y3 → rI y4 → rJ y7 → rJ y9 → rZ t0 → rZ t1 → lv_has ls 14 [(0, .ref (wad w 1 0)), (1, .int (oI y1)), (2, .int (oI y2)), (3, .int (oI y3)), (4, .int (oI y4)), (7, .long (oL y7)), (9, .long (oL y9))] → Wo w σ H → va_S (wA w) st.heap H locs → K533 y1 y2 y3 y4 y7 y9 t0 t1 σ → W p l e (headSpec (ws_ yX1_goesTogether cX1_goesTogether 14 (some .boolean)) rm_House_goesTogether).room st m args below meth c H locs 0 0 (MQ below (QcZ w Q) args st 0 0 (wA w)) (F0 m 533 ls [.int (oI t0), .int (oI t1)])) : ∀ (y1 y2 y3 y4 y7 y9 t0 : Int) (σ : St) (H : Heap) (locs : List Loc) (ls : Array Slot), rI y1 → rI y2 → rI y3 → rI y4 → rJ y7 → rJ y9 → rZ t0 → lv_has ls 14 [(0, .ref (wad w 1 0)), (1, .int (oI y1)), (2, .int (oI y2)), (3, .int (oI y3)), (4, .int (oI y4)), (7, .long (oL y7)), (9, .long (oL y9))] → Wo w σ H → va_S (wA w) st.heap H locs → wp_House_goesTogether_b532 (wc w) (wtv w) Q K533 y1 y2 y3 y4 y7 y9 t0 σ → W p l e (headSpec (ws_ yX1_goesTogether cX1_goesTogether 14 (some .boolean)) rm_House_goesTogether).room st m args below meth c H locs 0 0 (MQ below (QcZ w Q) args st 0 0 (wA w)) (F0 m 532 ls [.int (oI t0)]) := by

  intro y1 y2 y3 y4 y7 y9 t0 σ H locs ls ry1 ry2 ry3 ry4 ry7 ry9 rt0 hl hW hS h
  unfold wp_House_goesTogether_b532 at h
  refine lv_iconst (v := oI 0) X.1 X.2.1 dX1_goesTogether_532 rfl ?_
  exact hK533 y1 y2 y3 y4 y7 y9 0 t0 σ _ _ _ ry1 ry2 ry3 ry4 ry7 ry9 rZ_0 rt0 (lv_sub hl [0, 1, 2, 3, 4, 5, 6] rfl) hW hS h
set_option maxHeartbeats 4000000 in
set_option maxRecDepth 100000 in
theorem wk_House_goesTogether_b533 {p : Program} {l : Launch} {e : Env} {st : State} {m : MethodId} {args : Array Value} {below : List Frame} {meth : Method} {c : Code} {w : Wp} {Q : Int → St → Prop} (X : CallFix p m c cX1_goesTogether 14 st args lw_all RX1) (hr : meth.sig.returnType = (some .boolean)) (hlk : meth.locks = false) (hT : Tb w st) (hV : Hvl w) (K536 : Int → Int → Int → Int → Int → Int → Int → St → Prop) (hK536 : ∀ (y1 y2 y3 y4 y5 y7 y9 : Int) (σ : St) (H : Heap) (locs : List Loc) (ls : Array Slot), rI y1 → rI y2 → rI y3 → rI y4 → rZ y5 → rJ y7 → rJ y9 → lv_has ls 14 [(0, .ref (wad w 1 0)), (1, .int (oI y1)), (2, .int (oI y2)), (3, .int (oI y3)), (4, .int (oI y4)), (5, .int (oI y5)), (7, .long (oL y7)), (9, .long (oL y9))] → Wo w σ H → va_S (wA w) st.heap H locs → K536 y1 y2 y3 y4 y5 y7 y9 σ → W p l e (headSpec (ws_ yX1_goesTogether cX1_goesTogether 14 (some .boolean)) rm_House_goesTogether).room st m args below meth c H locs 0 0 (MQ below (QcZ w Q) args st 0 0 (wA w)) (F0 m 536 ls [])) : ∀ (y1 y2 y3 y4 y7 y9 t0 t1 : Int) (σ : St) (H : Heap) (locs : List Loc) (ls : Array Slot), rI y1 → rI y2 → rI y3 → rI y4 → rJ y7 → rJ y9 → rZ t0 → rZ t1 → lv_has ls 14 [(0, .ref (wad w 1 0)), (1, .int (oI y1)), (2, .int (oI y2)), (3, .int (oI y3)), (4, .int (oI y4)), (7, .long (oL y7)), (9, .long (oL y9))] → Wo w σ H → va_S (wA w) st.heap H locs → wp_House_goesTogether_b533 (wc w) (wtv w) Q K536 y1 y2 y3 y4 y7 y9 t0 t1 σ → W p l e (headSpec (ws_ yX1_goesTogether cX1_goesTogether 14 (some .boolean)) rm_House_goesTogether).room st m args below meth c H locs 0 0 (MQ below (QcZ w Q) args st 0 0 (wA w)) (F0 m 533 ls [.int (oI t0), .int (oI t1)]) := by

  intro y1 y2 y3 y4 y7 y9 t0 t1 σ H locs ls ry1 ry2 ry3 ry4 ry7 ry9 rt0 rt1 hl hW hS h
  unfold wp_House_goesTogether_b533 at h
  refine w_iand X dX1_goesTogether_533 ?_
  refine w_top (fun y5_250 ey5_250 => ?_)
  have h := h y5_250 ey5_250
  have ry5_250 : rZ y5_250 := by rw [ey5_250]; exact (iand_Z rt1 rt0)
  refine lv_istore (i := 5) (lv' := [(5, .int (oI y5_250)), (0, .ref (wad w 1 0)), (1, .int (oI y1)), (2, .int (oI y2)), (3, .int (oI y3)), (4, .int (oI y4)), (7, .long (oL y7)), (9, .long (oL y9))]) X.1 X.2.1 dX1_goesTogether_534 hl (by decide) (by first | rfl | simp [catK, catI, catR, catL]) (fun ls hl => ?_)
  exact hK536 y1 y2 y3 y4 y5_250 y7 y9 σ _ _ _ ry1 ry2 ry3 ry4 ry5_250 ry7 ry9 (lv_sub hl [1, 2, 3, 4, 5, 0, 6, 7] rfl) hW hS h
set_option maxHeartbeats 4000000 in
set_option maxRecDepth 100000 in
theorem wk_House_goesTogether_b536 {p : Program} {l : Launch} {e : Env} {st : State} {m : MethodId} {args : Array Value} {below : List Frame} {meth : Method} {c : Code} {w : Wp} {Q : Int → St → Prop} (X : CallFix p m c cX1_goesTogether 14 st args lw_all RX1) (hr : meth.sig.returnType = (some .boolean)) (hlk : meth.locks = false) (hT : Tb w st) (hV : Hvl w) (K30 : Int → Int → Int → Int → Int → Int → St → Prop) (hK30 : ∀ (y1 y2 y3 y4 y5 y6 : Int) (σ : St) (H : Heap) (locs : List Loc) (ls : Array Slot), rI y1 → rI y2 → rI y3 → rI y4 → rZ y5 → rZ y6 → lv_has ls 14 [(0, .ref (wad w 1 0)), (1, .int (oI y1)), (2, .int (oI y2)), (3, .int (oI y3)), (4, .int (oI y4)), (5, .int (oI y5)), (6, .int (oI y6))] → Wo w σ H → va_S (wA w) st.heap H locs → K30 y1 y2 y3 y4 y5 y6 σ → W p l e (headSpec (ws_ yX1_goesTogether cX1_goesTogether 14 (some .boolean)) rm_House_goesTogether).room st m args below meth c H locs 0 0 (MQ below (QcZ w Q) args st 0 0 (wA w)) (F0 m 30 ls [])) : ∀ (y1 y2 y3 y4 y5 y7 y9 : Int) (σ : St) (H : Heap) (locs : List Loc) (ls : Array Slot), rI y1 → rI y2 → rI y3 → rI y4 → rZ y5 → rJ y7 → rJ y9 → lv_has ls 14 [(0, .ref (wad w 1 0)), (1, .int (oI y1)), (2, .int (oI y2)), (3, .int (oI y3)), (4, .int (oI y4)), (5, .int (oI y5)), (7, .long (oL y7)), (9, .long (oL y9))] → Wo w σ H → va_S (wA w) st.heap H locs → wp_House_goesTogether_b536 (wc w) (wtv w) Q K30 y1 y2 y3 y4 y5 y7 y9 σ → W p l e (headSpec (ws_ yX1_goesTogether cX1_goesTogether 14 (some .boolean)) rm_House_goesTogether).room st m args below meth c H locs 0 0 (MQ below (QcZ w Q) args st 0 0 (wA w)) (F0 m 536 ls []) := by
  have vl1_0 : vl w 1 0 := hV.hv 1 rfl ⟨by omega, by show _ < (1 : Int); omega⟩
  have vl3_0 : vl w 3 0 := hV.hv 3 rfl ⟨by omega, by show _ < (2 : Int); omega⟩
  have vl6_0 : vl w 6 0 := hV.hv 6 rfl ⟨by omega, by show _ < (2 : Int); omega⟩
  intro y1 y2 y3 y4 y5 y7 y9 σ H locs ls ry1 ry2 ry3 ry4 ry5 ry7 ry9 hl hW hS h
  unfold wp_House_goesTogether_b536 at h
  refine lv_aload_n X.1 X.2.1 dX1_goesTogether_536 rfl (lv_at hl 0 rfl) ?_
  refine wg (v := .ref (wad w 3 0)) X hT hW 1 1 65 vl1_0 rfl rfl (by decide) rfl (by decide) in_X1 q1071 rfl dX1_goesTogether_537 ?_
  refine wg (v := .ref (wad w 6 0)) X hT hW 3 2 194 vl3_0 rfl rfl (by decide) rfl (by decide) in_X5 q527 rfl dX1_goesTogether_540 ?_
  refine lv_lload X.1 X.2.1 dX1_goesTogether_543 (lv_at hl 7 rfl) ?_
  refine w_ldc2 X (z := (-1)) q1835 (by decide) dX1_goesTogether_545 ?_
  refine w_lcmp_ne (tgt := 559) X ry9 (rJ_lit (-1) (by decide)) dX1_goesTogether_548 dX1_goesTogether_549 (by decide) (fun hc => ?_) (fun hc => ?_)
  · have h := h.1 hc
    refine lv_lload X.1 X.2.1 dX1_goesTogether_559 (lv_at hl 6 rfl) ?_
    exact wk_House_goesTogether_b561 X hr hlk hT hV K30 hK30 y1 y2 y3 y4 y5 y9 y7 σ _ _ _ ry1 ry2 ry3 ry4 ry5 ry9 ry7 (lv_sub hl [0, 1, 2, 3, 4, 5, 7] rfl) hW hS h
  · have h := h.2 hc
    refine lv_lload X.1 X.2.1 dX1_goesTogether_552 (lv_at hl 6 rfl) ?_
    refine lv_lconst (v := oL 1) X.1 X.2.1 dX1_goesTogether_554 (by decide) ?_
    refine w_ladd X dX1_goesTogether_555 ?_
    refine lv_goto (tgt := 561) X.1 X.2.1 dX1_goesTogether_556 (by decide) ?_
    exact wk_House_goesTogether_b561 X hr hlk hT hV K30 hK30 y1 y2 y3 y4 y5 y9 (w64 (y7 + 1)) σ _ _ _ ry1 ry2 ry3 ry4 ry5 ry9 (w64_r _) (lv_sub hl [0, 1, 2, 3, 4, 5, 7] rfl) hW hS h
set_option maxHeartbeats 4000000 in
set_option maxRecDepth 100000 in
theorem wk_House_goesTogether_L576B {p : Program} {l : Launch} {e : Env} {st : State} {m : MethodId} {args : Array Value} {below : List Frame} {meth : Method} {c : Code} {w : Wp} {Q : Int → St → Prop} (X : CallFix p m c cX1_goesTogether 14 st args lw_all RX1) (hr : meth.sig.returnType = (some .boolean)) (hlk : meth.locks = false) (hT : Tb w st) (hV : Hvl w) (K576 : Int → Int → Int → Int → Int → St → Prop) (hK576 : ∀ (y1 y2 y3 y5 y7 : Int) (σ : St) (H : Heap) (locs : List Loc) (ls : Array Slot), rI y1 → rI y2 → rI y3 → rZ y5 → rI y7 → lv_has ls 14 [(0, .ref (wad w 1 0)), (1, .int (oI y1)), (2, .int (oI y2)), (3, .int (oI y3)), (5, .int (oI y5)), (7, .int (oI y7))] → Wo w σ H → va_S (wA w) st.heap H locs → K576 y1 y2 y3 y5 y7 σ → W p l e (headSpec (ws_ yX1_goesTogether cX1_goesTogether 14 (some .boolean)) rm_House_goesTogether).room st m args below meth c H locs 0 0 (MQ below (QcZ w Q) args st 0 0 (wA w)) (F0 m 576 ls [])) : ∀ (y1 y2 y3 y5 y7 : Int) (σ : St) (H : Heap) (locs : List Loc) (ls : Array Slot), rI y1 → rI y2 → rI y3 → rZ y5 → rI y7 → lv_has ls 14 [(0, .ref (wad w 1 0)), (1, .int (oI y1)), (2, .int (oI y2)), (3, .int (oI y3)), (5, .int (oI y5)), (7, .int (oI y7))] → Wo w σ H → va_S (wA w) st.heap H locs → wp_House_goesTogether_L576 (wc w) (wtv w) Q K576 y1 y2 y3 y5 y7 σ → W p l e (headSpec (ws_ yX1_goesTogether cX1_goesTogether 14 (some .boolean)) rm_House_goesTogether).room st m args below meth c H locs 0 0 (MQ below (QcZ w Q) args st 0 0 (wA w)) (F0 m 576 ls []) := by
  have vl1_0 : vl w 1 0 := hV.hv 1 rfl ⟨by omega, by show _ < (1 : Int); omega⟩
  have vl10_0 : vl w 10 0 := hV.hv 10 rfl ⟨by omega, by show _ < (4 : Int); omega⟩
  have vl217_0 : vl w 217 0 := hV.hv 217 rfl ⟨by omega, by show _ < (2 : Int); omega⟩
  have vl3_0 : vl w 3 0 := hV.hv 3 rfl ⟨by omega, by show _ < (2 : Int); omega⟩
  intro y1 y2 y3 y5 y7 σ H locs ls ry1 ry2 ry3 ry5 ry7 hl hW hS h
  unfold wp_House_goesTogether_L576 at h
  refine lv_iload X.1 X.2.1 dX1_goesTogether_576 (lv_at hl 5 rfl) ?_
  refine lv_aload_n X.1 X.2.1 dX1_goesTogether_578 rfl (lv_at hl 0 rfl) ?_
  refine wg (v := .ref (wad w 3 0)) X hT hW 1 1 65 vl1_0 rfl rfl (by decide) rfl (by decide) in_X1 q1071 rfl dX1_goesTogether_579 ?_
  refine wg (v := .int (oI (gI σ 218 0))) X hT hW 3 26 218 vl3_0 rfl rfl (by decide) rfl (by decide) in_X5 q558 rfl dX1_goesTogether_582 ?_
  refine w_icmp_ge (tgt := 646) X ry7 (hW.r.i 218 0 rfl) dX1_goesTogether_585 (by decide) (fun hc => ?_) (fun hc => ?_)
  · have h := h.1 hc
    refine lv_iload X.1 X.2.1 dX1_goesTogether_646 (lv_at hl 4 rfl) ?_
    refine w_if_eq (tgt := 693) X ry5.i dX1_goesTogether_648 (by decide) (fun hc => ?_) (fun hc => ?_)
    · have h := h.1 hc
      refine lv_iconst (v := oI 0) X.1 X.2.1 dX1_goesTogether_693 rfl ?_
      exact wret_Z X hr hlk hW hS rZ_0 h dX1_goesTogether_694
    · have h := h.2 hc
      refine lv_iload_n X.1 X.2.1 dX1_goesTogether_651 rfl (lv_at hl 1 rfl) ?_
      refine lv_aload_n X.1 X.2.1 dX1_goesTogether_652 rfl (lv_at hl 0 rfl) ?_
      refine wg (v := .int (oI (gI σ 71 0))) X hT hW 1 7 71 vl1_0 rfl rfl (by decide) rfl (by decide) in_X1 q1077 rfl dX1_goesTogether_653 ?_
      refine w_icmp_ne (tgt := 693) X ry1 (hW.r.i 71 0 rfl) dX1_goesTogether_656 (by decide) (fun hc => ?_) (fun hc => ?_)
      · have h := h.1 hc
        refine lv_iconst (v := oI 0) X.1 X.2.1 dX1_goesTogether_693 rfl ?_
        exact wret_Z X hr hlk hW hS rZ_0 h dX1_goesTogether_694
      · have h := h.2 hc
        refine lv_iload_n X.1 X.2.1 dX1_goesTogether_659 rfl (lv_at hl 2 rfl) ?_
        refine lv_aload_n X.1 X.2.1 dX1_goesTogether_660 rfl (lv_at hl 0 rfl) ?_
        refine wg (v := .int (oI (gI σ 72 0))) X hT hW 1 8 72 vl1_0 rfl rfl (by decide) rfl (by decide) in_X1 q1078 rfl dX1_goesTogether_661 ?_
        refine w_icmp_ne (tgt := 693) X ry2 (hW.r.i 72 0 rfl) dX1_goesTogether_664 (by decide) (fun hc => ?_) (fun hc => ?_)
        · have h := h.1 hc
          refine lv_iconst (v := oI 0) X.1 X.2.1 dX1_goesTogether_693 rfl ?_
          exact wret_Z X hr hlk hW hS rZ_0 h dX1_goesTogether_694
        · have h := h.2 hc
          refine lv_iload_n X.1 X.2.1 dX1_goesTogether_667 rfl (lv_at hl 3 rfl) ?_
          refine lv_aload_n X.1 X.2.1 dX1_goesTogether_668 rfl (lv_at hl 0 rfl) ?_
          refine wg (v := .ref (wad w 3 0)) X hT hW 1 1 65 vl1_0 rfl rfl (by decide) rfl (by decide) in_X1 q1071 rfl dX1_goesTogether_669 ?_
          refine wg (v := .int (oI (gI σ 218 0))) X hT hW 3 26 218 vl3_0 rfl rfl (by decide) rfl (by decide) in_X5 q558 rfl dX1_goesTogether_672 ?_
          refine w_icmp_ne (tgt := 693) X ry3 (hW.r.i 218 0 rfl) dX1_goesTogether_675 (by decide) (fun hc => ?_) (fun hc => ?_)
          · have h := h.1 hc
            refine lv_iconst (v := oI 0) X.1 X.2.1 dX1_goesTogether_693 rfl ?_
            exact wret_Z X hr hlk hW hS rZ_0 h dX1_goesTogether_694
          · have h := h.2 hc
            refine lv_aload_n X.1 X.2.1 dX1_goesTogether_678 rfl (lv_at hl 0 rfl) ?_
            refine wg (v := .int (oI (gI σ 71 0))) X hT hW 1 7 71 vl1_0 rfl rfl (by decide) rfl (by decide) in_X1 q1077 rfl dX1_goesTogether_679 ?_
            refine lv_aload_n X.1 X.2.1 dX1_goesTogether_682 rfl (lv_at hl 0 rfl) ?_
            refine wg (v := .int (oI (cap (wc w)))) X hT hW 1 4 68 vl1_0 rfl rfl (by decide) rfl (by decide) in_X1 q1074 rfl dX1_goesTogether_683 ?_
            refine w_icmp_gt (tgt := 693) X (hW.r.i 71 0 rfl) (cin_r hT.c 68) dX1_goesTogether_686 (by decide) (fun hc => ?_) (fun hc => ?_)
            · have h := h.1 hc
              refine lv_iconst (v := oI 0) X.1 X.2.1 dX1_goesTogether_693 rfl ?_
              exact wret_Z X hr hlk hW hS rZ_0 h dX1_goesTogether_694
            · have h := h.2 hc
              refine lv_iconst (v := oI 1) X.1 X.2.1 dX1_goesTogether_689 rfl ?_
              refine lv_goto (tgt := 694) X.1 X.2.1 dX1_goesTogether_690 (by decide) ?_
              exact wret_Z X hr hlk hW hS rZ_1 h dX1_goesTogether_694
  · have h := h.2 hc
    refine lv_iload X.1 X.2.1 dX1_goesTogether_588 (lv_at hl 4 rfl) ?_
    refine lv_aload_n X.1 X.2.1 dX1_goesTogether_590 rfl (lv_at hl 0 rfl) ?_
    refine lv_aload_n X.1 X.2.1 dX1_goesTogether_591 rfl (lv_at hl 0 rfl) ?_
    refine wg (v := .ref (wad w 3 0)) X hT hW 1 1 65 vl1_0 rfl rfl (by decide) rfl (by decide) in_X1 q1071 rfl dX1_goesTogether_592 ?_
    refine wg (v := .ref (wad w 217 0)) X hT hW 3 25 217 vl3_0 rfl rfl (by decide) rfl (by decide) in_X5 q556 rfl dX1_goesTogether_595 ?_
    refine lv_iload X.1 X.2.1 dX1_goesTogether_598 (lv_at hl 5 rfl) ?_
    obtain ⟨bi, h⟩ := h
    refine w_iald (n := 16) X hT hW 217 vl217_0 (by decide) rfl rfl bi dX1_goesTogether_600 ?_
    refine lv_aload_n X.1 X.2.1 dX1_goesTogether_601 rfl (lv_at hl 0 rfl) ?_
    refine wg (v := .ref (wad w 10 0)) X hT hW 1 14 78 vl1_0 rfl rfl (by decide) rfl (by decide) in_X1 q1084 rfl dX1_goesTogether_602 ?_
    refine wr_Z (rV (As := [.int (oI (gA σ 217 0 y7)), .ref (wad w 10 0)]) (rest := [.int (oI y5)]) X hT hW hS (met_House_read l (w := w) hV (gA σ 217 0 y7) 0 _ σ (hW.r.ai 217 0 y7 rfl) (by omega) h) (cwV 2 X.2.2.2.2 (lw_V q1177 q1179 qs32 q131 q1180) rfl rfl rfl (by decide +kernel) ⟨Nat.le_of_ble_eq_true rfl, Nat.le_of_ble_eq_true rfl⟩) vl1_0 (by decide) rfl rfl hl.1 rfl (by first | exact Nat.le_of_ble_eq_true rfl | simp [catK, catI, catR, catL]) dX1_goesTogether_605 ⟨Nat.le_refl _, Nat.le_refl _⟩) hS (fun r_251 σ_252 H locs rr_251 rkσ_252 h hWσ_252 hS => ?_)
    have h := h rr_251 rkσ_252
    refine w_if_eq (tgt := 636) X rr_251.i dX1_goesTogether_608 (by decide) (fun hc => ?_) (fun hc => ?_)
    · have h := h.1 hc
      exact wk_House_goesTogether_b636 X hr hlk hT hV (wp_House_goesTogether_b637 (wc w) (wtv w) Q K576) (wk_House_goesTogether_b637 X hr hlk hT hV K576 hK576) y1 y2 y3 y7 y5 σ_252 _ _ _ ry1 ry2 ry3 ry7 ry5 (lv_sub hl [0, 1, 2, 3, 5] rfl) hWσ_252 hS h
    · have h := h.2 hc
      refine lv_aload_n X.1 X.2.1 dX1_goesTogether_611 rfl (lv_at hl 0 rfl) ?_
      refine wg (v := .ref (wad w 10 0)) X hT hWσ_252 1 14 78 vl1_0 rfl rfl (by decide) rfl (by decide) in_X1 q1084 rfl dX1_goesTogether_612 ?_
      refine wg (v := .int (oI (gI σ_252 641 0))) X hT hWσ_252 10 1 641 vl10_0 rfl rfl (by decide) rfl (by decide) in_X3 q190 rfl dX1_goesTogether_615 ?_
      refine lv_iconst (v := oI 2) X.1 X.2.1 dX1_goesTogether_618 rfl ?_
      refine w_icmp_ne (tgt := 636) X (hWσ_252.r.i 641 0 rfl) ((rB_lit 2 (by decide)).i) dX1_goesTogether_619 (by decide) (fun hc => ?_) (fun hc => ?_)
      · have h := h.1 hc
        exact wk_House_goesTogether_b636 X hr hlk hT hV (wp_House_goesTogether_b637 (wc w) (wtv w) Q K576) (wk_House_goesTogether_b637 X hr hlk hT hV K576 hK576) y1 y2 y3 y7 y5 σ_252 _ _ _ ry1 ry2 ry3 ry7 ry5 (lv_sub hl [0, 1, 2, 3, 5] rfl) hWσ_252 hS h
      · have h := h.2 hc
        refine lv_aload_n X.1 X.2.1 dX1_goesTogether_622 rfl (lv_at hl 0 rfl) ?_
        refine wg (v := .ref (wad w 10 0)) X hT hWσ_252 1 14 78 vl1_0 rfl rfl (by decide) rfl (by decide) in_X1 q1084 rfl dX1_goesTogether_623 ?_
        refine wg (v := .int (oI (gI σ_252 642 0))) X hT hWσ_252 10 2 642 vl10_0 rfl rfl (by decide) rfl (by decide) in_X3 q191 rfl dX1_goesTogether_626 ?_
        refine w_if_ne (tgt := 636) X (hWσ_252.r.i 642 0 rfl) dX1_goesTogether_629 (by decide) (fun hc => ?_) (fun hc => ?_)
        · have h := h.1 hc
          exact wk_House_goesTogether_b636 X hr hlk hT hV (wp_House_goesTogether_b637 (wc w) (wtv w) Q K576) (wk_House_goesTogether_b637 X hr hlk hT hV K576 hK576) y1 y2 y3 y7 y5 σ_252 _ _ _ ry1 ry2 ry3 ry7 ry5 (lv_sub hl [0, 1, 2, 3, 5] rfl) hWσ_252 hS h
        · have h := h.2 hc
          refine lv_iconst (v := oI 1) X.1 X.2.1 dX1_goesTogether_632 rfl ?_
          refine lv_goto (tgt := 637) X.1 X.2.1 dX1_goesTogether_633 (by decide) ?_
          exact wk_House_goesTogether_b637 X hr hlk hT hV K576 hK576 y1 y2 y3 y7 1 y5 σ_252 _ _ _ ry1 ry2 ry3 ry7 rZ_1 ry5 (lv_sub hl [0, 1, 2, 3, 5] rfl) hWσ_252 hS h
theorem wk_House_goesTogether_L576 {p : Program} {l : Launch} {e : Env} {st : State} {m : MethodId} {args : Array Value} {below : List Frame} {meth : Method} {c : Code} {w : Wp} {Q : Int → St → Prop} (X : CallFix p m c cX1_goesTogether 14 st args lw_all RX1) (hr : meth.sig.returnType = (some .boolean)) (hlk : meth.locks = false) (hT : Tb w st) (hV : Hvl w) : ∀ (y1 y2 y3 y5 y7 : Int) (σ : St) (H : Heap) (locs : List Loc) (ls : Array Slot), rI y1 → rI y2 → rI y3 → rZ y5 → rI y7 → lv_has ls 14 [(0, .ref (wad w 1 0)), (1, .int (oI y1)), (2, .int (oI y2)), (3, .int (oI y3)), (5, .int (oI y5)), (7, .int (oI y7))] → Wo w σ H → va_S (wA w) st.heap H locs → lQ5 (wp_House_goesTogether_L576 (wc w) (wtv w) Q) y1 y2 y3 y5 y7 σ → W p l e (headSpec (ws_ yX1_goesTogether cX1_goesTogether 14 (some .boolean)) rm_House_goesTogether).room st m args below meth c H locs 0 0 (MQ below (QcZ w Q) args st 0 0 (wA w)) (F0 m 576 ls []) := by
  intro y1 y2 y3 y5 y7 σ H locs ls ry1 ry2 ry3 ry5 ry7 hl hW hS h
  obtain ⟨fu, h⟩ := h
  induction fu generalizing y1 y2 y3 y5 y7 σ H locs ls with
  | zero => exact h.elim
  | succ fu ih =>
    exact wk_House_goesTogether_L576B X hr hlk hT hV (lq5 (wp_House_goesTogether_L576 (wc w) (wtv w) Q) fu) (fun y1 y2 y3 y5 y7 σ H locs ls ry1 ry2 ry3 ry5 ry7 hl hW hS h => ih y1 y2 y3 y5 y7 σ H locs ls ry1 ry2 ry3 ry5 ry7 hl hW hS h) y1 y2 y3 y5 y7 σ H locs ls ry1 ry2 ry3 ry5 ry7 hl hW hS h
set_option maxHeartbeats 4000000 in
set_option maxRecDepth 100000 in
theorem wk_House_goesTogether_b343 {p : Program} {l : Launch} {e : Env} {st : State} {m : MethodId} {args : Array Value} {below : List Frame} {meth : Method} {c : Code} {w : Wp} {Q : Int → St → Prop} (X : CallFix p m c cX1_goesTogether 14 st args lw_all RX1) (hr : meth.sig.returnType = (some .boolean)) (hlk : meth.locks = false) (hT : Tb w st) (hV : Hvl w) (K344 : Int → Int → Int → Int → Int → Int → Int → Int → St → Prop) (hK344 : ∀ (y1 y2 y3 y4 y7 y9 t0 t1 : Int) (σ : St) (H : Heap) (locs : List Loc) (ls : Array Slot), rI y1 → rI y2 → rI y3 → rI y4 → rJ y7 → rJ y9 → rZ t0 → rZ t1 → lv_has ls 14 [(0, .ref (wad w 1 0)), (1, .int (oI y1)), (2, .int (oI y2)), (3, .int (oI y3)), (4, .int (oI y4)), (7, .long (oL y7)), (9, .long (oL y9))] → Wo w σ H → va_S (wA w) st.heap H locs → K344 y1 y2 y3 y4 y7 y9 t0 t1 σ → W p l e (headSpec (ws_ yX1_goesTogether cX1_goesTogether 14 (some .boolean)) rm_House_goesTogether).room st m args below meth c H locs 0 0 (MQ below (QcZ w Q) args st 0 0 (wA w)) (F0 m 344 ls [.int (oI t0), .int (oI t1)])) : ∀ (y1 y2 y3 y4 y7 y9 t0 : Int) (σ : St) (H : Heap) (locs : List Loc) (ls : Array Slot), rI y1 → rI y2 → rI y3 → rI y4 → rJ y7 → rJ y9 → rZ t0 → lv_has ls 14 [(0, .ref (wad w 1 0)), (1, .int (oI y1)), (2, .int (oI y2)), (3, .int (oI y3)), (4, .int (oI y4)), (7, .long (oL y7)), (9, .long (oL y9))] → Wo w σ H → va_S (wA w) st.heap H locs → wp_House_goesTogether_b343 (wc w) (wtv w) Q K344 y1 y2 y3 y4 y7 y9 t0 σ → W p l e (headSpec (ws_ yX1_goesTogether cX1_goesTogether 14 (some .boolean)) rm_House_goesTogether).room st m args below meth c H locs 0 0 (MQ below (QcZ w Q) args st 0 0 (wA w)) (F0 m 343 ls [.int (oI t0)]) := by

  intro y1 y2 y3 y4 y7 y9 t0 σ H locs ls ry1 ry2 ry3 ry4 ry7 ry9 rt0 hl hW hS h
  unfold wp_House_goesTogether_b343 at h
  refine lv_iconst (v := oI 0) X.1 X.2.1 dX1_goesTogether_343 rfl ?_
  exact hK344 y1 y2 y3 y4 y7 y9 0 t0 σ _ _ _ ry1 ry2 ry3 ry4 ry7 ry9 rZ_0 rt0 (lv_sub hl [0, 1, 2, 3, 4, 5, 6] rfl) hW hS h
set_option maxHeartbeats 4000000 in
set_option maxRecDepth 100000 in
theorem wk_House_goesTogether_b344 {p : Program} {l : Launch} {e : Env} {st : State} {m : MethodId} {args : Array Value} {below : List Frame} {meth : Method} {c : Code} {w : Wp} {Q : Int → St → Prop} (X : CallFix p m c cX1_goesTogether 14 st args lw_all RX1) (hr : meth.sig.returnType = (some .boolean)) (hlk : meth.locks = false) (hT : Tb w st) (hV : Hvl w) (K536 : Int → Int → Int → Int → Int → Int → Int → St → Prop) (hK536 : ∀ (y1 y2 y3 y4 y5 y7 y9 : Int) (σ : St) (H : Heap) (locs : List Loc) (ls : Array Slot), rI y1 → rI y2 → rI y3 → rI y4 → rZ y5 → rJ y7 → rJ y9 → lv_has ls 14 [(0, .ref (wad w 1 0)), (1, .int (oI y1)), (2, .int (oI y2)), (3, .int (oI y3)), (4, .int (oI y4)), (5, .int (oI y5)), (7, .long (oL y7)), (9, .long (oL y9))] → Wo w σ H → va_S (wA w) st.heap H locs → K536 y1 y2 y3 y4 y5 y7 y9 σ → W p l e (headSpec (ws_ yX1_goesTogether cX1_goesTogether 14 (some .boolean)) rm_House_goesTogether).room st m args below meth c H locs 0 0 (MQ below (QcZ w Q) args st 0 0 (wA w)) (F0 m 536 ls [])) : ∀ (y1 y2 y3 y4 y7 y9 t0 t1 : Int) (σ : St) (H : Heap) (locs : List Loc) (ls : Array Slot), rI y1 → rI y2 → rI y3 → rI y4 → rJ y7 → rJ y9 → rZ t0 → rZ t1 → lv_has ls 14 [(0, .ref (wad w 1 0)), (1, .int (oI y1)), (2, .int (oI y2)), (3, .int (oI y3)), (4, .int (oI y4)), (7, .long (oL y7)), (9, .long (oL y9))] → Wo w σ H → va_S (wA w) st.heap H locs → wp_House_goesTogether_b344 (wc w) (wtv w) Q K536 y1 y2 y3 y4 y7 y9 t0 t1 σ → W p l e (headSpec (ws_ yX1_goesTogether cX1_goesTogether 14 (some .boolean)) rm_House_goesTogether).room st m args below meth c H locs 0 0 (MQ below (QcZ w Q) args st 0 0 (wA w)) (F0 m 344 ls [.int (oI t0), .int (oI t1)]) := by

  intro y1 y2 y3 y4 y7 y9 t0 t1 σ H locs ls ry1 ry2 ry3 ry4 ry7 ry9 rt0 rt1 hl hW hS h
  unfold wp_House_goesTogether_b344 at h
  refine w_iand X dX1_goesTogether_344 ?_
  refine w_top (fun y5_253 ey5_253 => ?_)
  have h := h y5_253 ey5_253
  have ry5_253 : rZ y5_253 := by rw [ey5_253]; exact (iand_Z rt1 rt0)
  refine lv_istore (i := 5) (lv' := [(5, .int (oI y5_253)), (0, .ref (wad w 1 0)), (1, .int (oI y1)), (2, .int (oI y2)), (3, .int (oI y3)), (4, .int (oI y4)), (7, .long (oL y7)), (9, .long (oL y9))]) X.1 X.2.1 dX1_goesTogether_345 hl (by decide) (by first | rfl | simp [catK, catI, catR, catL]) (fun ls hl => ?_)
  refine lv_goto (tgt := 536) X.1 X.2.1 dX1_goesTogether_347 (by decide) ?_
  exact hK536 y1 y2 y3 y4 y5_253 y7 y9 σ _ _ _ ry1 ry2 ry3 ry4 ry5_253 ry7 ry9 (lv_sub hl [1, 2, 3, 4, 5, 0, 6, 7] rfl) hW hS h
set_option maxHeartbeats 4000000 in
set_option maxRecDepth 100000 in
theorem wk_House_goesTogether_b495 {p : Program} {l : Launch} {e : Env} {st : State} {m : MethodId} {args : Array Value} {below : List Frame} {meth : Method} {c : Code} {w : Wp} {Q : Int → St → Prop} (X : CallFix p m c cX1_goesTogether 14 st args lw_all RX1) (hr : meth.sig.returnType = (some .boolean)) (hlk : meth.locks = false) (hT : Tb w st) (hV : Hvl w) (K496 : Int → Int → Int → Int → Int → Int → Int → Int → St → Prop) (hK496 : ∀ (y1 y2 y3 y4 y7 y9 t0 t1 : Int) (σ : St) (H : Heap) (locs : List Loc) (ls : Array Slot), rI y1 → rI y2 → rI y3 → rI y4 → rJ y7 → rJ y9 → rZ t0 → rZ t1 → lv_has ls 14 [(0, .ref (wad w 1 0)), (1, .int (oI y1)), (2, .int (oI y2)), (3, .int (oI y3)), (4, .int (oI y4)), (7, .long (oL y7)), (9, .long (oL y9))] → Wo w σ H → va_S (wA w) st.heap H locs → K496 y1 y2 y3 y4 y7 y9 t0 t1 σ → W p l e (headSpec (ws_ yX1_goesTogether cX1_goesTogether 14 (some .boolean)) rm_House_goesTogether).room st m args below meth c H locs 0 0 (MQ below (QcZ w Q) args st 0 0 (wA w)) (F0 m 496 ls [.int (oI t0), .int (oI t1)])) : ∀ (y1 y2 y3 y4 y7 y9 t0 : Int) (σ : St) (H : Heap) (locs : List Loc) (ls : Array Slot), rI y1 → rI y2 → rI y3 → rI y4 → rJ y7 → rJ y9 → rZ t0 → lv_has ls 14 [(0, .ref (wad w 1 0)), (1, .int (oI y1)), (2, .int (oI y2)), (3, .int (oI y3)), (4, .int (oI y4)), (7, .long (oL y7)), (9, .long (oL y9))] → Wo w σ H → va_S (wA w) st.heap H locs → wp_House_goesTogether_b495 (wc w) (wtv w) Q K496 y1 y2 y3 y4 y7 y9 t0 σ → W p l e (headSpec (ws_ yX1_goesTogether cX1_goesTogether 14 (some .boolean)) rm_House_goesTogether).room st m args below meth c H locs 0 0 (MQ below (QcZ w Q) args st 0 0 (wA w)) (F0 m 495 ls [.int (oI t0)]) := by

  intro y1 y2 y3 y4 y7 y9 t0 σ H locs ls ry1 ry2 ry3 ry4 ry7 ry9 rt0 hl hW hS h
  unfold wp_House_goesTogether_b495 at h
  refine lv_iconst (v := oI 0) X.1 X.2.1 dX1_goesTogether_495 rfl ?_
  exact hK496 y1 y2 y3 y4 y7 y9 0 t0 σ _ _ _ ry1 ry2 ry3 ry4 ry7 ry9 rZ_0 rt0 (lv_sub hl [0, 1, 2, 3, 4, 5, 6] rfl) hW hS h
set_option maxHeartbeats 4000000 in
set_option maxRecDepth 100000 in
theorem wk_House_goesTogether_b496 {p : Program} {l : Launch} {e : Env} {st : State} {m : MethodId} {args : Array Value} {below : List Frame} {meth : Method} {c : Code} {w : Wp} {Q : Int → St → Prop} (X : CallFix p m c cX1_goesTogether 14 st args lw_all RX1) (hr : meth.sig.returnType = (some .boolean)) (hlk : meth.locks = false) (hT : Tb w st) (hV : Hvl w) (K536 : Int → Int → Int → Int → Int → Int → Int → St → Prop) (hK536 : ∀ (y1 y2 y3 y4 y5 y7 y9 : Int) (σ : St) (H : Heap) (locs : List Loc) (ls : Array Slot), rI y1 → rI y2 → rI y3 → rI y4 → rZ y5 → rJ y7 → rJ y9 → lv_has ls 14 [(0, .ref (wad w 1 0)), (1, .int (oI y1)), (2, .int (oI y2)), (3, .int (oI y3)), (4, .int (oI y4)), (5, .int (oI y5)), (7, .long (oL y7)), (9, .long (oL y9))] → Wo w σ H → va_S (wA w) st.heap H locs → K536 y1 y2 y3 y4 y5 y7 y9 σ → W p l e (headSpec (ws_ yX1_goesTogether cX1_goesTogether 14 (some .boolean)) rm_House_goesTogether).room st m args below meth c H locs 0 0 (MQ below (QcZ w Q) args st 0 0 (wA w)) (F0 m 536 ls [])) : ∀ (y1 y2 y3 y4 y7 y9 t0 t1 : Int) (σ : St) (H : Heap) (locs : List Loc) (ls : Array Slot), rI y1 → rI y2 → rI y3 → rI y4 → rJ y7 → rJ y9 → rZ t0 → rZ t1 → lv_has ls 14 [(0, .ref (wad w 1 0)), (1, .int (oI y1)), (2, .int (oI y2)), (3, .int (oI y3)), (4, .int (oI y4)), (7, .long (oL y7)), (9, .long (oL y9))] → Wo w σ H → va_S (wA w) st.heap H locs → wp_House_goesTogether_b496 (wc w) (wtv w) Q K536 y1 y2 y3 y4 y7 y9 t0 t1 σ → W p l e (headSpec (ws_ yX1_goesTogether cX1_goesTogether 14 (some .boolean)) rm_House_goesTogether).room st m args below meth c H locs 0 0 (MQ below (QcZ w Q) args st 0 0 (wA w)) (F0 m 496 ls [.int (oI t0), .int (oI t1)]) := by

  intro y1 y2 y3 y4 y7 y9 t0 t1 σ H locs ls ry1 ry2 ry3 ry4 ry7 ry9 rt0 rt1 hl hW hS h
  unfold wp_House_goesTogether_b496 at h
  refine w_iand X dX1_goesTogether_496 ?_
  refine w_top (fun y5_254 ey5_254 => ?_)
  have h := h y5_254 ey5_254
  have ry5_254 : rZ y5_254 := by rw [ey5_254]; exact (iand_Z rt1 rt0)
  refine lv_istore (i := 5) (lv' := [(5, .int (oI y5_254)), (0, .ref (wad w 1 0)), (1, .int (oI y1)), (2, .int (oI y2)), (3, .int (oI y3)), (4, .int (oI y4)), (7, .long (oL y7)), (9, .long (oL y9))]) X.1 X.2.1 dX1_goesTogether_497 hl (by decide) (by first | rfl | simp [catK, catI, catR, catL]) (fun ls hl => ?_)
  refine lv_goto (tgt := 536) X.1 X.2.1 dX1_goesTogether_499 (by decide) ?_
  exact hK536 y1 y2 y3 y4 y5_254 y7 y9 σ _ _ _ ry1 ry2 ry3 ry4 ry5_254 ry7 ry9 (lv_sub hl [1, 2, 3, 4, 5, 0, 6, 7] rfl) hW hS h
set_option maxHeartbeats 4000000 in
set_option maxRecDepth 100000 in
theorem wk_House_goesTogether_L30B {p : Program} {l : Launch} {e : Env} {st : State} {m : MethodId} {args : Array Value} {below : List Frame} {meth : Method} {c : Code} {w : Wp} {Q : Int → St → Prop} (X : CallFix p m c cX1_goesTogether 14 st args lw_all RX1) (hr : meth.sig.returnType = (some .boolean)) (hlk : meth.locks = false) (hT : Tb w st) (hV : Hvl w) (K30 : Int → Int → Int → Int → Int → Int → St → Prop) (hK30 : ∀ (y1 y2 y3 y4 y5 y6 : Int) (σ : St) (H : Heap) (locs : List Loc) (ls : Array Slot), rI y1 → rI y2 → rI y3 → rI y4 → rZ y5 → rZ y6 → lv_has ls 14 [(0, .ref (wad w 1 0)), (1, .int (oI y1)), (2, .int (oI y2)), (3, .int (oI y3)), (4, .int (oI y4)), (5, .int (oI y5)), (6, .int (oI y6))] → Wo w σ H → va_S (wA w) st.heap H locs → K30 y1 y2 y3 y4 y5 y6 σ → W p l e (headSpec (ws_ yX1_goesTogether cX1_goesTogether 14 (some .boolean)) rm_House_goesTogether).room st m args below meth c H locs 0 0 (MQ below (QcZ w Q) args st 0 0 (wA w)) (F0 m 30 ls [])) : ∀ (y1 y2 y3 y4 y5 y6 : Int) (σ : St) (H : Heap) (locs : List Loc) (ls : Array Slot), rI y1 → rI y2 → rI y3 → rI y4 → rZ y5 → rZ y6 → lv_has ls 14 [(0, .ref (wad w 1 0)), (1, .int (oI y1)), (2, .int (oI y2)), (3, .int (oI y3)), (4, .int (oI y4)), (5, .int (oI y5)), (6, .int (oI y6))] → Wo w σ H → va_S (wA w) st.heap H locs → wp_House_goesTogether_L30 (wc w) (wtv w) Q K30 y1 y2 y3 y4 y5 y6 σ → W p l e (headSpec (ws_ yX1_goesTogether cX1_goesTogether 14 (some .boolean)) rm_House_goesTogether).room st m args below meth c H locs 0 0 (MQ below (QcZ w Q) args st 0 0 (wA w)) (F0 m 30 ls []) := by
  have vl1_0 : vl w 1 0 := hV.hv 1 rfl ⟨by omega, by show _ < (1 : Int); omega⟩
  have vl10_0 : vl w 10 0 := hV.hv 10 rfl ⟨by omega, by show _ < (4 : Int); omega⟩
  have vl10_1 : vl w 10 1 := hV.hv 10 rfl ⟨by omega, by show _ < (4 : Int); omega⟩
  have vl3_0 : vl w 3 0 := hV.hv 3 rfl ⟨by omega, by show _ < (2 : Int); omega⟩
  have vl6_0 : vl w 6 0 := hV.hv 6 rfl ⟨by omega, by show _ < (2 : Int); omega⟩
  have vl8_0 : vl w 8 0 := hV.hv 8 rfl ⟨by omega, by show _ < (8 : Int); omega⟩
  intro y1 y2 y3 y4 y5 y6 σ H locs ls ry1 ry2 ry3 ry4 ry5 ry6 hl hW hS h
  unfold wp_House_goesTogether_L30 at h
  refine lv_iload X.1 X.2.1 dX1_goesTogether_30 (lv_at hl 6 rfl) ?_
  refine w_if_eq (tgt := 573) X ry6.i dX1_goesTogether_32 (by decide) (fun hc => ?_) (fun hc => ?_)
  · have h := h.1 hc
    refine lv_iconst (v := oI 0) X.1 X.2.1 dX1_goesTogether_573 rfl ?_
    refine lv_istore (i := 7) (lv' := [(7, .int (oI 0)), (0, .ref (wad w 1 0)), (1, .int (oI y1)), (2, .int (oI y2)), (3, .int (oI y3)), (4, .int (oI y4)), (5, .int (oI y5)), (6, .int (oI y6))]) X.1 X.2.1 dX1_goesTogether_574 hl (by decide) (by first | rfl | simp [catK, catI, catR, catL]) (fun ls hl => ?_)
    exact wk_House_goesTogether_L576 X hr hlk hT hV y1 y2 y3 y5 0 σ _ _ _ ry1 ry2 ry3 ry5 rZ_0.i (lv_sub hl [1, 2, 3, 4, 6, 0] rfl) hW hS h
  · have h := h.2 hc
    refine lv_aload_n X.1 X.2.1 dX1_goesTogether_35 rfl (lv_at hl 0 rfl) ?_
    refine wg (v := .ref (wad w 3 0)) X hT hW 1 1 65 vl1_0 rfl rfl (by decide) rfl (by decide) in_X1 q1071 rfl dX1_goesTogether_36 ?_
    refine wg (v := .ref (wad w 6 0)) X hT hW 3 2 194 vl3_0 rfl rfl (by decide) rfl (by decide) in_X5 q527 rfl dX1_goesTogether_39 ?_
    refine wg (v := .long (oL (gI σ 391 0))) X hT hW 6 7 391 vl6_0 rfl rfl (by decide) rfl (by decide) in_X8 q454 rfl dX1_goesTogether_42 ?_
    refine w_topl (fun y7_255 ey7_255 => ?_)
    have h := h y7_255 ey7_255
    have ry7_255 : rJ y7_255 := by rw [ey7_255]; exact (hW.r.j 391 0 rfl)
    refine lv_lstore (i := 7) (lv' := [(7, .long (oL y7_255)), (0, .ref (wad w 1 0)), (1, .int (oI y1)), (2, .int (oI y2)), (3, .int (oI y3)), (4, .int (oI y4)), (5, .int (oI y5)), (6, .int (oI y6))]) X.1 X.2.1 dX1_goesTogether_45 hl (by decide) (by first | rfl | simp [catK, catI, catR, catL]) (fun ls hl => ?_)
    refine lv_aload_n X.1 X.2.1 dX1_goesTogether_47 rfl (lv_at hl 1 rfl) ?_
    refine wg (v := .ref (wad w 3 0)) X hT hW 1 1 65 vl1_0 rfl rfl (by decide) rfl (by decide) in_X1 q1071 rfl dX1_goesTogether_48 ?_
    refine wg (v := .ref (wad w 6 0)) X hT hW 3 2 194 vl3_0 rfl rfl (by decide) rfl (by decide) in_X5 q527 rfl dX1_goesTogether_51 ?_
    refine wg (v := .long (oL (gI σ 392 0))) X hT hW 6 8 392 vl6_0 rfl rfl (by decide) rfl (by decide) in_X8 q457 rfl dX1_goesTogether_54 ?_
    refine w_topl (fun y9_256 ey9_256 => ?_)
    have h := h y9_256 ey9_256
    have ry9_256 : rJ y9_256 := by rw [ey9_256]; exact (hW.r.j 392 0 rfl)
    refine lv_lstore (i := 9) (lv' := [(9, .long (oL y9_256)), (7, .long (oL y7_255)), (0, .ref (wad w 1 0)), (1, .int (oI y1)), (2, .int (oI y2)), (3, .int (oI y3)), (4, .int (oI y4)), (5, .int (oI y5)), (6, .int (oI y6))]) X.1 X.2.1 dX1_goesTogether_57 hl (by decide) (by first | rfl | simp [catK, catI, catR, catL]) (fun ls hl => ?_)
    refine lv_lload X.1 X.2.1 dX1_goesTogether_59 (lv_at hl 1 rfl) ?_
    refine w_ldc2 X (z := 4) q896 (by decide) dX1_goesTogether_61 ?_
    refine w_ldiv X ry7_255 (rJ_lit 4 (by decide)) (by decide) dX1_goesTogether_64 ?_
    refine w_l2i X dX1_goesTogether_65 ?_
    refine w_top (fun y11_257 ey11_257 => ?_)
    have h := h y11_257 ey11_257
    have ry11_257 : rI y11_257 := by rw [ey11_257]; exact (w32_r _)
    refine lv_istore (i := 11) (lv' := [(11, .int (oI y11_257)), (9, .long (oL y9_256)), (7, .long (oL y7_255)), (0, .ref (wad w 1 0)), (1, .int (oI y1)), (2, .int (oI y2)), (3, .int (oI y3)), (4, .int (oI y4)), (5, .int (oI y5)), (6, .int (oI y6))]) X.1 X.2.1 dX1_goesTogether_66 hl (by decide) (by first | rfl | simp [catK, catI, catR, catL]) (fun ls hl => ?_)
    refine lv_iload_n X.1 X.2.1 dX1_goesTogether_68 rfl (lv_at hl 4 rfl) ?_
    refine lv_aload_n X.1 X.2.1 dX1_goesTogether_69 rfl (lv_at hl 3 rfl) ?_
    refine wg (v := .ref (wad w 3 0)) X hT hW 1 1 65 vl1_0 rfl rfl (by decide) rfl (by decide) in_X1 q1071 rfl dX1_goesTogether_70 ?_
    refine wg (v := .ref (wad w 6 0)) X hT hW 3 2 194 vl3_0 rfl rfl (by decide) rfl (by decide) in_X5 q527 rfl dX1_goesTogether_73 ?_
    refine wg (v := .int (oI (gI σ 395 0))) X hT hW 6 11 395 vl6_0 rfl rfl (by decide) rfl (by decide) in_X8 q466 rfl dX1_goesTogether_76 ?_
    refine lv_sipush (v := oI 192) X.1 X.2.1 dX1_goesTogether_79 (by decide) ?_
    refine w_iadd X dX1_goesTogether_82 ?_
    refine w_iadd X dX1_goesTogether_83 ?_
    refine w_top (fun y1_258 ey1_258 => ?_)
    have h := h y1_258 ey1_258
    have ry1_258 : rI y1_258 := by rw [ey1_258]; exact (w32_r _)
    refine lv_istore_n (i := 1) (lv' := [(1, .int (oI y1_258)), (11, .int (oI y11_257)), (9, .long (oL y9_256)), (7, .long (oL y7_255)), (0, .ref (wad w 1 0)), (2, .int (oI y2)), (3, .int (oI y3)), (4, .int (oI y4)), (5, .int (oI y5)), (6, .int (oI y6))]) X.1 X.2.1 dX1_goesTogether_84 rfl hl (by decide) (by first | rfl | simp [catK, catI, catR, catL]) (fun ls hl => ?_)
    refine lv_lload X.1 X.2.1 dX1_goesTogether_85 (lv_at hl 3 rfl) ?_
    refine w_ldc2 X (z := 4) q896 (by decide) dX1_goesTogether_87 ?_
    refine w_lrem X ry7_255 (rJ_lit 4 (by decide)) (by decide) dX1_goesTogether_90 ?_
    refine lv_lconst (v := oL 0) X.1 X.2.1 dX1_goesTogether_91 (by decide) ?_
    refine w_lcmp_ne (tgt := 284) X (jrl_r _ _) (rJ_lit 0 (by decide)) dX1_goesTogether_92 dX1_goesTogether_93 (by decide) (fun hc => ?_) (fun hc => ?_)
    · have h := h.1 hc
      refine lv_lload X.1 X.2.1 dX1_goesTogether_284 (lv_at hl 3 rfl) ?_
      refine w_ldc2 X (z := 4) q896 (by decide) dX1_goesTogether_286 ?_
      refine w_lrem X ry7_255 (rJ_lit 4 (by decide)) (by decide) dX1_goesTogether_289 ?_
      refine lv_lconst (v := oL 1) X.1 X.2.1 dX1_goesTogether_290 (by decide) ?_
      refine w_lcmp_ne (tgt := 350) X (jrl_r _ _) (rJ_lit 1 (by decide)) dX1_goesTogether_291 dX1_goesTogether_292 (by decide) (fun hc => ?_) (fun hc => ?_)
      · have h := h.1 hc
        refine lv_lload X.1 X.2.1 dX1_goesTogether_350 (lv_at hl 3 rfl) ?_
        refine w_ldc2 X (z := 4) q896 (by decide) dX1_goesTogether_352 ?_
        refine w_lrem X ry7_255 (rJ_lit 4 (by decide)) (by decide) dX1_goesTogether_355 ?_
        refine w_ldc2 X (z := 2) q1448 (by decide) dX1_goesTogether_356 ?_
        refine w_lcmp_ne (tgt := 502) X (jrl_r _ _) (rJ_lit 2 (by decide)) dX1_goesTogether_359 dX1_goesTogether_360 (by decide) (fun hc => ?_) (fun hc => ?_)
        · have h := h.1 hc
          refine lv_iload X.1 X.2.1 dX1_goesTogether_502 (lv_at hl 8 rfl) ?_
          refine lv_aload_n X.1 X.2.1 dX1_goesTogether_504 rfl (lv_at hl 4 rfl) ?_
          refine lv_iload X.1 X.2.1 dX1_goesTogether_505 (lv_at hl 1 rfl) ?_
          refine lv_aload_n X.1 X.2.1 dX1_goesTogether_507 rfl (lv_at hl 4 rfl) ?_
          refine wg (v := .ref (wad w 10 0)) X hT hW 1 14 78 vl1_0 rfl rfl (by decide) rfl (by decide) in_X1 q1084 rfl dX1_goesTogether_508 ?_
          refine wr_Z (rV (As := [.int (oI y11_257), .ref (wad w 10 0)]) (rest := [.int (oI y5)]) X hT hW hS (met_House_read l (w := w) hV y11_257 0 _ σ ry11_257 (by omega) h) (cwV 2 X.2.2.2.2 (lw_V q1177 q1179 qs32 q131 q1180) rfl rfl rfl (by decide +kernel) ⟨Nat.le_of_ble_eq_true rfl, Nat.le_of_ble_eq_true rfl⟩) vl1_0 (by decide) rfl rfl hl.1 rfl (by first | exact Nat.le_of_ble_eq_true rfl | simp [catK, catI, catR, catL]) dX1_goesTogether_511 ⟨Nat.le_refl _, Nat.le_refl _⟩) hS (fun r_259 σ_260 H locs rr_259 rkσ_260 h hWσ_260 hS => ?_)
          have h := h rr_259 rkσ_260
          refine w_if_eq (tgt := 532) X rr_259.i dX1_goesTogether_514 (by decide) (fun hc => ?_) (fun hc => ?_)
          · have h := h.1 hc
            exact wk_House_goesTogether_b532 X hr hlk hT hV (wp_House_goesTogether_b533 (wc w) (wtv w) Q (wp_House_goesTogether_b536 (wc w) (wtv w) Q K30)) (wk_House_goesTogether_b533 X hr hlk hT hV (wp_House_goesTogether_b536 (wc w) (wtv w) Q K30) (wk_House_goesTogether_b536 X hr hlk hT hV K30 hK30)) y1_258 y2 y3 y4 y7_255 y9_256 y5 σ_260 _ _ _ ry1_258 ry2 ry3 ry4 ry7_255 ry9_256 ry5 (lv_sub hl [4, 0, 5, 6, 7, 3, 2] rfl) hWσ_260 hS h
          · have h := h.2 hc
            refine lv_lload X.1 X.2.1 dX1_goesTogether_517 (lv_at hl 2 rfl) ?_
            refine wr_J (rS (As := [.long (oL y9_256)]) (rest := [.int (oI y5)]) X hT hWσ_260 hS (met_Long_reverseBytes l (w := w) y9_256 _ σ_260 ry9_256 h) (va_cwS 1 X.2.2.2.2 (lw_S q1449 q1324 q148 q1325) rfl rfl rfl (by decide +kernel) ⟨Nat.le_of_ble_eq_true rfl, Nat.le_of_ble_eq_true rfl⟩) rfl hl.1 rfl (by first | exact Nat.le_of_ble_eq_true rfl | simp [catK, catI, catR, catL]) dX1_goesTogether_519 ⟨Nat.le_refl _, Nat.le_refl _⟩) hS (fun r_261 σ_262 H locs rr_261 rkσ_262 h hWσ_262 hS => ?_)
            have h := h rr_261 rkσ_262
            refine wr_Z (rS (As := [.long (oL r_261)]) (rest := [.int (oI y5)]) X hT hWσ_262 hS (met_House_isName l (w := w) r_261 _ σ_262 rr_261 h) (va_cwS 1 X.2.2.2.2 (lw_S q1169 q1170 q131 q1171) rfl rfl rfl (by decide +kernel) ⟨Nat.le_of_ble_eq_true rfl, Nat.le_of_ble_eq_true rfl⟩) rfl hl.1 rfl (by first | exact Nat.le_of_ble_eq_true rfl | simp [catK, catI, catR, catL]) dX1_goesTogether_522 ⟨Nat.le_refl _, Nat.le_refl _⟩) hS (fun r_263 σ_264 H locs rr_263 rkσ_264 h hWσ_264 hS => ?_)
            have h := h rr_263 rkσ_264
            refine w_if_eq (tgt := 532) X rr_263.i dX1_goesTogether_525 (by decide) (fun hc => ?_) (fun hc => ?_)
            · have h := h.1 hc
              exact wk_House_goesTogether_b532 X hr hlk hT hV (wp_House_goesTogether_b533 (wc w) (wtv w) Q (wp_House_goesTogether_b536 (wc w) (wtv w) Q K30)) (wk_House_goesTogether_b533 X hr hlk hT hV (wp_House_goesTogether_b536 (wc w) (wtv w) Q K30) (wk_House_goesTogether_b536 X hr hlk hT hV K30 hK30)) y1_258 y2 y3 y4 y7_255 y9_256 y5 σ_264 _ _ _ ry1_258 ry2 ry3 ry4 ry7_255 ry9_256 ry5 (lv_sub hl [4, 0, 5, 6, 7, 3, 2] rfl) hWσ_264 hS h
            · have h := h.2 hc
              refine lv_iconst (v := oI 1) X.1 X.2.1 dX1_goesTogether_528 rfl ?_
              refine lv_goto (tgt := 533) X.1 X.2.1 dX1_goesTogether_529 (by decide) ?_
              exact wk_House_goesTogether_b533 X hr hlk hT hV (wp_House_goesTogether_b536 (wc w) (wtv w) Q K30) (wk_House_goesTogether_b536 X hr hlk hT hV K30 hK30) y1_258 y2 y3 y4 y7_255 y9_256 1 y5 σ_264 _ _ _ ry1_258 ry2 ry3 ry4 ry7_255 ry9_256 rZ_1 ry5 (lv_sub hl [4, 0, 5, 6, 7, 3, 2] rfl) hWσ_264 hS h
        · have h := h.2 hc
          refine lv_aload_n X.1 X.2.1 dX1_goesTogether_363 rfl (lv_at hl 4 rfl) ?_
          refine wg (v := .ref (wad w 3 0)) X hT hW 1 1 65 vl1_0 rfl rfl (by decide) rfl (by decide) in_X1 q1071 rfl dX1_goesTogether_364 ?_
          refine lv_aload_n X.1 X.2.1 dX1_goesTogether_367 rfl (lv_at hl 4 rfl) ?_
          refine wg (v := .ref (wad w 3 0)) X hT hW 1 1 65 vl1_0 rfl rfl (by decide) rfl (by decide) in_X1 q1071 rfl dX1_goesTogether_368 ?_
          refine wg (v := .ref (wad w 6 0)) X hT hW 3 2 194 vl3_0 rfl rfl (by decide) rfl (by decide) in_X5 q527 rfl dX1_goesTogether_371 ?_
          refine wg (v := .int (oI (gI σ 393 0))) X hT hW 6 9 393 vl6_0 rfl rfl (by decide) rfl (by decide) in_X8 q460 rfl dX1_goesTogether_374 ?_
          refine lv_aload_n X.1 X.2.1 dX1_goesTogether_377 rfl (lv_at hl 4 rfl) ?_
          refine wg (v := .ref (wad w 3 0)) X hT hW 1 1 65 vl1_0 rfl rfl (by decide) rfl (by decide) in_X1 q1071 rfl dX1_goesTogether_378 ?_
          refine wg (v := .ref (wad w 6 0)) X hT hW 3 2 194 vl3_0 rfl rfl (by decide) rfl (by decide) in_X5 q527 rfl dX1_goesTogether_381 ?_
          refine wg (v := .int (oI (gI σ 394 0))) X hT hW 6 10 394 vl6_0 rfl rfl (by decide) rfl (by decide) in_X8 q463 rfl dX1_goesTogether_384 ?_
          refine lv_aload_n X.1 X.2.1 dX1_goesTogether_387 rfl (lv_at hl 4 rfl) ?_
          refine wg (v := .ref (wad w 3 0)) X hT hW 1 1 65 vl1_0 rfl rfl (by decide) rfl (by decide) in_X1 q1071 rfl dX1_goesTogether_388 ?_
          refine wg (v := .ref (wad w 6 0)) X hT hW 3 2 194 vl3_0 rfl rfl (by decide) rfl (by decide) in_X5 q527 rfl dX1_goesTogether_391 ?_
          refine wg (v := .int (oI (gI σ 395 0))) X hT hW 6 11 395 vl6_0 rfl rfl (by decide) rfl (by decide) in_X8 q466 rfl dX1_goesTogether_394 ?_
          refine lv_aload_n X.1 X.2.1 dX1_goesTogether_397 rfl (lv_at hl 4 rfl) ?_
          refine wg (v := .ref (wad w 3 0)) X hT hW 1 1 65 vl1_0 rfl rfl (by decide) rfl (by decide) in_X1 q1071 rfl dX1_goesTogether_398 ?_
          refine wg (v := .ref (wad w 8 0)) X hT hW 3 6 198 vl3_0 rfl rfl (by decide) rfl (by decide) in_X5 q532 rfl dX1_goesTogether_401 ?_
          refine wr_V (rV (As := [.int (oI (gI σ 393 0)), .int (oI (gI σ 394 0)), .int (oI (gI σ 395 0)), .ref (wad w 8 0)]) (rest := []) X hT hW hS (met_Store_read l (w := w) hV 0 (gI σ 393 0) (gI σ 394 0) (gI σ 395 0) 0 _ σ (by omega) (hW.r.i 393 0 rfl) (hW.r.i 394 0 rfl) (hW.r.i 395 0 rfl) (by omega) h) (cwV 4 X.2.2.2.2 (lw_V q1183 q1184 q1185 q136 q1186) rfl rfl rfl (by decide +kernel) ⟨Nat.le_of_ble_eq_true rfl, Nat.le_of_ble_eq_true rfl⟩) vl3_0 (by decide) rfl rfl hl.1 rfl (by first | exact Nat.le_of_ble_eq_true rfl | simp [catK, catI, catR, catL]) dX1_goesTogether_404 ⟨Nat.le_refl _, Nat.le_refl _⟩) hS (fun σ_266 H locs rkσ_266 h hWσ_266 hS => ?_)
          have h := h rkσ_266
          refine lv_aload_n X.1 X.2.1 dX1_goesTogether_407 rfl (lv_at hl 4 rfl) ?_
          refine wg (v := .ref (wad w 3 0)) X hT hWσ_266 1 1 65 vl1_0 rfl rfl (by decide) rfl (by decide) in_X1 q1071 rfl dX1_goesTogether_408 ?_
          refine wg (v := .ref (wad w 8 0)) X hT hWσ_266 3 6 198 vl3_0 rfl rfl (by decide) rfl (by decide) in_X5 q532 rfl dX1_goesTogether_411 ?_
          refine lv_bipush (v := oI 8) X.1 X.2.1 dX1_goesTogether_414 (by decide) ?_
          refine wr_J (rV (As := [.int (oI 8)]) (rest := []) X hT hWσ_266 hS (met_Row_getLongAt l (w := w) hV 0 8 _ σ_266 (by omega) ((rB_lit 8 (by decide)).i) h) (cwV 1 X.2.2.2.2 (lw_V q1218 q1219 q1220 q132 q1221) rfl rfl rfl (by decide +kernel) ⟨Nat.le_of_ble_eq_true rfl, Nat.le_of_ble_eq_true rfl⟩) vl8_0 (by decide) rfl rfl hl.1 rfl (by first | exact Nat.le_of_ble_eq_true rfl | simp [catK, catI, catR, catL]) dX1_goesTogether_416 ⟨Nat.le_refl _, Nat.le_refl _⟩) hS (fun r_267 σ_268 H locs rr_267 rkσ_268 h hWσ_268 hS => ?_)
          have h := h rr_267 rkσ_268
          refine lv_lstore (i := 12) (lv' := [(12, .long (oL r_267)), (1, .int (oI y1_258)), (11, .int (oI y11_257)), (9, .long (oL y9_256)), (7, .long (oL y7_255)), (0, .ref (wad w 1 0)), (2, .int (oI y2)), (3, .int (oI y3)), (4, .int (oI y4)), (5, .int (oI y5)), (6, .int (oI y6))]) X.1 X.2.1 dX1_goesTogether_419 hl (by decide) (by first | rfl | simp [catK, catI, catR, catL]) (fun ls hl => ?_)
          refine lv_iload X.1 X.2.1 dX1_goesTogether_421 (lv_at hl 9 rfl) ?_
          refine lv_lload X.1 X.2.1 dX1_goesTogether_423 (lv_at hl 0 rfl) ?_
          refine wr_Z (rS (As := [.long (oL r_267)]) (rest := [.int (oI y5)]) X hT hWσ_268 hS (met_House_isName l (w := w) r_267 _ σ_268 rr_267 h) (va_cwS 1 X.2.2.2.2 (lw_S q1169 q1170 q131 q1171) rfl rfl rfl (by decide +kernel) ⟨Nat.le_of_ble_eq_true rfl, Nat.le_of_ble_eq_true rfl⟩) rfl hl.1 rfl (by first | exact Nat.le_of_ble_eq_true rfl | simp [catK, catI, catR, catL]) dX1_goesTogether_425 ⟨Nat.le_refl _, Nat.le_refl _⟩) hS (fun r_269 σ_270 H locs rr_269 rkσ_270 h hWσ_270 hS => ?_)
          have h := h rr_269 rkσ_270
          refine w_if_eq (tgt := 495) X rr_269.i dX1_goesTogether_428 (by decide) (fun hc => ?_) (fun hc => ?_)
          · have h := h.1 hc
            exact wk_House_goesTogether_b495 X hr hlk hT hV (wp_House_goesTogether_b496 (wc w) (wtv w) Q (wp_House_goesTogether_b536 (wc w) (wtv w) Q K30)) (wk_House_goesTogether_b496 X hr hlk hT hV (wp_House_goesTogether_b536 (wc w) (wtv w) Q K30) (wk_House_goesTogether_b536 X hr hlk hT hV K30 hK30)) y1_258 y2 y3 y4 y7_255 y9_256 y5 σ_270 _ _ _ ry1_258 ry2 ry3 ry4 ry7_255 ry9_256 ry5 (lv_sub hl [5, 1, 6, 7, 8, 4, 3] rfl) hWσ_270 hS h
          · have h := h.2 hc
            refine lv_aload_n X.1 X.2.1 dX1_goesTogether_431 rfl (lv_at hl 5 rfl) ?_
            refine lv_aload_n X.1 X.2.1 dX1_goesTogether_432 rfl (lv_at hl 5 rfl) ?_
            refine lv_iload X.1 X.2.1 dX1_goesTogether_433 (lv_at hl 2 rfl) ?_
            refine lv_lload X.1 X.2.1 dX1_goesTogether_435 (lv_at hl 0 rfl) ?_
            refine wr_I (rV (As := [.int (oI y11_257), .long (oL r_267)]) (rest := [.ref (wad w 1 0), .int (oI y5)]) X hT hWσ_270 hS (met_House_entry l (w := w) hV y11_257 r_267 _ σ_270 ry11_257 rr_267 h) (cwV 2 X.2.2.2.2 (lw_V q1210 q1212 qs34 q131 q1213) rfl rfl rfl (by decide +kernel) ⟨Nat.le_of_ble_eq_true rfl, Nat.le_of_ble_eq_true rfl⟩) vl1_0 (by decide) rfl rfl hl.1 rfl (by first | exact Nat.le_of_ble_eq_true rfl | simp [catK, catI, catR, catL]) dX1_goesTogether_437 ⟨Nat.le_refl _, Nat.le_refl _⟩) hS (fun r_271 σ_272 H locs rr_271 rkσ_272 h hWσ_272 hS => ?_)
            have h := h rr_271 rkσ_272
            refine lv_aload_n X.1 X.2.1 dX1_goesTogether_440 rfl (lv_at hl 5 rfl) ?_
            refine wg (v := .ref (wad w 10 0)) X hT hWσ_272 1 14 78 vl1_0 rfl rfl (by decide) rfl (by decide) in_X1 q1084 rfl dX1_goesTogether_441 ?_
            refine wr_Z (rV (As := [.int (oI r_271), .ref (wad w 10 0)]) (rest := [.int (oI y5)]) X hT hWσ_272 hS (met_House_read l (w := w) hV r_271 0 _ σ_272 rr_271 (by omega) h) (cwV 2 X.2.2.2.2 (lw_V q1177 q1179 qs32 q131 q1180) rfl rfl rfl (by decide +kernel) ⟨Nat.le_of_ble_eq_true rfl, Nat.le_of_ble_eq_true rfl⟩) vl1_0 (by decide) rfl rfl hl.1 rfl (by first | exact Nat.le_of_ble_eq_true rfl | simp [catK, catI, catR, catL]) dX1_goesTogether_444 ⟨Nat.le_refl _, Nat.le_refl _⟩) hS (fun r_273 σ_274 H locs rr_273 rkσ_274 h hWσ_274 hS => ?_)
            have h := h rr_273 rkσ_274
            refine w_if_eq (tgt := 495) X rr_273.i dX1_goesTogether_447 (by decide) (fun hc => ?_) (fun hc => ?_)
            · have h := h.1 hc
              exact wk_House_goesTogether_b495 X hr hlk hT hV (wp_House_goesTogether_b496 (wc w) (wtv w) Q (wp_House_goesTogether_b536 (wc w) (wtv w) Q K30)) (wk_House_goesTogether_b496 X hr hlk hT hV (wp_House_goesTogether_b536 (wc w) (wtv w) Q K30) (wk_House_goesTogether_b536 X hr hlk hT hV K30 hK30)) y1_258 y2 y3 y4 y7_255 y9_256 y5 σ_274 _ _ _ ry1_258 ry2 ry3 ry4 ry7_255 ry9_256 ry5 (lv_sub hl [5, 1, 6, 7, 8, 4, 3] rfl) hWσ_274 hS h
            · have h := h.2 hc
              refine lv_lload X.1 X.2.1 dX1_goesTogether_450 (lv_at hl 0 rfl) ?_
              refine wr_J (rS (As := [.long (oL r_267)]) (rest := [.int (oI y5)]) X hT hWσ_274 hS (met_House_hash l (w := w) r_267 _ σ_274 rr_267 h) (va_cwS 1 X.2.2.2.2 (lw_S q1214 q1215 q131 q1216) rfl rfl rfl (by decide +kernel) ⟨Nat.le_of_ble_eq_true rfl, Nat.le_of_ble_eq_true rfl⟩) rfl hl.1 rfl (by first | exact Nat.le_of_ble_eq_true rfl | simp [catK, catI, catR, catL]) dX1_goesTogether_452 ⟨Nat.le_refl _, Nat.le_refl _⟩) hS (fun r_275 σ_276 H locs rr_275 rkσ_276 h hWσ_276 hS => ?_)
              have h := h rr_275 rkσ_276
              refine lv_aload_n X.1 X.2.1 dX1_goesTogether_455 rfl (lv_at hl 5 rfl) ?_
              refine wg (v := .int (oI (gI σ_276 91 0))) X hT hWσ_276 1 27 91 vl1_0 rfl rfl (by decide) rfl (by decide) in_X1 q1097 rfl dX1_goesTogether_456 ?_
              refine w_i2l X (hWσ_276.r.i 91 0 rfl) dX1_goesTogether_459 ?_
              refine w_ladd X dX1_goesTogether_460 ?_
              refine lv_lload X.1 X.2.1 dX1_goesTogether_461 (lv_at hl 3 rfl) ?_
              refine w_lcmp_ne (tgt := 495) X (w64_r _) ry9_256 dX1_goesTogether_463 dX1_goesTogether_464 (by decide) (fun hc => ?_) (fun hc => ?_)
              · have h := h.1 hc
                exact wk_House_goesTogether_b495 X hr hlk hT hV (wp_House_goesTogether_b496 (wc w) (wtv w) Q (wp_House_goesTogether_b536 (wc w) (wtv w) Q K30)) (wk_House_goesTogether_b496 X hr hlk hT hV (wp_House_goesTogether_b536 (wc w) (wtv w) Q K30) (wk_House_goesTogether_b536 X hr hlk hT hV K30 hK30)) y1_258 y2 y3 y4 y7_255 y9_256 y5 σ_276 _ _ _ ry1_258 ry2 ry3 ry4 ry7_255 ry9_256 ry5 (lv_sub hl [5, 1, 6, 7, 8, 4, 3] rfl) hWσ_276 hS h
              · have h := h.2 hc
                refine lv_aload_n X.1 X.2.1 dX1_goesTogether_467 rfl (lv_at hl 5 rfl) ?_
                refine lv_iload X.1 X.2.1 dX1_goesTogether_468 (lv_at hl 2 rfl) ?_
                refine lv_aload_n X.1 X.2.1 dX1_goesTogether_470 rfl (lv_at hl 5 rfl) ?_
                refine wg (v := .ref (wad w 10 1)) X hT hWσ_276 1 15 79 vl1_0 rfl rfl (by decide) rfl (by decide) in_X1 q1085 rfl dX1_goesTogether_471 ?_
                refine wr_Z (rV (As := [.int (oI y11_257), .ref (wad w 10 1)]) (rest := [.int (oI y5)]) X hT hWσ_276 hS (met_House_read l (w := w) hV y11_257 1 _ σ_276 ry11_257 (by omega) h) (cwV 2 X.2.2.2.2 (lw_V q1177 q1179 qs32 q131 q1180) rfl rfl rfl (by decide +kernel) ⟨Nat.le_of_ble_eq_true rfl, Nat.le_of_ble_eq_true rfl⟩) vl1_0 (by decide) rfl rfl hl.1 rfl (by first | exact Nat.le_of_ble_eq_true rfl | simp [catK, catI, catR, catL]) dX1_goesTogether_474 ⟨Nat.le_refl _, Nat.le_refl _⟩) hS (fun r_277 σ_278 H locs rr_277 rkσ_278 h hWσ_278 hS => ?_)
                have h := h rr_277 rkσ_278
                refine w_if_eq (tgt := 495) X rr_277.i dX1_goesTogether_477 (by decide) (fun hc => ?_) (fun hc => ?_)
                · have h := h.1 hc
                  exact wk_House_goesTogether_b495 X hr hlk hT hV (wp_House_goesTogether_b496 (wc w) (wtv w) Q (wp_House_goesTogether_b536 (wc w) (wtv w) Q K30)) (wk_House_goesTogether_b496 X hr hlk hT hV (wp_House_goesTogether_b536 (wc w) (wtv w) Q K30) (wk_House_goesTogether_b536 X hr hlk hT hV K30 hK30)) y1_258 y2 y3 y4 y7_255 y9_256 y5 σ_278 _ _ _ ry1_258 ry2 ry3 ry4 ry7_255 ry9_256 ry5 (lv_sub hl [5, 1, 6, 7, 8, 4, 3] rfl) hWσ_278 hS h
                · have h := h.2 hc
                  refine lv_aload_n X.1 X.2.1 dX1_goesTogether_480 rfl (lv_at hl 5 rfl) ?_
                  refine wg (v := .ref (wad w 10 1)) X hT hWσ_278 1 15 79 vl1_0 rfl rfl (by decide) rfl (by decide) in_X1 q1085 rfl dX1_goesTogether_481 ?_
                  refine wg (v := .int (oI (gI σ_278 641 1))) X hT hWσ_278 10 1 641 vl10_1 rfl rfl (by decide) rfl (by decide) in_X3 q190 rfl dX1_goesTogether_484 ?_
                  refine lv_iconst (v := oI 1) X.1 X.2.1 dX1_goesTogether_487 rfl ?_
                  refine w_icmp_ne (tgt := 495) X (hWσ_278.r.i 641 1 rfl) rZ_1.i dX1_goesTogether_488 (by decide) (fun hc => ?_) (fun hc => ?_)
                  · have h := h.1 hc
                    exact wk_House_goesTogether_b495 X hr hlk hT hV (wp_House_goesTogether_b496 (wc w) (wtv w) Q (wp_House_goesTogether_b536 (wc w) (wtv w) Q K30)) (wk_House_goesTogether_b496 X hr hlk hT hV (wp_House_goesTogether_b536 (wc w) (wtv w) Q K30) (wk_House_goesTogether_b536 X hr hlk hT hV K30 hK30)) y1_258 y2 y3 y4 y7_255 y9_256 y5 σ_278 _ _ _ ry1_258 ry2 ry3 ry4 ry7_255 ry9_256 ry5 (lv_sub hl [5, 1, 6, 7, 8, 4, 3] rfl) hWσ_278 hS h
                  · have h := h.2 hc
                    refine lv_iconst (v := oI 1) X.1 X.2.1 dX1_goesTogether_491 rfl ?_
                    refine lv_goto (tgt := 496) X.1 X.2.1 dX1_goesTogether_492 (by decide) ?_
                    exact wk_House_goesTogether_b496 X hr hlk hT hV (wp_House_goesTogether_b536 (wc w) (wtv w) Q K30) (wk_House_goesTogether_b536 X hr hlk hT hV K30 hK30) y1_258 y2 y3 y4 y7_255 y9_256 1 y5 σ_278 _ _ _ ry1_258 ry2 ry3 ry4 ry7_255 ry9_256 rZ_1 ry5 (lv_sub hl [5, 1, 6, 7, 8, 4, 3] rfl) hWσ_278 hS h
      · have h := h.2 hc
        refine lv_iload X.1 X.2.1 dX1_goesTogether_295 (lv_at hl 8 rfl) ?_
        refine lv_aload_n X.1 X.2.1 dX1_goesTogether_297 rfl (lv_at hl 4 rfl) ?_
        refine lv_iload X.1 X.2.1 dX1_goesTogether_298 (lv_at hl 1 rfl) ?_
        refine lv_aload_n X.1 X.2.1 dX1_goesTogether_300 rfl (lv_at hl 4 rfl) ?_
        refine wg (v := .ref (wad w 10 0)) X hT hW 1 14 78 vl1_0 rfl rfl (by decide) rfl (by decide) in_X1 q1084 rfl dX1_goesTogether_301 ?_
        refine wr_Z (rV (As := [.int (oI y11_257), .ref (wad w 10 0)]) (rest := [.int (oI y5)]) X hT hW hS (met_House_read l (w := w) hV y11_257 0 _ σ ry11_257 (by omega) h) (cwV 2 X.2.2.2.2 (lw_V q1177 q1179 qs32 q131 q1180) rfl rfl rfl (by decide +kernel) ⟨Nat.le_of_ble_eq_true rfl, Nat.le_of_ble_eq_true rfl⟩) vl1_0 (by decide) rfl rfl hl.1 rfl (by first | exact Nat.le_of_ble_eq_true rfl | simp [catK, catI, catR, catL]) dX1_goesTogether_304 ⟨Nat.le_refl _, Nat.le_refl _⟩) hS (fun r_279 σ_280 H locs rr_279 rkσ_280 h hWσ_280 hS => ?_)
        have h := h rr_279 rkσ_280
        refine w_if_eq (tgt := 343) X rr_279.i dX1_goesTogether_307 (by decide) (fun hc => ?_) (fun hc => ?_)
        · have h := h.1 hc
          exact wk_House_goesTogether_b343 X hr hlk hT hV (wp_House_goesTogether_b344 (wc w) (wtv w) Q (wp_House_goesTogether_b536 (wc w) (wtv w) Q K30)) (wk_House_goesTogether_b344 X hr hlk hT hV (wp_House_goesTogether_b536 (wc w) (wtv w) Q K30) (wk_House_goesTogether_b536 X hr hlk hT hV K30 hK30)) y1_258 y2 y3 y4 y7_255 y9_256 y5 σ_280 _ _ _ ry1_258 ry2 ry3 ry4 ry7_255 ry9_256 ry5 (lv_sub hl [4, 0, 5, 6, 7, 3, 2] rfl) hWσ_280 hS h
        · have h := h.2 hc
          refine lv_lload X.1 X.2.1 dX1_goesTogether_310 (lv_at hl 2 rfl) ?_
          refine w_ldc2 X (z := 64) q1834 (by decide) dX1_goesTogether_312 ?_
          refine w_lmul X dX1_goesTogether_315 ?_
          refine lv_aload_n X.1 X.2.1 dX1_goesTogether_316 rfl (lv_at hl 4 rfl) ?_
          refine lv_iload X.1 X.2.1 dX1_goesTogether_317 (lv_at hl 1 rfl) ?_
          refine lv_lload X.1 X.2.1 dX1_goesTogether_319 (lv_at hl 2 rfl) ?_
          refine w_l2i X dX1_goesTogether_321 ?_
          refine wr_I (rV (As := [.int (oI y11_257), .int (oI (w32 y9_256))]) (rest := [.long (oL (w64 (y9_256 * 64))), .int (oI y5)]) X hT hWσ_280 hS (met_House_piece l (w := w) hV y11_257 (w32 y9_256) _ σ_280 ry11_257 (w32_r _) h) (cwV 2 X.2.2.2.2 (lw_V q1479 q1481 qs64 q131 q1482) rfl rfl rfl (by decide +kernel) ⟨Nat.le_of_ble_eq_true rfl, Nat.le_of_ble_eq_true rfl⟩) vl1_0 (by decide) rfl rfl hl.1 rfl (by first | exact Nat.le_of_ble_eq_true rfl | simp [catK, catI, catR, catL]) dX1_goesTogether_322 ⟨Nat.le_refl _, Nat.le_refl _⟩) hS (fun r_281 σ_282 H locs rr_281 rkσ_282 h hWσ_282 hS => ?_)
          have h := h rr_281 rkσ_282
          refine w_i2l X rr_281 dX1_goesTogether_325 ?_
          refine w_ladd X dX1_goesTogether_326 ?_
          refine lv_aload_n X.1 X.2.1 dX1_goesTogether_327 rfl (lv_at hl 4 rfl) ?_
          refine wg (v := .ref (wad w 10 0)) X hT hWσ_282 1 14 78 vl1_0 rfl rfl (by decide) rfl (by decide) in_X1 q1084 rfl dX1_goesTogether_328 ?_
          refine wg (v := .int (oI (gI σ_282 643 0))) X hT hWσ_282 10 3 643 vl10_0 rfl rfl (by decide) rfl (by decide) in_X3 q192 rfl dX1_goesTogether_331 ?_
          refine w_i2l X (hWσ_282.r.i 643 0 rfl) dX1_goesTogether_334 ?_
          refine w_lcmp_gt (tgt := 343) X (w64_r _) (rI.j (hWσ_282.r.i 643 0 rfl)) dX1_goesTogether_335 dX1_goesTogether_336 (by decide) (fun hc => ?_) (fun hc => ?_)
          · have h := h.1 hc
            exact wk_House_goesTogether_b343 X hr hlk hT hV (wp_House_goesTogether_b344 (wc w) (wtv w) Q (wp_House_goesTogether_b536 (wc w) (wtv w) Q K30)) (wk_House_goesTogether_b344 X hr hlk hT hV (wp_House_goesTogether_b536 (wc w) (wtv w) Q K30) (wk_House_goesTogether_b536 X hr hlk hT hV K30 hK30)) y1_258 y2 y3 y4 y7_255 y9_256 y5 σ_282 _ _ _ ry1_258 ry2 ry3 ry4 ry7_255 ry9_256 ry5 (lv_sub hl [4, 0, 5, 6, 7, 3, 2] rfl) hWσ_282 hS h
          · have h := h.2 hc
            refine lv_iconst (v := oI 1) X.1 X.2.1 dX1_goesTogether_339 rfl ?_
            refine lv_goto (tgt := 344) X.1 X.2.1 dX1_goesTogether_340 (by decide) ?_
            exact wk_House_goesTogether_b344 X hr hlk hT hV (wp_House_goesTogether_b536 (wc w) (wtv w) Q K30) (wk_House_goesTogether_b536 X hr hlk hT hV K30 hK30) y1_258 y2 y3 y4 y7_255 y9_256 1 y5 σ_282 _ _ _ ry1_258 ry2 ry3 ry4 ry7_255 ry9_256 rZ_1 ry5 (lv_sub hl [4, 0, 5, 6, 7, 3, 2] rfl) hWσ_282 hS h
    · have h := h.2 hc
      obtain ⟨y2_283, ey2_283⟩ : ∃ y : Int, y = w32 (y2 + 1) := ⟨_, rfl⟩
      have h := h y2_283 ey2_283
      have ry2_283 : rI y2_283 := by rw [ey2_283]; exact w32_r _
      refine lv_iinc (v := oI y2_283) (lv' := [(2, .int (oI y2_283)), (1, .int (oI y1_258)), (11, .int (oI y11_257)), (9, .long (oL y9_256)), (7, .long (oL y7_255)), (0, .ref (wad w 1 0)), (3, .int (oI y3)), (4, .int (oI y4)), (5, .int (oI y5)), (6, .int (oI y6))]) X.1 X.2.1 dX1_goesTogether_96 hl (k := 5) rfl (by rw [ey2_283]; exact oI_add _ _) (by decide) (by first | rfl | simp [catK, catI, catR, catL]) (fun ls hl => ?_)
      refine lv_iload X.1 X.2.1 dX1_goesTogether_99 (lv_at hl 8 rfl) ?_
      refine lv_aload_n X.1 X.2.1 dX1_goesTogether_101 rfl (lv_at hl 5 rfl) ?_
      refine lv_iload X.1 X.2.1 dX1_goesTogether_102 (lv_at hl 2 rfl) ?_
      refine lv_aload_n X.1 X.2.1 dX1_goesTogether_104 rfl (lv_at hl 5 rfl) ?_
      refine wg (v := .ref (wad w 10 0)) X hT hW 1 14 78 vl1_0 rfl rfl (by decide) rfl (by decide) in_X1 q1084 rfl dX1_goesTogether_105 ?_
      refine wr_Z (rV (As := [.int (oI y11_257), .ref (wad w 10 0)]) (rest := [.int (oI y5)]) X hT hW hS (met_House_read l (w := w) hV y11_257 0 _ σ ry11_257 (by omega) h) (cwV 2 X.2.2.2.2 (lw_V q1177 q1179 qs32 q131 q1180) rfl rfl rfl (by decide +kernel) ⟨Nat.le_of_ble_eq_true rfl, Nat.le_of_ble_eq_true rfl⟩) vl1_0 (by decide) rfl rfl hl.1 rfl (by first | exact Nat.le_of_ble_eq_true rfl | simp [catK, catI, catR, catL]) dX1_goesTogether_108 ⟨Nat.le_refl _, Nat.le_refl _⟩) hS (fun r_284 σ_285 H locs rr_284 rkσ_285 h hWσ_285 hS => ?_)
      have h := h rr_284 rkσ_285
      refine w_iand X dX1_goesTogether_111 ?_
      refine w_top (fun y5_286 ey5_286 => ?_)
      have h := h y5_286 ey5_286
      have ry5_286 : rZ y5_286 := by rw [ey5_286]; exact (iand_Z ry5 rr_284)
      refine lv_istore (i := 5) (lv' := [(5, .int (oI y5_286)), (2, .int (oI y2_283)), (1, .int (oI y1_258)), (11, .int (oI y11_257)), (9, .long (oL y9_256)), (7, .long (oL y7_255)), (0, .ref (wad w 1 0)), (3, .int (oI y3)), (4, .int (oI y4)), (6, .int (oI y6))]) X.1 X.2.1 dX1_goesTogether_112 hl (by decide) (by first | rfl | simp [catK, catI, catR, catL]) (fun ls hl => ?_)
      refine lv_iload_n X.1 X.2.1 dX1_goesTogether_114 rfl (lv_at hl 7 rfl) ?_
      refine lv_aload_n X.1 X.2.1 dX1_goesTogether_115 rfl (lv_at hl 6 rfl) ?_
      refine wg (v := .ref (wad w 10 0)) X hT hWσ_285 1 14 78 vl1_0 rfl rfl (by decide) rfl (by decide) in_X1 q1084 rfl dX1_goesTogether_116 ?_
      refine wg (v := .int (oI (gI σ_285 641 0))) X hT hWσ_285 10 1 641 vl10_0 rfl rfl (by decide) rfl (by decide) in_X3 q190 rfl dX1_goesTogether_119 ?_
      refine lv_iconst (v := oI 2) X.1 X.2.1 dX1_goesTogether_122 rfl ?_
      refine w_icmp_ne (tgt := 140) X (hWσ_285.r.i 641 0 rfl) ((rB_lit 2 (by decide)).i) dX1_goesTogether_123 (by decide) (fun hc => ?_) (fun hc => ?_)
      · have h := h.1 hc
        exact wk_House_goesTogether_b140 X hr hlk hT hV (wp_House_goesTogether_b141 (wc w) (wtv w) Q (wp_House_goesTogether_b536 (wc w) (wtv w) Q K30)) (wk_House_goesTogether_b141 X hr hlk hT hV (wp_House_goesTogether_b536 (wc w) (wtv w) Q K30) (wk_House_goesTogether_b536 X hr hlk hT hV K30 hK30)) y1_258 y2_283 y4 y5_286 y7_255 y9_256 y11_257 y3 σ_285 _ _ _ ry1_258 ry2_283 ry4 ry5_286 ry7_255 ry9_256 ry11_257 ry3 (lv_sub hl [6, 2, 1, 8, 0, 5, 4, 3] rfl) hWσ_285 hS h
      · have h := h.2 hc
        refine lv_aload_n X.1 X.2.1 dX1_goesTogether_126 rfl (lv_at hl 6 rfl) ?_
        refine wg (v := .ref (wad w 10 0)) X hT hWσ_285 1 14 78 vl1_0 rfl rfl (by decide) rfl (by decide) in_X1 q1084 rfl dX1_goesTogether_127 ?_
        refine wg (v := .int (oI (gI σ_285 642 0))) X hT hWσ_285 10 2 642 vl10_0 rfl rfl (by decide) rfl (by decide) in_X3 q191 rfl dX1_goesTogether_130 ?_
        refine w_if_ne (tgt := 140) X (hWσ_285.r.i 642 0 rfl) dX1_goesTogether_133 (by decide) (fun hc => ?_) (fun hc => ?_)
        · have h := h.1 hc
          exact wk_House_goesTogether_b140 X hr hlk hT hV (wp_House_goesTogether_b141 (wc w) (wtv w) Q (wp_House_goesTogether_b536 (wc w) (wtv w) Q K30)) (wk_House_goesTogether_b141 X hr hlk hT hV (wp_House_goesTogether_b536 (wc w) (wtv w) Q K30) (wk_House_goesTogether_b536 X hr hlk hT hV K30 hK30)) y1_258 y2_283 y4 y5_286 y7_255 y9_256 y11_257 y3 σ_285 _ _ _ ry1_258 ry2_283 ry4 ry5_286 ry7_255 ry9_256 ry11_257 ry3 (lv_sub hl [6, 2, 1, 8, 0, 5, 4, 3] rfl) hWσ_285 hS h
        · have h := h.2 hc
          refine lv_iconst (v := oI 1) X.1 X.2.1 dX1_goesTogether_136 rfl ?_
          refine lv_goto (tgt := 141) X.1 X.2.1 dX1_goesTogether_137 (by decide) ?_
          exact wk_House_goesTogether_b141 X hr hlk hT hV (wp_House_goesTogether_b536 (wc w) (wtv w) Q K30) (wk_House_goesTogether_b536 X hr hlk hT hV K30 hK30) y1_258 y2_283 y4 y5_286 y7_255 y9_256 y11_257 1 y3 σ_285 _ _ _ ry1_258 ry2_283 ry4 ry5_286 ry7_255 ry9_256 ry11_257 rZ_1 ry3 (lv_sub hl [6, 2, 1, 8, 0, 5, 4, 3] rfl) hWσ_285 hS h
theorem wk_House_goesTogether_L30 {p : Program} {l : Launch} {e : Env} {st : State} {m : MethodId} {args : Array Value} {below : List Frame} {meth : Method} {c : Code} {w : Wp} {Q : Int → St → Prop} (X : CallFix p m c cX1_goesTogether 14 st args lw_all RX1) (hr : meth.sig.returnType = (some .boolean)) (hlk : meth.locks = false) (hT : Tb w st) (hV : Hvl w) : ∀ (y1 y2 y3 y4 y5 y6 : Int) (σ : St) (H : Heap) (locs : List Loc) (ls : Array Slot), rI y1 → rI y2 → rI y3 → rI y4 → rZ y5 → rZ y6 → lv_has ls 14 [(0, .ref (wad w 1 0)), (1, .int (oI y1)), (2, .int (oI y2)), (3, .int (oI y3)), (4, .int (oI y4)), (5, .int (oI y5)), (6, .int (oI y6))] → Wo w σ H → va_S (wA w) st.heap H locs → lQ6 (wp_House_goesTogether_L30 (wc w) (wtv w) Q) y1 y2 y3 y4 y5 y6 σ → W p l e (headSpec (ws_ yX1_goesTogether cX1_goesTogether 14 (some .boolean)) rm_House_goesTogether).room st m args below meth c H locs 0 0 (MQ below (QcZ w Q) args st 0 0 (wA w)) (F0 m 30 ls []) := by
  intro y1 y2 y3 y4 y5 y6 σ H locs ls ry1 ry2 ry3 ry4 ry5 ry6 hl hW hS h
  obtain ⟨fu, h⟩ := h
  induction fu generalizing y1 y2 y3 y4 y5 y6 σ H locs ls with
  | zero => exact h.elim
  | succ fu ih =>
    exact wk_House_goesTogether_L30B X hr hlk hT hV (lq6 (wp_House_goesTogether_L30 (wc w) (wtv w) Q) fu) (fun y1 y2 y3 y4 y5 y6 σ H locs ls ry1 ry2 ry3 ry4 ry5 ry6 hl hW hS h => ih y1 y2 y3 y4 y5 y6 σ H locs ls ry1 ry2 ry3 ry4 ry5 ry6 hl hW hS h) y1 y2 y3 y4 y5 y6 σ H locs ls ry1 ry2 ry3 ry4 ry5 ry6 hl hW hS h
set_option maxHeartbeats 4000000 in
set_option maxRecDepth 100000 in
theorem met_House_goesTogether (l : Launch) {w : Wp} (hV : Hvl w) (Q : Int → St → Prop) (σ : St) (h : wp_House_goesTogether (wc w) (wtv w) Q σ) : Met l yX1_goesTogether (ws_ yX1_goesTogether cX1_goesTogether 14 (some .boolean)) rm_House_goesTogether (PcW w σ [.ref (wad w 1 0)]) (QcZ w Q) 0 0 (wA w) := by
  refine Met.ofW (cc := cX1_goesTogether) (maxL := 14) (ret := (some .boolean)) (by decide) rfl ?_
  intro p e st m args below meth c s₁ B hml hv
  obtain ⟨hargs, hW, hT⟩ := hv
  have X : CallFix p m c cX1_goesTogether 14 st _ lw_all RX1 := ⟨B.exec, B.bytes, hml, findClass_of_methodNamed B.named, fun w h => atoms_spec (ws := ws_ yX1_goesTogether cX1_goesTogether 14 (some .boolean)) B.pre w (List.mem_cons_of_mem _ h)⟩
  have hr := B.returns
  have hlk := B.notSynchronized
  have hS : va_S (wA w) st.heap st.heap [] := va_S.rf
  have vl1_0 : vl w 1 0 := hV.hv 1 rfl ⟨by omega, by show _ < (1 : Int); omega⟩
  have vl3_0 : vl w 3 0 := hV.hv 3 rfl ⟨by omega, by show _ < (2 : Int); omega⟩
  have vl6_0 : vl w 6 0 := hV.hv 6 rfl ⟨by omega, by show _ < (2 : Int); omega⟩
  have hl := lv_entry ([.ref (wad w 1 0)]) (n := 14) (Nat.le_of_ble_eq_true rfl)
  have hfr := lg_entry_eq m ([.ref (wad w 1 0)]) 14
  rw [← hargs] at hfr
  rw [hfr]
  generalize (lg_sl ([.ref (wad w 1 0)]) ++ List.replicate (14 - (lg_sl ([.ref (wad w 1 0)])).length) Slot.unset).toArray = ls at hl ⊢
  have hl : lv_has ls 14 [(0, .ref (wad w 1 0))] := hl
  unfold wp_House_goesTogether at h
  refine lv_iconst (v := oI 0) X.1 X.2.1 dX1_goesTogether_0 rfl ?_
  refine lv_istore_n (i := 1) (lv' := [(1, .int (oI 0)), (0, .ref (wad w 1 0))]) X.1 X.2.1 dX1_goesTogether_1 rfl hl (by decide) (by first | rfl | simp [catK, catI, catR, catL]) (fun ls hl => ?_)
  refine lv_iconst (v := oI 0) X.1 X.2.1 dX1_goesTogether_2 rfl ?_
  refine lv_istore_n (i := 2) (lv' := [(2, .int (oI 0)), (1, .int (oI 0)), (0, .ref (wad w 1 0))]) X.1 X.2.1 dX1_goesTogether_3 rfl hl (by decide) (by first | rfl | simp [catK, catI, catR, catL]) (fun ls hl => ?_)
  refine lv_iconst (v := oI 0) X.1 X.2.1 dX1_goesTogether_4 rfl ?_
  refine lv_istore_n (i := 3) (lv' := [(3, .int (oI 0)), (2, .int (oI 0)), (1, .int (oI 0)), (0, .ref (wad w 1 0))]) X.1 X.2.1 dX1_goesTogether_5 rfl hl (by decide) (by first | rfl | simp [catK, catI, catR, catL]) (fun ls hl => ?_)
  refine lv_aload_n X.1 X.2.1 dX1_goesTogether_6 rfl (lv_at hl 3 rfl) ?_
  refine lv_iconst (v := oI 0) X.1 X.2.1 dX1_goesTogether_7 rfl ?_
  refine wr_I (rV (As := [.int (oI 0)]) (rest := []) X hT hW hS (met_House_gather l (w := w) hV 0 _ σ rZ_0.i h) (cwV 1 X.2.2.2.2 (lw_V q1444 q1446 qs59 q131 q1447) rfl rfl rfl (by decide +kernel) ⟨Nat.le_of_ble_eq_true rfl, Nat.le_of_ble_eq_true rfl⟩) vl1_0 (by decide) rfl rfl hl.1 rfl (by first | exact Nat.le_of_ble_eq_true rfl | simp [catK, catI, catR, catL]) dX1_goesTogether_8 ⟨Nat.le_refl _, Nat.le_refl _⟩) hS (fun r_287 σ_288 H locs rr_287 rkσ_288 h hWσ_288 hS => ?_)
  have h := h rr_287 rkσ_288
  refine lv_istore (i := 4) (lv' := [(4, .int (oI r_287)), (3, .int (oI 0)), (2, .int (oI 0)), (1, .int (oI 0)), (0, .ref (wad w 1 0))]) X.1 X.2.1 dX1_goesTogether_11 hl (by decide) (by first | rfl | simp [catK, catI, catR, catL]) (fun ls hl => ?_)
  refine lv_iconst (v := oI 1) X.1 X.2.1 dX1_goesTogether_13 rfl ?_
  refine lv_istore (i := 5) (lv' := [(5, .int (oI 1)), (4, .int (oI r_287)), (3, .int (oI 0)), (2, .int (oI 0)), (1, .int (oI 0)), (0, .ref (wad w 1 0))]) X.1 X.2.1 dX1_goesTogether_14 hl (by decide) (by first | rfl | simp [catK, catI, catR, catL]) (fun ls hl => ?_)
  refine lv_aload_n X.1 X.2.1 dX1_goesTogether_16 rfl (lv_at hl 5 rfl) ?_
  refine wg (v := .ref (wad w 3 0)) X hT hWσ_288 1 1 65 vl1_0 rfl rfl (by decide) rfl (by decide) in_X1 q1071 rfl dX1_goesTogether_17 ?_
  refine wg (v := .ref (wad w 6 0)) X hT hWσ_288 3 2 194 vl3_0 rfl rfl (by decide) rfl (by decide) in_X5 q527 rfl dX1_goesTogether_20 ?_
  refine lv_lconst (v := oL 0) X.1 X.2.1 dX1_goesTogether_23 (by decide) ?_
  refine lv_lconst (v := oL 0) X.1 X.2.1 dX1_goesTogether_24 (by decide) ?_
  refine wr_Z (rV (As := [.long (oL 0), .long (oL 0)]) (rest := []) X hT hWσ_288 hS (met_Index_seek l (w := w) hV 0 0 0 _ σ_288 (by omega) (rJ_lit 0 (by decide)) (rJ_lit 0 (by decide)) h) (cwV 2 X.2.2.2.2 (lw_V q1064 q906 q907 q139 q908) rfl rfl rfl (by decide +kernel) ⟨Nat.le_of_ble_eq_true rfl, Nat.le_of_ble_eq_true rfl⟩) vl6_0 (by decide) rfl rfl hl.1 rfl (by first | exact Nat.le_of_ble_eq_true rfl | simp [catK, catI, catR, catL]) dX1_goesTogether_25 ⟨Nat.le_refl _, Nat.le_refl _⟩) hS (fun r_289 σ_290 H locs rr_289 rkσ_290 h hWσ_290 hS => ?_)
  have h := h rr_289 rkσ_290
  refine lv_istore (i := 6) (lv' := [(6, .int (oI r_289)), (5, .int (oI 1)), (4, .int (oI r_287)), (3, .int (oI 0)), (2, .int (oI 0)), (1, .int (oI 0)), (0, .ref (wad w 1 0))]) X.1 X.2.1 dX1_goesTogether_28 hl (by decide) (by first | rfl | simp [catK, catI, catR, catL]) (fun ls hl => ?_)
  exact wk_House_goesTogether_L30 X hr hlk hT hV 0 0 0 r_287 1 r_289 σ_290 _ _ _ rZ_0.i rZ_0.i rZ_0.i rr_287 rZ_1 rr_289 (lv_sub hl [6, 5, 4, 3, 2, 1, 0] rfl) hWσ_290 hS h
/-! House.sound()Z -/
set_option maxHeartbeats 4000000 in
set_option maxRecDepth 100000 in
theorem met_House_sound (l : Launch) {w : Wp} (hV : Hvl w) (Q : Int → St → Prop) (σ : St) (h : wp_House_sound (wc w) (wtv w) Q σ) : Met l yX1_sound (ws_ yX1_sound cX1_sound 1 (some .boolean)) rm_House_sound (PcW w σ [.ref (wad w 1 0)]) (QcZ w Q) 0 0 (wA w) := by
  refine Met.ofW (cc := cX1_sound) (maxL := 1) (ret := (some .boolean)) (by decide) rfl ?_
  intro p e st m args below meth c s₁ B hml hv
  obtain ⟨hargs, hW, hT⟩ := hv
  have X : CallFix p m c cX1_sound 1 st _ lw_all RX1 := ⟨B.exec, B.bytes, hml, findClass_of_methodNamed B.named, fun w h => atoms_spec (ws := ws_ yX1_sound cX1_sound 1 (some .boolean)) B.pre w (List.mem_cons_of_mem _ h)⟩
  have hr := B.returns
  have hlk := B.notSynchronized
  have hS : va_S (wA w) st.heap st.heap [] := va_S.rf
  have vl1_0 : vl w 1 0 := hV.hv 1 rfl ⟨by omega, by show _ < (1 : Int); omega⟩
  have vl3_0 : vl w 3 0 := hV.hv 3 rfl ⟨by omega, by show _ < (2 : Int); omega⟩
  have vl3_1 : vl w 3 1 := hV.hv 3 rfl ⟨by omega, by show _ < (2 : Int); omega⟩
  have vl67_0 : vl w 67 0 := hV.hv 67 rfl ⟨by omega, by show _ < (1 : Int); omega⟩
  have hl := lv_entry ([.ref (wad w 1 0)]) (n := 1) (Nat.le_of_ble_eq_true rfl)
  have hfr := lg_entry_eq m ([.ref (wad w 1 0)]) 1
  rw [← hargs] at hfr
  rw [hfr]
  generalize (lg_sl ([.ref (wad w 1 0)]) ++ List.replicate (1 - (lg_sl ([.ref (wad w 1 0)])).length) Slot.unset).toArray = ls at hl ⊢
  have hl : lv_has ls 1 [(0, .ref (wad w 1 0))] := hl
  unfold wp_House_sound at h
  refine lv_aload_n X.1 X.2.1 dX1_sound_0 rfl (lv_at hl 0 rfl) ?_
  refine wg (v := .int (oI (gI σ 69 0))) X hT hW 1 5 69 vl1_0 rfl rfl (by decide) rfl (by decide) in_X1 q1075 rfl dX1_sound_1 ?_
  refine w_if_eq (tgt := 28) X ((hW.r.z 69 0 rfl).i) dX1_sound_4 (by decide) (fun hc => ?_) (fun hc => ?_)
  · have h := h.1 hc
    refine lv_iconst (v := oI 0) X.1 X.2.1 dX1_sound_28 rfl ?_
    exact wret_Z X hr hlk hW hS rZ_0 h dX1_sound_29
  · have h := h.2 hc
    refine lv_aload_n X.1 X.2.1 dX1_sound_7 rfl (lv_at hl 0 rfl) ?_
    refine wg (v := .ref (wad w 3 0)) X hT hW 1 1 65 vl1_0 rfl rfl (by decide) rfl (by decide) in_X1 q1071 rfl dX1_sound_8 ?_
    refine lv_aload_n X.1 X.2.1 dX1_sound_11 rfl (lv_at hl 0 rfl) ?_
    refine wg (v := .ref (wad w 67 0)) X hT hW 1 3 67 vl1_0 rfl rfl (by decide) rfl (by decide) in_X1 q1073 rfl dX1_sound_12 ?_
    refine wr_Z (rV (As := [.ref (wad w 67 0)]) (rest := []) X hT hW hS (met_Store_isSound l (w := w) hV 0 67 0 _ σ (by omega) vl67_0 (by decide) rfl h) (cwV 1 X.2.2.2.2 (lw_V q1802 q1803 q1804 q136 q1805) rfl rfl rfl (by decide +kernel) ⟨Nat.le_of_ble_eq_true rfl, Nat.le_of_ble_eq_true rfl⟩) vl3_0 (by decide) rfl rfl hl.1 rfl (by first | exact Nat.le_of_ble_eq_true rfl | simp [catK, catI, catR, catL]) dX1_sound_15 ⟨Nat.le_refl _, Nat.le_refl _⟩) hS (fun r_9 σ_10 H locs rr_9 rkσ_10 h hWσ_10 hS => ?_)
    have h := h rr_9 rkσ_10
    refine w_if_eq (tgt := 28) X rr_9.i dX1_sound_18 (by decide) (fun hc => ?_) (fun hc => ?_)
    · have h := h.1 hc
      refine lv_iconst (v := oI 0) X.1 X.2.1 dX1_sound_28 rfl ?_
      exact wret_Z X hr hlk hWσ_10 hS rZ_0 h dX1_sound_29
    · have h := h.2 hc
      refine lv_aload_n X.1 X.2.1 dX1_sound_21 rfl (lv_at hl 0 rfl) ?_
      refine wr_Z (rV (As := []) (rest := []) X hT hWσ_10 hS (met_House_goesTogether l (w := w) hV _ σ_10 h) (cwV 0 X.2.2.2.2 (lw_V q1822 q1824 qs88 q131 q1825) rfl rfl rfl (by decide +kernel) ⟨Nat.le_of_ble_eq_true rfl, Nat.le_of_ble_eq_true rfl⟩) vl1_0 (by decide) rfl rfl hl.1 rfl (by first | exact Nat.le_of_ble_eq_true rfl | simp [catK, catI, catR, catL]) dX1_sound_22 ⟨Nat.le_refl _, Nat.le_refl _⟩) hS (fun r_11 σ_12 H locs rr_11 rkσ_12 h hWσ_12 hS => ?_)
      have h := h rr_11 rkσ_12
      refine w_if_ne (tgt := 30) X rr_11.i dX1_sound_25 (by decide) (fun hc => ?_) (fun hc => ?_)
      · have h := h.1 hc
        refine lv_aload_n X.1 X.2.1 dX1_sound_30 rfl (lv_at hl 0 rfl) ?_
        refine wg (v := .ref (wad w 3 0)) X hT hWσ_12 1 1 65 vl1_0 rfl rfl (by decide) rfl (by decide) in_X1 q1071 rfl dX1_sound_31 ?_
        refine wg (v := .int (oI (gI σ_12 205 0))) X hT hWσ_12 3 13 205 vl3_0 rfl rfl (by decide) rfl (by decide) in_X5 q541 rfl dX1_sound_34 ?_
        refine w_if_le (tgt := 42) X (hWσ_12.r.i 205 0 rfl) dX1_sound_37 (by decide) (fun hc => ?_) (fun hc => ?_)
        · have h := h.1 hc
          refine lv_aload_n X.1 X.2.1 dX1_sound_42 rfl (lv_at hl 0 rfl) ?_
          refine wg (v := .ref (wad w 3 1)) X hT hWσ_12 1 2 66 vl1_0 rfl rfl (by decide) rfl (by decide) in_X1 q1072 rfl dX1_sound_43 ?_
          refine wr_V (rV (As := []) (rest := []) X hT hWσ_12 hS (met_Store_find l (w := w) hV 1 _ σ_12 (by omega) h) (cwV 0 X.2.2.2.2 (lw_V q1655 q1656 q1657 q136 q1658) rfl rfl rfl (by decide +kernel) ⟨Nat.le_of_ble_eq_true rfl, Nat.le_of_ble_eq_true rfl⟩) vl3_1 (by decide) rfl rfl hl.1 rfl (by first | exact Nat.le_of_ble_eq_true rfl | simp [catK, catI, catR, catL]) dX1_sound_46 ⟨Nat.le_refl _, Nat.le_refl _⟩) hS (fun σ_14 H locs rkσ_14 h hWσ_14 hS => ?_)
          have h := h rkσ_14
          refine lv_aload_n X.1 X.2.1 dX1_sound_49 rfl (lv_at hl 0 rfl) ?_
          refine wg (v := .ref (wad w 3 0)) X hT hWσ_14 1 1 65 vl1_0 rfl rfl (by decide) rfl (by decide) in_X1 q1071 rfl dX1_sound_50 ?_
          refine lv_aload_n X.1 X.2.1 dX1_sound_53 rfl (lv_at hl 0 rfl) ?_
          refine wg (v := .ref (wad w 3 1)) X hT hWσ_14 1 2 66 vl1_0 rfl rfl (by decide) rfl (by decide) in_X1 q1072 rfl dX1_sound_54 ?_
          refine wr_Z (rV (As := [.ref (wad w 3 1)]) (rest := []) X hT hWσ_14 hS (met_Store_isLike l (w := w) hV 0 1 _ σ_14 (by omega) (by omega) h) (cwV 1 X.2.2.2.2 (lw_V q1836 q1837 q1838 q136 q1839) rfl rfl rfl (by decide +kernel) ⟨Nat.le_of_ble_eq_true rfl, Nat.le_of_ble_eq_true rfl⟩) vl3_0 (by decide) rfl rfl hl.1 rfl (by first | exact Nat.le_of_ble_eq_true rfl | simp [catK, catI, catR, catL]) dX1_sound_57 ⟨Nat.le_refl _, Nat.le_refl _⟩) hS (fun r_15 σ_16 H locs rr_15 rkσ_16 h hWσ_16 hS => ?_)
          have h := h rr_15 rkσ_16
          exact wret_Z X hr hlk hWσ_16 hS rr_15 h dX1_sound_60
        · have h := h.2 hc
          refine lv_iconst (v := oI 1) X.1 X.2.1 dX1_sound_40 rfl ?_
          exact wret_Z X hr hlk hWσ_12 hS rZ_1 h dX1_sound_41
      · have h := h.2 hc
        refine lv_iconst (v := oI 0) X.1 X.2.1 dX1_sound_28 rfl ?_
        exact wret_Z X hr hlk hWσ_12 hS rZ_0 h dX1_sound_29
