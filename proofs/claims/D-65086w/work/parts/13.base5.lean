section
variable {p : Program} {l : Launch} {e : Env} {R : Room} {s : State} {m : MethodId} {args : Array Value} {below : List Frame} {meth : Method} {c : Code} {H : Heap} {locs : List Loc} {cells slots : Nat} {Q : State → Prop} {cc : ByteArray} {nL : Nat} {own : String} {pc : Nat} {ls : Array Slot} {rest : List Value} {w : Wp} {σ : St}
theorem w_iadd (X : CallFix p m c cc nL s args lw_all own) {x y : Int} (hdg : decode cc pc = .ok (.iadd, 1)) (kk : W p l e R s m args below meth c H locs cells slots Q (F0 m (pc + 1) ls (.int (oI (w32 (x + y))) :: rest))) : W p l e R s m args below meth c H locs cells slots Q (F0 m pc ls (.int (oI y) :: .int (oI x) :: rest)) := by
  refine lv_iadd X.1 X.2.1 hdg ?_
  rw [oI_add]; exact kk
theorem w_isub (X : CallFix p m c cc nL s args lw_all own) {x y : Int} (hdg : decode cc pc = .ok (.isub, 1)) (kk : W p l e R s m args below meth c H locs cells slots Q (F0 m (pc + 1) ls (.int (oI (w32 (x - y))) :: rest))) : W p l e R s m args below meth c H locs cells slots Q (F0 m pc ls (.int (oI y) :: .int (oI x) :: rest)) := by
  refine lv_isub X.1 X.2.1 hdg ?_
  rw [oI_sub]; exact kk
theorem w_imul (X : CallFix p m c cc nL s args lw_all own) {x y : Int} (hdg : decode cc pc = .ok (.imul, 1)) (kk : W p l e R s m args below meth c H locs cells slots Q (F0 m (pc + 1) ls (.int (oI (w32 (x * y))) :: rest))) : W p l e R s m args below meth c H locs cells slots Q (F0 m pc ls (.int (oI y) :: .int (oI x) :: rest)) := by
  refine lv_imul X.1 X.2.1 hdg ?_
  rw [oI_mul]; exact kk
theorem w_ladd (X : CallFix p m c cc nL s args lw_all own) {x y : Int} (hdg : decode cc pc = .ok (.ladd, 1)) (kk : W p l e R s m args below meth c H locs cells slots Q (F0 m (pc + 1) ls (.long (oL (w64 (x + y))) :: rest))) : W p l e R s m args below meth c H locs cells slots Q (F0 m pc ls (.long (oL y) :: .long (oL x) :: rest)) := by
  refine lv_ladd X.1 X.2.1 hdg ?_
  rw [oL_add]; exact kk
theorem w_lsub (X : CallFix p m c cc nL s args lw_all own) {x y : Int} (hdg : decode cc pc = .ok (.lsub, 1)) (kk : W p l e R s m args below meth c H locs cells slots Q (F0 m (pc + 1) ls (.long (oL (w64 (x - y))) :: rest))) : W p l e R s m args below meth c H locs cells slots Q (F0 m pc ls (.long (oL y) :: .long (oL x) :: rest)) := by
  refine lv_lsub X.1 X.2.1 hdg ?_
  rw [oL_sub]; exact kk
theorem w_lmul (X : CallFix p m c cc nL s args lw_all own) {x y : Int} (hdg : decode cc pc = .ok (.lmul, 1)) (kk : W p l e R s m args below meth c H locs cells slots Q (F0 m (pc + 1) ls (.long (oL (w64 (x * y))) :: rest))) : W p l e R s m args below meth c H locs cells slots Q (F0 m pc ls (.long (oL y) :: .long (oL x) :: rest)) := by
  refine lv_lmul X.1 X.2.1 hdg ?_
  rw [oL_mul]; exact kk
theorem w_iand (X : CallFix p m c cc nL s args lw_all own) {x y : Int} (hdg : decode cc pc = .ok (.iand, 1)) (kk : W p l e R s m args below meth c H locs cells slots Q (F0 m (pc + 1) ls (.int (oI (iand x y)) :: rest))) : W p l e R s m args below meth c H locs cells slots Q (F0 m pc ls (.int (oI y) :: .int (oI x) :: rest)) := by
  refine lv_iand X.1 X.2.1 hdg ?_
  unfold iand at kk; rw [oI_toI] at kk; exact kk
theorem w_ior (X : CallFix p m c cc nL s args lw_all own) {x y : Int} (hdg : decode cc pc = .ok (.ior, 1)) (kk : W p l e R s m args below meth c H locs cells slots Q (F0 m (pc + 1) ls (.int (oI (ior x y)) :: rest))) : W p l e R s m args below meth c H locs cells slots Q (F0 m pc ls (.int (oI y) :: .int (oI x) :: rest)) := by
  refine lv_ior X.1 X.2.1 hdg ?_
  unfold ior at kk; rw [oI_toI] at kk; exact kk
theorem w_ixor (X : CallFix p m c cc nL s args lw_all own) {x y : Int} (hdg : decode cc pc = .ok (.ixor, 1)) (kk : W p l e R s m args below meth c H locs cells slots Q (F0 m (pc + 1) ls (.int (oI (ixor x y)) :: rest))) : W p l e R s m args below meth c H locs cells slots Q (F0 m pc ls (.int (oI y) :: .int (oI x) :: rest)) := by
  refine lv_ixor X.1 X.2.1 hdg ?_
  unfold ixor at kk; rw [oI_toI] at kk; exact kk
theorem w_ishl (X : CallFix p m c cc nL s args lw_all own) {x y : Int} (hdg : decode cc pc = .ok (.ishl, 1)) (kk : W p l e R s m args below meth c H locs cells slots Q (F0 m (pc + 1) ls (.int (oI (ishl x y)) :: rest))) : W p l e R s m args below meth c H locs cells slots Q (F0 m pc ls (.int (oI y) :: .int (oI x) :: rest)) := by
  refine lv_ishl X.1 X.2.1 hdg ?_
  unfold ishl at kk; rw [oI_toI] at kk; exact kk
theorem w_ishr (X : CallFix p m c cc nL s args lw_all own) {x y : Int} (hdg : decode cc pc = .ok (.ishr, 1)) (kk : W p l e R s m args below meth c H locs cells slots Q (F0 m (pc + 1) ls (.int (oI (ishr x y)) :: rest))) : W p l e R s m args below meth c H locs cells slots Q (F0 m pc ls (.int (oI y) :: .int (oI x) :: rest)) := by
  refine lv_ishr X.1 X.2.1 hdg ?_
  unfold ishr at kk; rw [oI_toI] at kk; exact kk
theorem w_iushr (X : CallFix p m c cc nL s args lw_all own) {x y : Int} (hdg : decode cc pc = .ok (.iushr, 1)) (kk : W p l e R s m args below meth c H locs cells slots Q (F0 m (pc + 1) ls (.int (oI (iushr x y)) :: rest))) : W p l e R s m args below meth c H locs cells slots Q (F0 m pc ls (.int (oI y) :: .int (oI x) :: rest)) := by
  refine lv_iushr X.1 X.2.1 hdg rfl ?_
  unfold iushr at kk; rw [oI_toI] at kk; exact kk
theorem w_land (X : CallFix p m c cc nL s args lw_all own) {x y : Int} (hdg : decode cc pc = .ok (.land, 1)) (kk : W p l e R s m args below meth c H locs cells slots Q (F0 m (pc + 1) ls (.long (oL (land x y)) :: rest))) : W p l e R s m args below meth c H locs cells slots Q (F0 m pc ls (.long (oL y) :: .long (oL x) :: rest)) := by
  refine lv_land X.1 X.2.1 hdg ?_
  unfold land at kk; rw [oL_toI] at kk; exact kk
theorem w_lor (X : CallFix p m c cc nL s args lw_all own) {x y : Int} (hdg : decode cc pc = .ok (.lor, 1)) (kk : W p l e R s m args below meth c H locs cells slots Q (F0 m (pc + 1) ls (.long (oL (lor x y)) :: rest))) : W p l e R s m args below meth c H locs cells slots Q (F0 m pc ls (.long (oL y) :: .long (oL x) :: rest)) := by
  refine lv_lor X.1 X.2.1 hdg ?_
  unfold lor at kk; rw [oL_toI] at kk; exact kk
theorem w_lxor (X : CallFix p m c cc nL s args lw_all own) {x y : Int} (hdg : decode cc pc = .ok (.lxor, 1)) (kk : W p l e R s m args below meth c H locs cells slots Q (F0 m (pc + 1) ls (.long (oL (lxor x y)) :: rest))) : W p l e R s m args below meth c H locs cells slots Q (F0 m pc ls (.long (oL y) :: .long (oL x) :: rest)) := by
  refine lv_lxor X.1 X.2.1 hdg ?_
  unfold lxor at kk; rw [oL_toI] at kk; exact kk
theorem w_lshl (X : CallFix p m c cc nL s args lw_all own) {x y : Int} (hdg : decode cc pc = .ok (.lshl, 1)) (kk : W p l e R s m args below meth c H locs cells slots Q (F0 m (pc + 1) ls (.long (oL (lshl x y)) :: rest))) : W p l e R s m args below meth c H locs cells slots Q (F0 m pc ls (.int (oI y) :: .long (oL x) :: rest)) := by
  refine lv_lshl X.1 X.2.1 hdg rfl ?_
  unfold lshl at kk; rw [oL_toI] at kk; exact kk
theorem w_lshr (X : CallFix p m c cc nL s args lw_all own) {x y : Int} (hdg : decode cc pc = .ok (.lshr, 1)) (kk : W p l e R s m args below meth c H locs cells slots Q (F0 m (pc + 1) ls (.long (oL (lshr x y)) :: rest))) : W p l e R s m args below meth c H locs cells slots Q (F0 m pc ls (.int (oI y) :: .long (oL x) :: rest)) := by
  refine lv_lshr X.1 X.2.1 hdg rfl ?_
  unfold lshr at kk; rw [oL_toI] at kk; exact kk
theorem w_lushr (X : CallFix p m c cc nL s args lw_all own) {x y : Int} (hdg : decode cc pc = .ok (.lushr, 1)) (kk : W p l e R s m args below meth c H locs cells slots Q (F0 m (pc + 1) ls (.long (oL (lushr x y)) :: rest))) : W p l e R s m args below meth c H locs cells slots Q (F0 m pc ls (.int (oI y) :: .long (oL x) :: rest)) := by
  refine lv_lushr X.1 X.2.1 hdg rfl ?_
  unfold lushr at kk; rw [oL_toI] at kk; exact kk
theorem w_idiv (X : CallFix p m c cc nL s args lw_all own) {x y : Int} (hx : rI x) (hy : rI y) (h0 : ¬ y = 0) (hdg : decode cc pc = .ok (.idiv, 1)) (kk : W p l e R s m args below meth c H locs cells slots Q (F0 m (pc + 1) ls (.int (oI (jdv x y)) :: rest))) : W p l e R s m args below meth c H locs cells slots Q (F0 m pc ls (.int (oI y) :: .int (oI x) :: rest)) := by
  refine lv_idiv X.1 X.2.1 hdg (fun q => h0 ((oI_eq hy (by unfold rI; omega)).mp q)) ?_
  rw [oI_div hx hy]; exact kk
theorem w_irem (X : CallFix p m c cc nL s args lw_all own) {x y : Int} (hx : rI x) (hy : rI y) (h0 : ¬ y = 0) (hdg : decode cc pc = .ok (.irem, 1)) (kk : W p l e R s m args below meth c H locs cells slots Q (F0 m (pc + 1) ls (.int (oI (jrm x y)) :: rest))) : W p l e R s m args below meth c H locs cells slots Q (F0 m pc ls (.int (oI y) :: .int (oI x) :: rest)) := by
  refine lv_irem X.1 X.2.1 hdg (fun q => h0 ((oI_eq hy (by unfold rI; omega)).mp q)) ?_
  rw [oI_rem hx hy]; exact kk
theorem w_ldiv (X : CallFix p m c cc nL s args lw_all own) {x y : Int} (hx : rJ x) (hy : rJ y) (h0 : ¬ y = 0) (hdg : decode cc pc = .ok (.ldiv, 1)) (kk : W p l e R s m args below meth c H locs cells slots Q (F0 m (pc + 1) ls (.long (oL (jdl x y)) :: rest))) : W p l e R s m args below meth c H locs cells slots Q (F0 m pc ls (.long (oL y) :: .long (oL x) :: rest)) := by
  refine lv_ldiv X.1 X.2.1 hdg (fun q => h0 ((oL_eq hy (by unfold rJ; omega)).mp q)) ?_
  rw [oL_div hx hy]; exact kk
theorem w_lrem (X : CallFix p m c cc nL s args lw_all own) {x y : Int} (hx : rJ x) (hy : rJ y) (h0 : ¬ y = 0) (hdg : decode cc pc = .ok (.lrem, 1)) (kk : W p l e R s m args below meth c H locs cells slots Q (F0 m (pc + 1) ls (.long (oL (jrl x y)) :: rest))) : W p l e R s m args below meth c H locs cells slots Q (F0 m pc ls (.long (oL y) :: .long (oL x) :: rest)) := by
  refine lv_lrem X.1 X.2.1 hdg (fun q => h0 ((oL_eq hy (by unfold rJ; omega)).mp q)) ?_
  rw [oL_rem hx hy]; exact kk
theorem w_i2l (X : CallFix p m c cc nL s args lw_all own) {x : Int} (hx : rI x) (hdg : decode cc pc = .ok (.i2l, 1)) (kk : W p l e R s m args below meth c H locs cells slots Q (F0 m (pc + 1) ls (.long (oL x) :: rest))) : W p l e R s m args below meth c H locs cells slots Q (F0 m pc ls (.int (oI x) :: rest)) := lv_i2l X.1 X.2.1 hdg (oI_j hx) kk
theorem w_l2i (X : CallFix p m c cc nL s args lw_all own) {x : Int} (hdg : decode cc pc = .ok (.l2i, 1)) (kk : W p l e R s m args below meth c H locs cells slots Q (F0 m (pc + 1) ls (.int (oI (w32 x)) :: rest))) : W p l e R s m args below meth c H locs cells slots Q (F0 m pc ls (.long (oL x) :: rest)) := lv_l2i X.1 X.2.1 hdg (oL_i32 x) kk
theorem w_i2b (X : CallFix p m c cc nL s args lw_all own) {x : Int} (hdg : decode cc pc = .ok (.i2b, 1)) (kk : W p l e R s m args below meth c H locs cells slots Q (F0 m (pc + 1) ls (.int (oI (b8 x)) :: rest))) : W p l e R s m args below meth c H locs cells slots Q (F0 m pc ls (.int (oI x) :: rest)) := lv_i2b X.1 X.2.1 hdg (oI_b8 x) kk
theorem w_ldc (X : CallFix p m c cc nL s args lw_all own) {idx : Nat} {v : Int32} {z : Int} (hc : Cond.constant own idx v ∈ lw_all) (hv : v = oI z) (hdg : decode cc pc = .ok (.ldc idx, 2)) (kk : W p l e R s m args below meth c H locs cells slots Q (F0 m (pc + 2) ls (.int (oI z) :: rest))) : W p l e R s m args below meth c H locs cells slots Q (F0 m pc ls rest) := lv_ldc X.1 X.2.1 X.2.2.2.1 (X.2.2.2.2 _ hc) hdg (hv ▸ kk)
theorem w_ldc2 (X : CallFix p m c cc nL s args lw_all own) {idx : Nat} {v : Int64} {z : Int} (hc : Cond.constantLong own idx v ∈ lw_all) (hv : v = oL z) (hdg : decode cc pc = .ok (.ldc2_w idx, 3)) (kk : W p l e R s m args below meth c H locs cells slots Q (F0 m (pc + 3) ls (.long (oL z) :: rest))) : W p l e R s m args below meth c H locs cells slots Q (F0 m pc ls rest) := lv_ldc2 X.1 X.2.1 X.2.2.2.1 (X.2.2.2.2 _ hc) hdg (hv ▸ kk)
theorem w_top {x : Int} (kk : ∀ y : Int, y = x → W p l e R s m args below meth c H locs cells slots Q (F0 m pc ls (.int (oI y) :: rest))) : W p l e R s m args below meth c H locs cells slots Q (F0 m pc ls (.int (oI x) :: rest)) := kk x rfl
theorem w_topl {x : Int} (kk : ∀ y : Int, y = x → W p l e R s m args below meth c H locs cells slots Q (F0 m pc ls (.long (oL y) :: rest))) : W p l e R s m args below meth c H locs cells slots Q (F0 m pc ls (.long (oL x) :: rest)) := kk x rfl
theorem w_topk {x : Int} (kk : ∀ y : Int, y = x → W p l e R s m args below meth c H locs cells slots Q (F0 m pc ls (va_rf (knO w y) :: rest))) : W p l e R s m args below meth c H locs cells slots Q (F0 m pc ls (va_rf (knO w x) :: rest)) := kk x rfl
theorem w_if_eq (X : CallFix p m c cc nL s args lw_all own) {x : Int} {off : Int} {tgt : Nat} (hx : rI x) (hdg : decode cc pc = .ok (.ifCond .eq off, 3)) (ht : (pc : Int) + off = (tgt : Int)) (kt : x = 0 → W p l e R s m args below meth c H locs cells slots Q (F0 m tgt ls rest)) (kf : ¬ x = 0 → W p l e R s m args below meth c H locs cells slots Q (F0 m (pc + 3) ls rest)) : W p l e R s m args below meth c H locs cells slots Q (F0 m pc ls (.int (oI x) :: rest)) := by
  have hz : rI 0 := by unfold rI; omega
  exact lv_if_eq X.1 X.2.1 hdg ht (fun q => kt ((oI_eq hx hz).mp q)) (fun q => kf (fun q2 => q ((oI_eq hx hz).mpr q2)))
theorem w_icmp_eq (X : CallFix p m c cc nL s args lw_all own) {x y : Int} {off : Int} {tgt : Nat} (hx : rI x) (hy : rI y) (hdg : decode cc pc = .ok (.if_icmp .eq off, 3)) (ht : (pc : Int) + off = (tgt : Int)) (kt : x = y → W p l e R s m args below meth c H locs cells slots Q (F0 m tgt ls rest)) (kf : ¬ x = y → W p l e R s m args below meth c H locs cells slots Q (F0 m (pc + 3) ls rest)) : W p l e R s m args below meth c H locs cells slots Q (F0 m pc ls (.int (oI y) :: .int (oI x) :: rest)) := 
  lv_icmp_eq X.1 X.2.1 hdg ht (fun q => kt ((oI_eq hx hy).mp q)) (fun q => kf (fun q2 => q ((oI_eq hx hy).mpr q2)))
theorem w_if_ne (X : CallFix p m c cc nL s args lw_all own) {x : Int} {off : Int} {tgt : Nat} (hx : rI x) (hdg : decode cc pc = .ok (.ifCond .ne off, 3)) (ht : (pc : Int) + off = (tgt : Int)) (kt : ¬ x = 0 → W p l e R s m args below meth c H locs cells slots Q (F0 m tgt ls rest)) (kf : x = 0 → W p l e R s m args below meth c H locs cells slots Q (F0 m (pc + 3) ls rest)) : W p l e R s m args below meth c H locs cells slots Q (F0 m pc ls (.int (oI x) :: rest)) := by
  have hz : rI 0 := by unfold rI; omega
  exact lv_if_ne X.1 X.2.1 hdg ht (fun q => kt (fun q2 => q ((oI_eq hx hz).mpr q2))) (fun q => kf ((oI_eq hx hz).mp q))
theorem w_icmp_ne (X : CallFix p m c cc nL s args lw_all own) {x y : Int} {off : Int} {tgt : Nat} (hx : rI x) (hy : rI y) (hdg : decode cc pc = .ok (.if_icmp .ne off, 3)) (ht : (pc : Int) + off = (tgt : Int)) (kt : ¬ x = y → W p l e R s m args below meth c H locs cells slots Q (F0 m tgt ls rest)) (kf : x = y → W p l e R s m args below meth c H locs cells slots Q (F0 m (pc + 3) ls rest)) : W p l e R s m args below meth c H locs cells slots Q (F0 m pc ls (.int (oI y) :: .int (oI x) :: rest)) := 
  lv_icmp_ne X.1 X.2.1 hdg ht (fun q => kt (fun q2 => q ((oI_eq hx hy).mpr q2))) (fun q => kf ((oI_eq hx hy).mp q))
theorem w_if_lt (X : CallFix p m c cc nL s args lw_all own) {x : Int} {off : Int} {tgt : Nat} (hx : rI x) (hdg : decode cc pc = .ok (.ifCond .lt off, 3)) (ht : (pc : Int) + off = (tgt : Int)) (kt : x < 0 → W p l e R s m args below meth c H locs cells slots Q (F0 m tgt ls rest)) (kf : ¬ x < 0 → W p l e R s m args below meth c H locs cells slots Q (F0 m (pc + 3) ls rest)) : W p l e R s m args below meth c H locs cells slots Q (F0 m pc ls (.int (oI x) :: rest)) := by
  have hz : rI 0 := by unfold rI; omega
  exact lv_if_lt X.1 X.2.1 hdg ht (fun q => kt ((oI_lt hx hz).mp q)) (fun q => kf (fun q2 => q ((oI_lt hx hz).mpr q2)))
theorem w_icmp_lt (X : CallFix p m c cc nL s args lw_all own) {x y : Int} {off : Int} {tgt : Nat} (hx : rI x) (hy : rI y) (hdg : decode cc pc = .ok (.if_icmp .lt off, 3)) (ht : (pc : Int) + off = (tgt : Int)) (kt : x < y → W p l e R s m args below meth c H locs cells slots Q (F0 m tgt ls rest)) (kf : ¬ x < y → W p l e R s m args below meth c H locs cells slots Q (F0 m (pc + 3) ls rest)) : W p l e R s m args below meth c H locs cells slots Q (F0 m pc ls (.int (oI y) :: .int (oI x) :: rest)) := 
  lv_icmp_lt X.1 X.2.1 hdg ht (fun q => kt ((oI_lt hx hy).mp q)) (fun q => kf (fun q2 => q ((oI_lt hx hy).mpr q2)))
theorem w_if_ge (X : CallFix p m c cc nL s args lw_all own) {x : Int} {off : Int} {tgt : Nat} (hx : rI x) (hdg : decode cc pc = .ok (.ifCond .ge off, 3)) (ht : (pc : Int) + off = (tgt : Int)) (kt : 0 ≤ x → W p l e R s m args below meth c H locs cells slots Q (F0 m tgt ls rest)) (kf : ¬ 0 ≤ x → W p l e R s m args below meth c H locs cells slots Q (F0 m (pc + 3) ls rest)) : W p l e R s m args below meth c H locs cells slots Q (F0 m pc ls (.int (oI x) :: rest)) := by
  have hz : rI 0 := by unfold rI; omega
  exact lv_if_ge X.1 X.2.1 hdg ht (fun q => kt ((oI_le hz hx).mp q)) (fun q => kf (fun q2 => q ((oI_le hz hx).mpr q2)))
theorem w_icmp_ge (X : CallFix p m c cc nL s args lw_all own) {x y : Int} {off : Int} {tgt : Nat} (hx : rI x) (hy : rI y) (hdg : decode cc pc = .ok (.if_icmp .ge off, 3)) (ht : (pc : Int) + off = (tgt : Int)) (kt : y ≤ x → W p l e R s m args below meth c H locs cells slots Q (F0 m tgt ls rest)) (kf : ¬ y ≤ x → W p l e R s m args below meth c H locs cells slots Q (F0 m (pc + 3) ls rest)) : W p l e R s m args below meth c H locs cells slots Q (F0 m pc ls (.int (oI y) :: .int (oI x) :: rest)) := 
  lv_icmp_ge X.1 X.2.1 hdg ht (fun q => kt ((oI_le hy hx).mp q)) (fun q => kf (fun q2 => q ((oI_le hy hx).mpr q2)))
theorem w_if_gt (X : CallFix p m c cc nL s args lw_all own) {x : Int} {off : Int} {tgt : Nat} (hx : rI x) (hdg : decode cc pc = .ok (.ifCond .gt off, 3)) (ht : (pc : Int) + off = (tgt : Int)) (kt : 0 < x → W p l e R s m args below meth c H locs cells slots Q (F0 m tgt ls rest)) (kf : ¬ 0 < x → W p l e R s m args below meth c H locs cells slots Q (F0 m (pc + 3) ls rest)) : W p l e R s m args below meth c H locs cells slots Q (F0 m pc ls (.int (oI x) :: rest)) := by
  have hz : rI 0 := by unfold rI; omega
  exact lv_if_gt X.1 X.2.1 hdg ht (fun q => kt ((oI_lt hz hx).mp q)) (fun q => kf (fun q2 => q ((oI_lt hz hx).mpr q2)))
theorem w_icmp_gt (X : CallFix p m c cc nL s args lw_all own) {x y : Int} {off : Int} {tgt : Nat} (hx : rI x) (hy : rI y) (hdg : decode cc pc = .ok (.if_icmp .gt off, 3)) (ht : (pc : Int) + off = (tgt : Int)) (kt : y < x → W p l e R s m args below meth c H locs cells slots Q (F0 m tgt ls rest)) (kf : ¬ y < x → W p l e R s m args below meth c H locs cells slots Q (F0 m (pc + 3) ls rest)) : W p l e R s m args below meth c H locs cells slots Q (F0 m pc ls (.int (oI y) :: .int (oI x) :: rest)) := 
  lv_icmp_gt X.1 X.2.1 hdg ht (fun q => kt ((oI_lt hy hx).mp q)) (fun q => kf (fun q2 => q ((oI_lt hy hx).mpr q2)))
theorem w_if_le (X : CallFix p m c cc nL s args lw_all own) {x : Int} {off : Int} {tgt : Nat} (hx : rI x) (hdg : decode cc pc = .ok (.ifCond .le off, 3)) (ht : (pc : Int) + off = (tgt : Int)) (kt : x ≤ 0 → W p l e R s m args below meth c H locs cells slots Q (F0 m tgt ls rest)) (kf : ¬ x ≤ 0 → W p l e R s m args below meth c H locs cells slots Q (F0 m (pc + 3) ls rest)) : W p l e R s m args below meth c H locs cells slots Q (F0 m pc ls (.int (oI x) :: rest)) := by
  have hz : rI 0 := by unfold rI; omega
  exact lv_if_le X.1 X.2.1 hdg ht (fun q => kt ((oI_le hx hz).mp q)) (fun q => kf (fun q2 => q ((oI_le hx hz).mpr q2)))
theorem w_icmp_le (X : CallFix p m c cc nL s args lw_all own) {x y : Int} {off : Int} {tgt : Nat} (hx : rI x) (hy : rI y) (hdg : decode cc pc = .ok (.if_icmp .le off, 3)) (ht : (pc : Int) + off = (tgt : Int)) (kt : x ≤ y → W p l e R s m args below meth c H locs cells slots Q (F0 m tgt ls rest)) (kf : ¬ x ≤ y → W p l e R s m args below meth c H locs cells slots Q (F0 m (pc + 3) ls rest)) : W p l e R s m args below meth c H locs cells slots Q (F0 m pc ls (.int (oI y) :: .int (oI x) :: rest)) := 
  lv_icmp_le X.1 X.2.1 hdg ht (fun q => kt ((oI_le hx hy).mp q)) (fun q => kf (fun q2 => q ((oI_le hx hy).mpr q2)))
theorem lcmp_eq {x y : Int} (hx : rJ x) (hy : rJ y) : lg_cmp (oL x) (oL y) = 0 ↔ x = y := by
  have h1 := oL_lt hy hx
  have h2 := oL_eq hx hy
  unfold lg_cmp
  simp only [gt_iff_lt, h1, h2]
  split
  · constructor
    · intro q; exact absurd q (by decide)
    · intro q; omega
  · split
    · rename_i a b; exact ⟨fun _ => b, fun _ => rfl⟩
    · rename_i a b; exact ⟨fun q => absurd q (by decide), fun q => absurd q b⟩
theorem lcmp_lt {x y : Int} (hx : rJ x) (hy : rJ y) : lg_cmp (oL x) (oL y) < 0 ↔ x < y := by
  have h1 := oL_lt hy hx
  have h2 := oL_eq hx hy
  unfold lg_cmp
  simp only [gt_iff_lt, h1, h2]
  split
  · exact ⟨fun q => absurd q (by decide), fun q => by omega⟩
  · split
    · exact ⟨fun q => absurd q (by decide), fun q => by omega⟩
    · exact ⟨fun q => by omega, fun q => by decide⟩
theorem lcmp_gt {x y : Int} (hx : rJ x) (hy : rJ y) : 0 < lg_cmp (oL x) (oL y) ↔ y < x := by
  have h1 := oL_lt hy hx
  have h2 := oL_eq hx hy
  unfold lg_cmp
  simp only [gt_iff_lt, h1, h2]
  split
  · exact ⟨fun q => by omega, fun q => by decide⟩
  · split
    · exact ⟨fun q => absurd q (by decide), fun q => by omega⟩
    · exact ⟨fun q => absurd q (by decide), fun q => by omega⟩
theorem lcmp_ge {x y : Int} (hx : rJ x) (hy : rJ y) : 0 ≤ lg_cmp (oL x) (oL y) ↔ y ≤ x := by
  have := lcmp_lt hx hy
  rw [← Int32.not_lt, this]; omega
theorem lcmp_le {x y : Int} (hx : rJ x) (hy : rJ y) : lg_cmp (oL x) (oL y) ≤ 0 ↔ x ≤ y := by
  have := lcmp_gt hx hy
  rw [← Int32.not_lt, this]; omega
theorem w_lcmp_eq (X : CallFix p m c cc nL s args lw_all own) {x y : Int} {off : Int} {tgt : Nat} (hx : rJ x) (hy : rJ y) (hdg : decode cc pc = .ok (.lcmp, 1)) (hdg2 : decode cc (pc + 1) = .ok (.ifCond .eq off, 3)) (ht : ((pc + 1 : Nat) : Int) + off = (tgt : Int)) (kt : x = y → W p l e R s m args below meth c H locs cells slots Q (F0 m tgt ls rest)) (kf : ¬ x = y → W p l e R s m args below meth c H locs cells slots Q (F0 m (pc + 4) ls rest)) : W p l e R s m args below meth c H locs cells slots Q (F0 m pc ls (.long (oL y) :: .long (oL x) :: rest)) :=
  W.lcmp X.1 X.2.1 hdg (lv_if_eq X.1 X.2.1 hdg2 ht (fun q => kt ((lcmp_eq hx hy).mp q)) (fun q => kf (fun q2 => q ((lcmp_eq hx hy).mpr q2))))
theorem w_lcmp_ne (X : CallFix p m c cc nL s args lw_all own) {x y : Int} {off : Int} {tgt : Nat} (hx : rJ x) (hy : rJ y) (hdg : decode cc pc = .ok (.lcmp, 1)) (hdg2 : decode cc (pc + 1) = .ok (.ifCond .ne off, 3)) (ht : ((pc + 1 : Nat) : Int) + off = (tgt : Int)) (kt : ¬ x = y → W p l e R s m args below meth c H locs cells slots Q (F0 m tgt ls rest)) (kf : x = y → W p l e R s m args below meth c H locs cells slots Q (F0 m (pc + 4) ls rest)) : W p l e R s m args below meth c H locs cells slots Q (F0 m pc ls (.long (oL y) :: .long (oL x) :: rest)) :=
  W.lcmp X.1 X.2.1 hdg (lv_if_ne X.1 X.2.1 hdg2 ht (fun q => kt (fun q2 => q ((lcmp_eq hx hy).mpr q2))) (fun q => kf ((lcmp_eq hx hy).mp q)))
theorem w_lcmp_lt (X : CallFix p m c cc nL s args lw_all own) {x y : Int} {off : Int} {tgt : Nat} (hx : rJ x) (hy : rJ y) (hdg : decode cc pc = .ok (.lcmp, 1)) (hdg2 : decode cc (pc + 1) = .ok (.ifCond .lt off, 3)) (ht : ((pc + 1 : Nat) : Int) + off = (tgt : Int)) (kt : x < y → W p l e R s m args below meth c H locs cells slots Q (F0 m tgt ls rest)) (kf : ¬ x < y → W p l e R s m args below meth c H locs cells slots Q (F0 m (pc + 4) ls rest)) : W p l e R s m args below meth c H locs cells slots Q (F0 m pc ls (.long (oL y) :: .long (oL x) :: rest)) :=
  W.lcmp X.1 X.2.1 hdg (lv_if_lt X.1 X.2.1 hdg2 ht (fun q => kt ((lcmp_lt hx hy).mp q)) (fun q => kf (fun q2 => q ((lcmp_lt hx hy).mpr q2))))
theorem w_lcmp_ge (X : CallFix p m c cc nL s args lw_all own) {x y : Int} {off : Int} {tgt : Nat} (hx : rJ x) (hy : rJ y) (hdg : decode cc pc = .ok (.lcmp, 1)) (hdg2 : decode cc (pc + 1) = .ok (.ifCond .ge off, 3)) (ht : ((pc + 1 : Nat) : Int) + off = (tgt : Int)) (kt : y ≤ x → W p l e R s m args below meth c H locs cells slots Q (F0 m tgt ls rest)) (kf : ¬ y ≤ x → W p l e R s m args below meth c H locs cells slots Q (F0 m (pc + 4) ls rest)) : W p l e R s m args below meth c H locs cells slots Q (F0 m pc ls (.long (oL y) :: .long (oL x) :: rest)) :=
  W.lcmp X.1 X.2.1 hdg (lv_if_ge X.1 X.2.1 hdg2 ht (fun q => kt ((lcmp_ge hx hy).mp q)) (fun q => kf (fun q2 => q ((lcmp_ge hx hy).mpr q2))))
theorem w_lcmp_gt (X : CallFix p m c cc nL s args lw_all own) {x y : Int} {off : Int} {tgt : Nat} (hx : rJ x) (hy : rJ y) (hdg : decode cc pc = .ok (.lcmp, 1)) (hdg2 : decode cc (pc + 1) = .ok (.ifCond .gt off, 3)) (ht : ((pc + 1 : Nat) : Int) + off = (tgt : Int)) (kt : y < x → W p l e R s m args below meth c H locs cells slots Q (F0 m tgt ls rest)) (kf : ¬ y < x → W p l e R s m args below meth c H locs cells slots Q (F0 m (pc + 4) ls rest)) : W p l e R s m args below meth c H locs cells slots Q (F0 m pc ls (.long (oL y) :: .long (oL x) :: rest)) :=
  W.lcmp X.1 X.2.1 hdg (lv_if_gt X.1 X.2.1 hdg2 ht (fun q => kt ((lcmp_gt hx hy).mp q)) (fun q => kf (fun q2 => q ((lcmp_gt hx hy).mpr q2))))
theorem w_lcmp_le (X : CallFix p m c cc nL s args lw_all own) {x y : Int} {off : Int} {tgt : Nat} (hx : rJ x) (hy : rJ y) (hdg : decode cc pc = .ok (.lcmp, 1)) (hdg2 : decode cc (pc + 1) = .ok (.ifCond .le off, 3)) (ht : ((pc + 1 : Nat) : Int) + off = (tgt : Int)) (kt : x ≤ y → W p l e R s m args below meth c H locs cells slots Q (F0 m tgt ls rest)) (kf : ¬ x ≤ y → W p l e R s m args below meth c H locs cells slots Q (F0 m (pc + 4) ls rest)) : W p l e R s m args below meth c H locs cells slots Q (F0 m pc ls (.long (oL y) :: .long (oL x) :: rest)) :=
  W.lcmp X.1 X.2.1 hdg (lv_if_le X.1 X.2.1 hdg2 ht (fun q => kt ((lcmp_le hx hy).mp q)) (fun q => kf (fun q2 => q ((lcmp_le hx hy).mpr q2))))
theorem knO_n (w : Wp) {z : Int} (h : z < 0) : knO w z = none := by unfold knO; rw [if_pos h]
theorem knO_s (w : Wp) {z : Int} (h : ¬ z < 0) : knO w z = some (wad w 9 z) := by unfold knO; rw [if_neg h]
theorem knR {w : Wp} {z : Int} (h : 0 ≤ z) : va_rf (knO w z) = .ref (wad w 9 z) := by rw [knO_s w (by omega)]; rfl
theorem w_kload_n (X : CallFix p m c cc nL s args lw_all own) {k : Fin 4} {i : Nat} {z : Int} (hdg : decode cc pc = .ok (.aload_n k, 1)) (hi : (k : Nat) = i) (hl : ls[i]? = some (.val (va_rf (knO w z)))) (kk : W p l e R s m args below meth c H locs cells slots Q (F0 m (pc + 1) ls (va_rf (knO w z) :: rest))) : W p l e R s m args below meth c H locs cells slots Q (F0 m pc ls rest) := by
  by_cases h : z < 0
  · rw [knO_n w h] at hl kk
    exact lv_aload_nN X.1 X.2.1 hdg hi hl kk
  · rw [knO_s w h] at hl kk
    exact lv_aload_n X.1 X.2.1 hdg hi hl kk
theorem w_kload (X : CallFix p m c cc nL s args lw_all own) {i : Nat} {z : Int} (hdg : decode cc pc = .ok (.aload i, 2)) (hl : ls[i]? = some (.val (va_rf (knO w z)))) (kk : W p l e R s m args below meth c H locs cells slots Q (F0 m (pc + 2) ls (va_rf (knO w z) :: rest))) : W p l e R s m args below meth c H locs cells slots Q (F0 m pc ls rest) := by
  by_cases h : z < 0
  · rw [knO_n w h] at hl kk
    exact lv_aloadN X.1 X.2.1 hdg hl kk
  · rw [knO_s w h] at hl kk
    exact lv_aload X.1 X.2.1 hdg hl kk
theorem w_kstore_n (X : CallFix p m c cc nL s args lw_all own) {k : Fin 4} {i : Nat} {z : Int} {lv lv' : List (Nat × Value)} (hdg : decode cc pc = .ok (.astore_n k, 1)) (hi : (k : Nat) = i) (h : lv_has ls nL lv) (hn : i < nL) (hl : (i, va_rf (knO w z)) :: lv.filter (fun q => !(q.1 == i) && !(q.1 + 1 == i && q.2.category == 2)) = lv') (kk : ∀ ls1, lv_has ls1 nL lv' → W p l e R s m args below meth c H locs cells slots Q (F0 m (pc + 1) ls1 rest)) : W p l e R s m args below meth c H locs cells slots Q (F0 m pc ls (va_rf (knO w z) :: rest)) := by
  by_cases h0 : z < 0
  · rw [knO_n w h0] at hl ⊢
    exact lv_astore_nN X.1 X.2.1 hdg hi h hn hl kk
  · rw [knO_s w h0] at hl ⊢
    exact lv_astore_n X.1 X.2.1 hdg hi h hn hl kk
theorem w_kstore (X : CallFix p m c cc nL s args lw_all own) {i : Nat} {z : Int} {lv lv' : List (Nat × Value)} (hdg : decode cc pc = .ok (.astore i, 2)) (h : lv_has ls nL lv) (hn : i < nL) (hl : (i, va_rf (knO w z)) :: lv.filter (fun q => !(q.1 == i) && !(q.1 + 1 == i && q.2.category == 2)) = lv') (kk : ∀ ls1, lv_has ls1 nL lv' → W p l e R s m args below meth c H locs cells slots Q (F0 m (pc + 2) ls1 rest)) : W p l e R s m args below meth c H locs cells slots Q (F0 m pc ls (va_rf (knO w z) :: rest)) := by
  by_cases h0 : z < 0
  · rw [knO_n w h0] at hl ⊢
    exact lv_astoreN X.1 X.2.1 hdg h hn hl kk
  · rw [knO_s w h0] at hl ⊢
    exact lv_astore X.1 X.2.1 hdg h hn hl kk
theorem w_knull (X : CallFix p m c cc nL s args lw_all own) (hdg : decode cc pc = .ok (.aconst_null, 1)) (kk : W p l e R s m args below meth c H locs cells slots Q (F0 m (pc + 1) ls (va_rf (knO w (-1)) :: rest))) : W p l e R s m args below meth c H locs cells slots Q (F0 m pc ls rest) := lv_null X.1 X.2.1 hdg kk
theorem w_ifnull (X : CallFix p m c cc nL s args lw_all own) {z : Int} {off : Int} {tgt : Nat} (hdg : decode cc pc = .ok (.ifnull off, 3)) (ht : (pc : Int) + off = (tgt : Int)) (kt : z < 0 → W p l e R s m args below meth c H locs cells slots Q (F0 m tgt ls rest)) (kf : ¬ z < 0 → W p l e R s m args below meth c H locs cells slots Q (F0 m (pc + 3) ls rest)) : W p l e R s m args below meth c H locs cells slots Q (F0 m pc ls (va_rf (knO w z) :: rest)) := by
  by_cases h : z < 0
  · rw [knO_n w h]; exact lv_ifnullN X.1 X.2.1 hdg ht (kt h)
  · rw [knO_s w h]; exact lv_ifnull X.1 X.2.1 hdg (kf h)
theorem w_ifnonnull (X : CallFix p m c cc nL s args lw_all own) {z : Int} {off : Int} {tgt : Nat} (hdg : decode cc pc = .ok (.ifnonnull off, 3)) (ht : (pc : Int) + off = (tgt : Int)) (kt : ¬ z < 0 → W p l e R s m args below meth c H locs cells slots Q (F0 m tgt ls rest)) (kf : z < 0 → W p l e R s m args below meth c H locs cells slots Q (F0 m (pc + 3) ls rest)) : W p l e R s m args below meth c H locs cells slots Q (F0 m pc ls (va_rf (knO w z) :: rest)) := by
  by_cases h : z < 0
  · rw [knO_n w h]; exact lv_ifnonnullN X.1 X.2.1 hdg (kf h)
  · rw [knO_s w h]; exact lv_ifnonnull X.1 X.2.1 hdg ht (kt h)
theorem wad_inj (hD : va_D (wA w) (wsL w σ)) {K K' : Nat} {o o' : Int} (h : vl w K o) (h' : vl w K' o') (he : wad w K o = wad w K' o') : K = K' ∧ o = o' := by
  obtain ⟨q, hq, e1⟩ := wsL_at (σ := σ) h
  obtain ⟨q', hq', e2⟩ := wsL_at (σ := σ) h'
  have := hD.1 q q' _ _ e1 e2 he
  subst this
  have := Option.some.inj (hq.symm.trans hq')
  exact ⟨congrArg Prod.fst this, congrArg Prod.snd this⟩
/-- two fixed objects compared -/
theorem w_oacmp_ne (X : CallFix p m c cc nL s args lw_all own) (hW : Wo w σ H) {K : Nat} {o o' : Int} (h : vl w K o) (h' : vl w K o') {off : Int} {tgt : Nat} (hdg : decode cc pc = .ok (.if_acmp .ne off, 3)) (ht : (pc : Int) + off = (tgt : Int)) (kt : ¬ o = o' → W p l e R s m args below meth c H locs cells slots Q (F0 m tgt ls rest)) (kf : o = o' → W p l e R s m args below meth c H locs cells slots Q (F0 m (pc + 3) ls rest)) : W p l e R s m args below meth c H locs cells slots Q (F0 m pc ls (.ref (wad w K o') :: .ref (wad w K o) :: rest)) := by
  refine lv_acmp_ne (rx := some (wad w K o)) (ry := some (wad w K o')) X.1 X.2.1 hdg ht (fun q => kt fun q2 => q (by rw [q2])) (fun q => kf (wad_inj hW.2.1 h h' (Option.some.inj q)).2)
/-- two knots compared -/
theorem w_kacmp_ne (X : CallFix p m c cc nL s args lw_all own) (hV : Hvl w) (hW : Wo w σ H) {z z' : Int} (h : rK z) (h' : rK z') {off : Int} {tgt : Nat} (hdg : decode cc pc = .ok (.if_acmp .ne off, 3)) (ht : (pc : Int) + off = (tgt : Int)) (kt : ¬ z = z' → W p l e R s m args below meth c H locs cells slots Q (F0 m tgt ls rest)) (kf : z = z' → W p l e R s m args below meth c H locs cells slots Q (F0 m (pc + 3) ls rest)) : W p l e R s m args below meth c H locs cells slots Q (F0 m pc ls (va_rf (knO w z') :: va_rf (knO w z) :: rest)) := by
  refine lv_acmp_ne (rx := knO w z) (ry := knO w z') X.1 X.2.1 hdg ht (fun q => kt fun q2 => q (by rw [q2])) (fun q => kf ?_)
  unfold rK at h h'
  by_cases a : z < 0 <;> by_cases b : z' < 0
  · omega
  · rw [knO_n w a, knO_s w b] at q; cases q
  · rw [knO_s w a, knO_n w b] at q; cases q
  · rw [knO_s w a, knO_s w b] at q
    exact (wad_inj hW.2.1 (hV.hv 9 rfl ⟨by omega, by show _ < (640 : Int); omega⟩) (hV.hv 9 rfl ⟨by omega, by show _ < (640 : Int); omega⟩) (Option.some.inj q)).2
theorem w_turns (X : CallFix p m c cc nL s args lw_all own) (hT : Tb w s) (hS : va_S (wA w) s.heap H locs) {idx : Nat} (hl : Cond.fieldLink own idx "NandHouse" "TURNS" "[I" ∈ lw_all) (hdg : decode cc pc = .ok (.getstatic idx, 3)) (kk : W p l e R s m args below meth c H locs cells slots Q (F0 m (pc + 3) ls (.ref (wtu w) :: rest))) : W p l e R s m args below meth c H locs cells slots Q (F0 m pc ls rest) :=
  va_gets X.1 X.2.1 hT.2.2.1 hS X.2.2.2.1 (X.2.2.2.2 _ hl) (fun _ h => h) hdg kk
theorem w_tald (X : CallFix p m c cc nL s args lw_all own) (hT : Tb w s) (hS : va_S (wA w) s.heap H locs) {i : Int} (hi : 0 ≤ i ∧ i < 256) (hdg : decode cc pc = .ok (.iaload, 1)) (kk : W p l e R s m args below meth c H locs cells slots Q (F0 m (pc + 1) ls (.int (oI (wtv w i.toNat)) :: rest))) : W p l e R s m args below meth c H locs cells slots Q (F0 m pc ls (.int (oI i) :: .ref (wtu w) :: rest)) := by
  have hr : rI i := by unfold rI; omega
  refine va_ti X.1 X.2.1 hT.2.2.2.1 hS (N := 256) (oI_in (n := 256) hi (by omega)) rfl hdg ?_
  rw [oI_cl hi.1 hr]; exact kk
theorem w_copy (X : CallFix p m c cc nL s args lw_all own) (hT : Tb w s) (hW : Wo w σ H) (hS : va_S (wA w) s.heap H locs) (hsz : ls.size = nL) (f g : Nat) {idx : Nat} {of og sp dp n nf ng : Int} (hv : vl w f of) (hv' : vl w g og) (hf : ¬ f < 64) (hg : ¬ g < 64) (ht : aty f = 1) (ht' : aty g = 1) (hn : aln (wc w) f of = nf) (hn' : aln (wc w) g og = ng) (hb : (0 ≤ sp ∧ 0 ≤ dp ∧ 0 ≤ n) ∧ sp + n ≤ nf ∧ dp + n ≤ ng) (hl : Cond.methodLink own idx arraycopyName ∈ lw_all) (hnat : Cond.native arraycopyName ∈ lw_all) (hst : Cond.static arraycopyName ∈ lw_all) (hini : Cond.initialized "java/lang/System" ∈ lw_all)
    (hframes : 1 ≤ R.frames) (hlocals : (rest.map fun v => v.category).sum + (nativeFrameWords "java/lang/System" "arraycopy" 5 + 11) ≤ R.locals) (hdg : decode cc pc = .ok (.invokestatic idx, 3)) (kk : ∀ (H1 : Heap) (locs1 : List Loc), Wo w (sAr σ g og (cpy (gA σ f of) (gA σ g og) sp dp n)) H1 → va_S (wA w) s.heap H1 locs1 → W p l e R s m args below meth c H1 locs1 cells slots Q (F0 m (pc + 3) ls rest)) : W p l e R s m args below meth c H locs cells slots Q (F0 m pc ls (.int (oI n) :: .int (oI dp) :: .ref (wad w g og) :: .int (oI sp) :: .ref (wad w f of) :: rest)) := by
  obtain ⟨hx, hbb, hml, hown, hts⟩ := X
  obtain ⟨⟨b1, b2, b3⟩, b4, b5⟩ := hb
  obtain ⟨q, hq, he⟩ := wsL_at (σ := σ) hv
  obtain ⟨q', hq', he'⟩ := wsL_at (σ := σ) hv'
  rw [ent_arr hf ht hn] at he
  rw [ent_arr hg ht' hn'] at he'
  have l1 := aln_lt hT.c f of
  have l2 := aln_lt hT.c g og
  have r1 : rI sp := by unfold rI; omega
  have r2 : rI dp := by unfold rI; omega
  have r3 : rI n := by unfold rI; omega
  have z0 : rI 0 := by unfold rI; omega
  refine va_copyi (D := wD w) (cl := clL) (tys := tyL w) (ws := wsL w σ) (ty := .byte) hx hbb (hml.trans hsz.symm) hown (hts _ hl) (hts _ hnat) (hts _ hst) (hts _ hini) hT.1 hW.1 hW.2.1 hS q q' 1 1 he he' rfl rfl rfl (fun h => by rw [show (0 : Int32) = oI 0 from rfl, oI_lt r1 z0] at h; omega) (fun h => by rw [show (0 : Int32) = oI 0 from rfl, oI_lt r2 z0] at h; omega) (fun h => by rw [show (0 : Int32) = oI 0 from rfl, oI_lt r3 z0] at h; omega) ?_ ?_ ?_ hframes hlocals hdg (fun H1 locs1 h1 h2 h3 => ?_)
  · rw [oI_cl b1 r1, oI_cl b3 r3]; omega
  · rw [oI_cl b2 r2, oI_cl b3 r3]; omega
  · intro i _
    have hb := hW.2.2.ab f of (((oI sp).toNatClampNeg + i : Nat) : Int) ht
    show (decide (-128 ≤ oI _) && decide (oI _ ≤ 127)) = true
    rw [show (-128 : Int32) = oI (-128) from rfl, show (127 : Int32) = oI 127 from rfl]
    have hi := hb.i
    unfold rB at hb
    simp only [Bool.and_eq_true, decide_eq_true_eq]
    exact ⟨(oI_le (by unfold rI; omega) hi).mpr (by omega), (oI_le hi (by unfold rI; omega)).mpr (by omega)⟩
  · have hset := wsL_set (σ := σ) (σ' := sAr σ g og (cpy (gA σ f of) (gA σ g og) sp dp n)) (K := g) (o := og) hW.2.1 hq' (fun K' o' hne => ent_sAr hne)
    have hent : ent w (sAr σ g og (cpy (gA σ f of) (gA σ g og) sp dp n)) g og = arE w 1 ng (cpy (gA σ f of) (gA σ g og) sp dp n) := by
      rw [ent_arr hg ht' hn']
      congr 1
      funext j
      rw [gA_sAr, if_pos ⟨rfl, rfl⟩]
    rw [hent] at hset
    have hu : va_cpy (fun j : Nat => oI (gA σ f of j)) (fun j : Nat => oI (gA σ g og j)) (oI sp).toNatClampNeg (oI dp).toNatClampNeg (oI n).toNatClampNeg = fun j : Nat => oI (cpy (gA σ f of) (gA σ g og) sp dp n j) := by
      funext j
      unfold va_cpy cpy
      rw [oI_cl b1 r1, oI_cl b2 r2, oI_cl b3 r3]
      by_cases hc : dp ≤ (j : Int) ∧ (j : Int) < dp + n
      · rw [if_pos hc, if_pos (by omega)]
        show oI (gA σ f of ((sp.toNat + (j - dp.toNat) : Nat) : Int)) = _
        rw [show ((sp.toNat + (j - dp.toNat) : Nat) : Int) = sp + ((j : Int) - dp) by omega]
      · rw [if_neg hc, if_neg (by omega)]
    rw [hu] at h1 h2
    change va_P _ _ ((wsL w σ).set q' (wad w g og, arE w 1 ng (cpy (gA σ f of) (gA σ g og) sp dp n))) H1 at h1
    change va_D _ ((wsL w σ).set q' (wad w g og, arE w 1 ng (cpy (gA σ f of) (gA σ g og) sp dp n))) at h2
    rw [hset] at h1 h2
    refine kk H1 locs1 ⟨h1, h2, hW.2.2.sAr (fun i => ?_)⟩ h3
    rw [ht']
    show rB _
    unfold cpy
    split
    · exact hW.2.2.ab f of _ ht
    · exact hW.2.2.ab g og _ ht' 
theorem wr_I {Qp : Int → St → Prop} {a : Array Value} {st0 : List Value} (hr : va_Run p l e R s m args below meth c H locs cells slots 0 0 (F0 m pc ls st0) rest (QcI w Qp a) (wA w)) (hS : va_S (wA w) s.heap H locs) (kk : ∀ (z : Int) (σ1 : St) (H1 : Heap) (locs1 : List Loc), rI z → RK σ1 → Qp z σ1 → Wo w σ1 H1 → va_S (wA w) s.heap H1 locs1 → W p l e R s m args below meth c H1 locs1 cells slots Q (F0 m (pc + 3) ls (.int (oI z) :: rest))) : W p l e R s m args below meth c H locs cells slots Q (F0 m pc ls st0) :=
  va_calli hr hS (fun _ _ h => h) (fun _ h => h) (fun r u t H1 locs1 ht _ hq hB _ _ hS1 => by
    obtain ⟨z, rfl, hz, hq⟩ := hq
    have hW1 : Wo w u H1 := ht ▸ hB
    exact kk z u H1 locs1 hz hW1.r hq hW1 hS1)
theorem wr_Z {Qp : Int → St → Prop} {a : Array Value} {st0 : List Value} (hr : va_Run p l e R s m args below meth c H locs cells slots 0 0 (F0 m pc ls st0) rest (QcZ w Qp a) (wA w)) (hS : va_S (wA w) s.heap H locs) (kk : ∀ (z : Int) (σ1 : St) (H1 : Heap) (locs1 : List Loc), rZ z → RK σ1 → Qp z σ1 → Wo w σ1 H1 → va_S (wA w) s.heap H1 locs1 → W p l e R s m args below meth c H1 locs1 cells slots Q (F0 m (pc + 3) ls (.int (oI z) :: rest))) : W p l e R s m args below meth c H locs cells slots Q (F0 m pc ls st0) :=
  va_calli hr hS (fun _ _ h => h) (fun _ h => h) (fun r u t H1 locs1 ht _ hq hB _ _ hS1 => by
    obtain ⟨z, rfl, hz, hq⟩ := hq
    have hW1 : Wo w u H1 := ht ▸ hB
    exact kk z u H1 locs1 hz hW1.r hq hW1 hS1)
theorem wr_B {Qp : Int → St → Prop} {a : Array Value} {st0 : List Value} (hr : va_Run p l e R s m args below meth c H locs cells slots 0 0 (F0 m pc ls st0) rest (QcB w Qp a) (wA w)) (hS : va_S (wA w) s.heap H locs) (kk : ∀ (z : Int) (σ1 : St) (H1 : Heap) (locs1 : List Loc), rB z → RK σ1 → Qp z σ1 → Wo w σ1 H1 → va_S (wA w) s.heap H1 locs1 → W p l e R s m args below meth c H1 locs1 cells slots Q (F0 m (pc + 3) ls (.int (oI z) :: rest))) : W p l e R s m args below meth c H locs cells slots Q (F0 m pc ls st0) :=
  va_calli hr hS (fun _ _ h => h) (fun _ h => h) (fun r u t H1 locs1 ht _ hq hB _ _ hS1 => by
    obtain ⟨z, rfl, hz, hq⟩ := hq
    have hW1 : Wo w u H1 := ht ▸ hB
    exact kk z u H1 locs1 hz hW1.r hq hW1 hS1)
theorem wr_J {Qp : Int → St → Prop} {a : Array Value} {st0 : List Value} (hr : va_Run p l e R s m args below meth c H locs cells slots 0 0 (F0 m pc ls st0) rest (QcJ w Qp a) (wA w)) (hS : va_S (wA w) s.heap H locs) (kk : ∀ (z : Int) (σ1 : St) (H1 : Heap) (locs1 : List Loc), rJ z → RK σ1 → Qp z σ1 → Wo w σ1 H1 → va_S (wA w) s.heap H1 locs1 → W p l e R s m args below meth c H1 locs1 cells slots Q (F0 m (pc + 3) ls (.long (oL z) :: rest))) : W p l e R s m args below meth c H locs cells slots Q (F0 m pc ls st0) :=
  va_calll hr hS (fun _ _ h => h) (fun _ h => h) (fun r u t H1 locs1 ht _ hq hB _ _ hS1 => by
    obtain ⟨z, rfl, hz, hq⟩ := hq
    have hW1 : Wo w u H1 := ht ▸ hB
    exact kk z u H1 locs1 hz hW1.r hq hW1 hS1)
theorem wr_K {Qp : Int → St → Prop} {a : Array Value} {st0 : List Value} (hr : va_Run p l e R s m args below meth c H locs cells slots 0 0 (F0 m pc ls st0) rest (QcK w Qp a) (wA w)) (hS : va_S (wA w) s.heap H locs) (kk : ∀ (z : Int) (σ1 : St) (H1 : Heap) (locs1 : List Loc), rK z → RK σ1 → Qp z σ1 → Wo w σ1 H1 → va_S (wA w) s.heap H1 locs1 → W p l e R s m args below meth c H1 locs1 cells slots Q (F0 m (pc + 3) ls (va_rf (knO w z) :: rest))) : W p l e R s m args below meth c H locs cells slots Q (F0 m pc ls st0) :=
  va_callq hr hS (fun _ _ h => h) (fun _ h => h) (fun r u t H1 locs1 ht _ hq hB _ _ hS1 => by
    obtain ⟨z, rfl, hz, hq⟩ := hq
    have hW1 : Wo w u H1 := ht ▸ hB
    exact kk z u H1 locs1 hz hW1.r hq hW1 hS1)
theorem wr_V {Qp : St → Prop} {a : Array Value} {st0 : List Value} (hr : va_Run p l e R s m args below meth c H locs cells slots 0 0 (F0 m pc ls st0) rest (QcV w Qp a) (wA w)) (hS : va_S (wA w) s.heap H locs) (kk : ∀ (σ1 : St) (H1 : Heap) (locs1 : List Loc), RK σ1 → Qp σ1 → Wo w σ1 H1 → va_S (wA w) s.heap H1 locs1 → W p l e R s m args below meth c H1 locs1 cells slots Q (F0 m (pc + 3) ls rest)) : W p l e R s m args below meth c H locs cells slots Q (F0 m pc ls st0) :=
  va_callv hr hS (fun _ _ h => h) (fun _ h => h) (fun u t H1 locs1 ht _ hq hB _ _ hS1 => by
    have hW1 : Wo w u H1 := ht ▸ hB
    exact kk u H1 locs1 hW1.r hq hW1 hS1)
theorem wr_R {K : Nat} {o : Int} {Qp : St → Prop} {a : Array Value} {st0 : List Value} (hr : va_Run p l e R s m args below meth c H locs cells slots 0 0 (F0 m pc ls st0) rest (QcR w K o Qp a) (wA w)) (hS : va_S (wA w) s.heap H locs) (kk : ∀ (σ1 : St) (H1 : Heap) (locs1 : List Loc), RK σ1 → Qp σ1 → Wo w σ1 H1 → va_S (wA w) s.heap H1 locs1 → W p l e R s m args below meth c H1 locs1 cells slots Q (F0 m (pc + 3) ls (.ref (wad w K o) :: rest))) : W p l e R s m args below meth c H locs cells slots Q (F0 m pc ls st0) :=
  va_callr hr hS (fun _ _ h => h) (fun _ h => h) (fun u a t H1 locs1 ht _ hq hB _ _ hS1 => by
    obtain ⟨rfl, hB⟩ := hB
    have hW1 : Wo w u H1 := ht ▸ hB
    exact kk u H1 locs1 hW1.r hq hW1 hS1)
theorem rV (X : CallFix p m c cc nL s args lw_all own) (hT : Tb w s) (hW : Wo w σ H) (hS : va_S (wA w) s.heap H locs) {K n idx maxL : Nat} {o : Int} {C : String} {T : u_T} {N : Nat} {y : MethodName} {bytes : ByteArray} {ret : Option FieldType} {ws : List Cond} {rm : Room} {Qc : Array Value → State → Outcome → State → Prop} {As st0 : List Value} (hM : Met l y ws rm (PcW w σ (.ref (wad w K o) :: As)) Qc 0 0 (wA w)) (cw : CallW R s args own C idx y bytes maxL ret ws rm 0 0 n) (hv : vl w K o) (hK : K < 64) (hc : clL[K - 1]? = some (C, T, N)) (hn : As.length = n) (hsz : ls.size = nL) (hst : st0 = As.reverse ++ .ref (wad w K o) :: rest) (hrm : (rest.map fun v => v.category).sum ≤ 8) (hdg : decode cc pc = .ok (.invokevirtual idx, 3)) (hcs : cells ≤ R.cells ∧ slots ≤ R.slots) : va_Run p l e R s m args below meth c H locs cells slots 0 0 (F0 m pc ls st0) rest (Qc (Value.ref (wad w K o) :: As).toArray) (wA w) := by
  obtain ⟨q, hq, he⟩ := wsL_at (σ := σ) hv
  have he : (wsL w σ)[q]? = some (wad w K o, .inr (K - 1, fldL w σ K o)) := by rw [he]; unfold ent; rw [if_pos hK]
  exact va_runV X hM cw ⟨PcW.blind w σ _, va_recv hT.1 hW.1 hc he, fun U hU hw => ⟨rfl, hU ▸ hW, hT.warm hw hU hS⟩⟩ rfl hn hsz hst (lv_room hrm) hdg hcs
theorem rVN (X : CallFix p m c cc nL s args lw_all own) (hT : Tb w s) (hW : Wo w σ H) (hS : va_S (wA w) s.heap H locs) {K n idx maxL : Nat} {o : Int} {C host : String} {T : u_T} {N : Nat} {y : MethodName} {bytes : ByteArray} {ret : Option FieldType} {ws : List Cond} {rm : Room} {Qc : Array Value → State → Outcome → State → Prop} {As st0 : List Value} (hM : Met l y ws rm (PcW w σ (.ref (wad w K o) :: As)) Qc 0 0 (wA w)) (cw : va_CN R s args own idx y host bytes maxL ret ws rm 0 0 n ∧ (Cond.instanceMethod y).before args s = true ∧ (Cond.selects C y y).before args s = true) (hv : vl w K o) (hK : K < 64) (hc : clL[K - 1]? = some (C, T, N)) (hn : As.length = n) (hsz : ls.size = nL) (hst : st0 = As.reverse ++ .ref (wad w K o) :: rest) (hrm : (rest.map fun v => v.category).sum ≤ 8) (hdg : decode cc pc = .ok (.invokevirtual idx, 3)) (hcs : cells ≤ R.cells ∧ slots ≤ R.slots) : va_Run p l e R s m args below meth c H locs cells slots 0 0 (F0 m pc ls st0) rest (Qc (Value.ref (wad w K o) :: As).toArray) (wA w) := by
  obtain ⟨q, hq, he⟩ := wsL_at (σ := σ) hv
  have he : (wsL w σ)[q]? = some (wad w K o, .inr (K - 1, fldL w σ K o)) := by rw [he]; unfold ent; rw [if_pos hK]
  exact va_runVN X hM cw ⟨PcW.blind w σ _, va_recv hT.1 hW.1 hc he, fun U hU hw => ⟨rfl, hU ▸ hW, hT.warm hw hU hS⟩⟩ rfl hn hsz hst (lv_room hrm) hdg hcs
theorem rS (X : CallFix p m c cc nL s args lw_all own) (hT : Tb w s) (hW : Wo w σ H) (hS : va_S (wA w) s.heap H locs) {n idx maxL : Nat} {y : MethodName} {bytes : ByteArray} {ret : Option FieldType} {ws : List Cond} {rm : Room} {Qc : Array Value → State → Outcome → State → Prop} {As st0 : List Value} (hM : Met l y ws rm (PcW w σ As) Qc 0 0 (wA w)) (cw : CallB R s args own idx y bytes maxL ret ws rm 0 0 n ∧ (Cond.static y).before args s = true) (hn : As.length = n) (hsz : ls.size = nL) (hst : st0 = As.reverse ++ rest) (hrm : (rest.map fun v => v.category).sum ≤ 8) (hdg : decode cc pc = .ok (.invokestatic idx, 3)) (hcs : cells ≤ R.cells ∧ slots ≤ R.slots) : va_Run p l e R s m args below meth c H locs cells slots 0 0 (F0 m pc ls st0) rest (Qc As.toArray) (wA w) :=
  va_runS X hM cw ⟨PcW.blind w σ _, fun U hU hw => ⟨rfl, hU ▸ hW, hT.warm hw hU hS⟩⟩ rfl hn hsz hst (lv_room hrm) hdg hcs
theorem rSN (X : CallFix p m c cc nL s args lw_all own) (hT : Tb w s) (hW : Wo w σ H) (hS : va_S (wA w) s.heap H locs) {n idx maxL : Nat} {y : MethodName} {host : String} {bytes : ByteArray} {ret : Option FieldType} {ws : List Cond} {rm : Room} {Qc : Array Value → State → Outcome → State → Prop} {As st0 : List Value} (hM : Met l y ws rm (PcW w σ As) Qc 0 0 (wA w)) (cw : va_CN R s args own idx y host bytes maxL ret ws rm 0 0 n ∧ (Cond.static y).before args s = true ∧ True) (hn : As.length = n) (hsz : ls.size = nL) (hst : st0 = As.reverse ++ rest) (hrm : (rest.map fun v => v.category).sum ≤ 8) (hdg : decode cc pc = .ok (.invokestatic idx, 3)) (hcs : cells ≤ R.cells ∧ slots ≤ R.slots) : va_Run p l e R s m args below meth c H locs cells slots 0 0 (F0 m pc ls st0) rest (Qc As.toArray) (wA w) :=
  va_runSN X hM cw ⟨PcW.blind w σ _, fun U hU hw => ⟨rfl, hU ▸ hW, hT.warm hw hU hS⟩⟩ rfl hn hsz hst (lv_room hrm) hdg hcs
theorem wret_I (X : CallFix p m c cc nL s args lw_all own) {Qp : Int → St → Prop} {z : Int} (hr : meth.sig.returnType = some .int) (hlk : meth.locks = false) (hW : Wo w σ H) (hS : va_S (wA w) s.heap H locs) (hz : rI z) (hq : Qp z σ) (hdg : decode cc pc = .ok (.ireturn, 1)) : W p l e R s m args below meth c H locs 0 0 (MQ below (QcI w Qp) args s 0 0 (wA w)) (F0 m pc ls [.int (oI z)]) :=
  W.iret (v := oI z) X.1 X.2.1 hr (fun t ht _ => ⟨⟨oI z, σ, rfl, ⟨z, rfl, hz, hq⟩, by show Wo w σ t.heap; rw [ht]; exact hW⟩, hS.F ht⟩) hS.2.2 hdg hlk
theorem wret_Z (X : CallFix p m c cc nL s args lw_all own) {Qp : Int → St → Prop} {z : Int} (hr : meth.sig.returnType = some .boolean) (hlk : meth.locks = false) (hW : Wo w σ H) (hS : va_S (wA w) s.heap H locs) (hz : rZ z) (hq : Qp z σ) (hdg : decode cc pc = .ok (.ireturn, 1)) : W p l e R s m args below meth c H locs 0 0 (MQ below (QcZ w Qp) args s 0 0 (wA w)) (F0 m pc ls [.int (oI z)]) :=
  W.zret (v := oI z) X.1 X.2.1 hr (by unfold rZ at hz; rcases (show z = 0 ∨ z = 1 by omega) with rfl | rfl <;> rfl) (fun t ht _ => ⟨⟨oI z, σ, rfl, ⟨z, rfl, hz, hq⟩, by show Wo w σ t.heap; rw [ht]; exact hW⟩, hS.F ht⟩) hS.2.2 hdg hlk
theorem wret_B (X : CallFix p m c cc nL s args lw_all own) {Qp : Int → St → Prop} {z : Int} (hr : meth.sig.returnType = some .byte) (hlk : meth.locks = false) (hW : Wo w σ H) (hS : va_S (wA w) s.heap H locs) (hz : rB z) (hq : Qp z σ) (hdg : decode cc pc = .ok (.ireturn, 1)) : W p l e R s m args below meth c H locs 0 0 (MQ below (QcB w Qp) args s 0 0 (wA w)) (F0 m pc ls [.int (oI z)]) :=
  W.zret (v := oI z) X.1 X.2.1 hr (by show Value.int (oI z).toInt8.toInt32 = _; rw [oI_b8, b8_id hz]) (fun t ht _ => ⟨⟨oI z, σ, rfl, ⟨z, rfl, hz, hq⟩, by show Wo w σ t.heap; rw [ht]; exact hW⟩, hS.F ht⟩) hS.2.2 hdg hlk
theorem wret_J (X : CallFix p m c cc nL s args lw_all own) {Qp : Int → St → Prop} {z : Int} (hr : meth.sig.returnType = some .long) (hlk : meth.locks = false) (hW : Wo w σ H) (hS : va_S (wA w) s.heap H locs) (hz : rJ z) (hq : Qp z σ) (hdg : decode cc pc = .ok (.lreturn, 1)) : W p l e R s m args below meth c H locs 0 0 (MQ below (QcJ w Qp) args s 0 0 (wA w)) (F0 m pc ls [.long (oL z)]) :=
  W.lret (v := oL z) X.1 X.2.1 hr (fun t ht _ => ⟨⟨oL z, σ, rfl, ⟨z, rfl, hz, hq⟩, by show Wo w σ t.heap; rw [ht]; exact hW⟩, hS.F ht⟩) hS.2.2 hdg hlk
theorem wret_V (X : CallFix p m c cc nL s args lw_all own) {Qp : St → Prop} (hr : meth.sig.returnType = none) (hlk : meth.locks = false) (hW : Wo w σ H) (hS : va_S (wA w) s.heap H locs) (hq : Qp σ) (hdg : decode cc pc = .ok (.return_, 1)) : W p l e R s m args below meth c H locs 0 0 (MQ below (QcV w Qp) args s 0 0 (wA w)) (F0 m pc ls []) :=
  W.vret X.1 X.2.1 hr (fun t ht _ => ⟨⟨σ, rfl, hq, by show Wo w σ t.heap; rw [ht]; exact hW⟩, hS.F ht⟩) hS.2.2 hdg hlk
theorem wret_K (X : CallFix p m c cc nL s args lw_all own) {Qp : Int → St → Prop} {z : Int} {C : String} (hr : meth.sig.returnType = some (.object C)) (hlk : meth.locks = false) (hW : Wo w σ H) (hS : va_S (wA w) s.heap H locs) (hz : rK z) (hq : Qp z σ) (hdg : decode cc pc = .ok (.areturn, 1)) : W p l e R s m args below meth c H locs 0 0 (MQ below (QcK w Qp) args s 0 0 (wA w)) (F0 m pc ls [va_rf (knO w z)]) :=
  W.aret (v := va_rf (knO w z)) X.1 X.2.1 hr (Or.inl ⟨_, rfl⟩) (va_rf_or _) (fun t ht _ => ⟨⟨knO w z, σ, rfl, ⟨z, rfl, hz, hq⟩, by show Wo w σ t.heap; rw [ht]; exact hW⟩, hS.F ht⟩) hS.2.2 hdg hlk
theorem wret_R (X : CallFix p m c cc nL s args lw_all own) {Qp : St → Prop} {K : Nat} {o : Int} {C : String} (hr : meth.sig.returnType = some (.object C)) (hlk : meth.locks = false) (hW : Wo w σ H) (hS : va_S (wA w) s.heap H locs) (hq : Qp σ) (hdg : decode cc pc = .ok (.areturn, 1)) : W p l e R s m args below meth c H locs 0 0 (MQ below (QcR w K o Qp) args s 0 0 (wA w)) (F0 m pc ls [.ref (wad w K o)]) :=
  W.aret (v := .ref (wad w K o)) X.1 X.2.1 hr (Or.inl ⟨_, rfl⟩) (Or.inr ⟨_, rfl⟩) (fun t ht _ => ⟨⟨σ, wad w K o, rfl, hq, rfl, by show Wo w σ t.heap; rw [ht]; exact hW⟩, hS.F ht⟩) hS.2.2 hdg hlk
theorem prod_r {c : Cf} (h : CfOK c) : 1024 ≤ cap c ∧ cap c ≤ 164864 := by
  obtain ⟨⟨h1, h2⟩, ⟨h3, h4⟩, h5, h6⟩ := h
  unfold cap
  constructor
  · have := Int.mul_le_mul (a := 2) (b := 512) (c := c.1 - 18 - c.2.2) (d := (c.2.1 - 2) * 128 - 256) (by omega) (by omega) (by omega) (by omega)
    omega
  · have := Int.mul_le_mul (a := c.1 - 18 - c.2.2) (b := (c.2.1 - 2) * 128 - 256) (c := 46) (d := 3584) (by omega) (by omega) (by omega) (by omega)
    omega
theorem tbl_r {c : Cf} (h : CfOK c) : 64 ≤ tbl c ∧ tbl c ≤ 240 := by
  obtain ⟨⟨h1, h2⟩, ⟨h3, h4⟩, h5, h6⟩ := h
  unfold tbl; omega
theorem whl_r {c : Cf} (h : CfOK c) : 1 ≤ whl c ∧ whl c ≤ 100 := by
  have h7 := prod_r h
  have h8 := tbl_r h
  obtain ⟨⟨h1, h2⟩, ⟨h3, h4⟩, h5, h6⟩ := h
  unfold whl cst
  have e : (c.1 - 10 - c.2.2 - 8) * ((c.2.1 - 2) * 128 - 256) = cap c := by unfold cap; congr 1; omega
  rw [e]
  have hd : 0 < (c.2.1 - 2) * 128 - 248 := by omega
  have hn : 0 ≤ 48 * (cap c / 232 + 1) + 64 + tbl c := by omega
  constructor
  · have := Int.ediv_nonneg hn (Int.le_of_lt hd)
    omega
  · have hle : 48 * (cap c / 232 + 1) + 64 + tbl c < 100 * ((c.2.1 - 2) * 128 - 248) := by
      have : cap c ≤ 46 * ((c.2.1 - 2) * 128 - 256) := by unfold cap; exact Int.mul_le_mul_of_nonneg_right (by omega) (by omega)
      omega
    have := Int.ediv_lt_of_lt_mul hd hle
    omega
theorem cin_r {c : Cf} (h : CfOK c) (f : Nat) : rI (cin c f) := by
  have h7 := prod_r h
  have h8 := tbl_r h
  have h9 := whl_r h
  obtain ⟨⟨h1, h2⟩, ⟨h3, h4⟩, h5, h6⟩ := h
  unfold cin rI
  split <;> omega
theorem aln_r {c : Cf} (h : CfOK c) (f : Nat) (o : Int) : rI (aln c f o) := by
  have h1 := aln_lt h f o
  have h2 := aln_nn h f o
  unfold rI; omega
end
