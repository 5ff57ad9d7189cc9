section
variable {p : Program} {l : Launch} {e : Env} {R : Room} {s : State} {m : MethodId} {args : Array Value} {below : List Frame} {meth : Method} {c : Code} {H : Heap} {locs : List Loc} {cells slots : Nat} {Q : State → Prop} {cc : ByteArray} {nL : Nat} {own : String} {pc : Nat} {ls : Array Slot} {rest : List Value} {w : Wp} {σ : St}
theorem ent_arr {w : Wp} {σ : St} {f : Nat} {o n : Int} {t : Nat} (hf : ¬ f < 64) (ht : aty f = t) (hn : aln (wc w) f o = n) : ent w σ f o = arE w t n (gA σ f o) := by unfold ent; rw [if_neg hf, ht, hn]
theorem aln_lt {c : Cf} (h : CfOK c) (f : Nat) (o : Int) : aln c f o < 2147483648 := by
  obtain ⟨⟨h1, h2⟩, ⟨h3, h4⟩, h5, h6⟩ := h
  have hm : c.1 * c.2.1 ≤ 64 * 32 := Int.mul_le_mul h2 h4 (by omega) (by omega)
  unfold aln rowL
  split <;> first | omega | (split <;> first | omega | (split <;> first | omega | (split <;> omega)))
theorem aln_nn {c : Cf} (h : CfOK c) (f : Nat) (o : Int) : 0 ≤ aln c f o := by
  obtain ⟨⟨h1, h2⟩, ⟨h3, h4⟩, h5, h6⟩ := h
  have hm : 0 ≤ c.1 * c.2.1 := Int.mul_nonneg (by omega) (by omega)
  unfold aln rowL
  split <;> first | omega | (split <;> first | omega | (split <;> first | omega | (split <;> omega)))
theorem ix_r {c : Cf} (h : CfOK c) {f : Nat} {o n i : Int} (hn : aln c f o = n) (hi : 0 ≤ i ∧ i < n) : rI i ∧ n < 2147483648 := by
  have := aln_lt h f o
  unfold rI; omega
theorem ix_cl {i : Int} (h : 0 ≤ i) (hr : rI i) : ((oI i).toNatClampNeg : Int) = i := by rw [oI_cl h hr]; omega
theorem w_iald (X : CallFix p m c cc nL s args lw_all own) (hT : Tb w s) (hW : Wo w σ H) (f : Nat) {o i n : Int} (hv : vl w f o) (hf : ¬ f < 64) (ht : aty f = 0) (hn : aln (wc w) f o = n) (hi : 0 ≤ i ∧ i < n) (hdg : decode cc pc = .ok (.iaload, 1)) (kk : W p l e R s m args below meth c H locs cells slots Q (F0 m (pc + 1) ls (.int (oI (gA σ f o i)) :: rest))) : W p l e R s m args below meth c H locs cells slots Q (F0 m pc ls (.int (oI i) :: .ref (wad w f o) :: rest)) := by
  obtain ⟨hx, hb, hml, hown, hts⟩ := X
  obtain ⟨q, hq, he⟩ := wsL_at (σ := σ) hv
  rw [ent_arr hf ht hn] at he
  obtain ⟨hr, hlt⟩ := ix_r hT.c hn hi
  have hz := ix_cl hi.1 hr
  refine va_iald (D := wD w) (cl := clL) (tys := tyL w) (ws := wsL w σ) hx hb hT.1 hW.1 q 0 he rfl (oI_in hi hlt) hdg ?_
  show W p l e R s m args below meth c H locs cells slots Q (F0 m (pc + 1) ls (.int (oI (gA σ f o ((oI i).toNatClampNeg : Int))) :: rest))
  rw [hz]; exact kk
theorem w_bald (X : CallFix p m c cc nL s args lw_all own) (hT : Tb w s) (hW : Wo w σ H) (f : Nat) {o i n : Int} (hv : vl w f o) (hf : ¬ f < 64) (ht : aty f = 1) (hn : aln (wc w) f o = n) (hi : 0 ≤ i ∧ i < n) (hdg : decode cc pc = .ok (.baload, 1)) (kk : W p l e R s m args below meth c H locs cells slots Q (F0 m (pc + 1) ls (.int (oI (gA σ f o i)) :: rest))) : W p l e R s m args below meth c H locs cells slots Q (F0 m pc ls (.int (oI i) :: .ref (wad w f o) :: rest)) := by
  obtain ⟨hx, hb, hml, hown, hts⟩ := X
  obtain ⟨q, hq, he⟩ := wsL_at (σ := σ) hv
  rw [ent_arr hf ht hn] at he
  obtain ⟨hr, hlt⟩ := ix_r hT.c hn hi
  have hz := ix_cl hi.1 hr
  refine va_bald (D := wD w) (cl := clL) (tys := tyL w) (ws := wsL w σ) hx hb hT.1 hW.1 q 1 he rfl (oI_in hi hlt) hdg ?_
  show W p l e R s m args below meth c H locs cells slots Q (F0 m (pc + 1) ls (.int (oI (gA σ f o ((oI i).toNatClampNeg : Int))) :: rest))
  rw [hz]; exact kk
theorem w_zald (X : CallFix p m c cc nL s args lw_all own) (hT : Tb w s) (hW : Wo w σ H) (f : Nat) {o i n : Int} (hv : vl w f o) (hf : ¬ f < 64) (ht : aty f = 2) (hn : aln (wc w) f o = n) (hi : 0 ≤ i ∧ i < n) (hdg : decode cc pc = .ok (.baload, 1)) (kk : W p l e R s m args below meth c H locs cells slots Q (F0 m (pc + 1) ls (.int (oI (gA σ f o i)) :: rest))) : W p l e R s m args below meth c H locs cells slots Q (F0 m pc ls (.int (oI i) :: .ref (wad w f o) :: rest)) := by
  obtain ⟨hx, hb, hml, hown, hts⟩ := X
  obtain ⟨q, hq, he⟩ := wsL_at (σ := σ) hv
  rw [ent_arr hf ht hn] at he
  obtain ⟨hr, hlt⟩ := ix_r hT.c hn hi
  have hz := ix_cl hi.1 hr
  refine va_zald (D := wD w) (cl := clL) (tys := tyL w) (ws := wsL w σ) hx hb hT.1 hW.1 q 2 he rfl (oI_in hi hlt) hdg ?_
  show W p l e R s m args below meth c H locs cells slots Q (F0 m (pc + 1) ls (.int (oI (gA σ f o ((oI i).toNatClampNeg : Int))) :: rest))
  rw [hz]; exact kk
theorem w_lald (X : CallFix p m c cc nL s args lw_all own) (hT : Tb w s) (hW : Wo w σ H) (f : Nat) {o i n : Int} (hv : vl w f o) (hf : ¬ f < 64) (ht : aty f = 3) (hn : aln (wc w) f o = n) (hi : 0 ≤ i ∧ i < n) (hdg : decode cc pc = .ok (.laload, 1)) (kk : W p l e R s m args below meth c H locs cells slots Q (F0 m (pc + 1) ls (.long (oL (gA σ f o i)) :: rest))) : W p l e R s m args below meth c H locs cells slots Q (F0 m pc ls (.int (oI i) :: .ref (wad w f o) :: rest)) := by
  obtain ⟨hx, hb, hml, hown, hts⟩ := X
  obtain ⟨q, hq, he⟩ := wsL_at (σ := σ) hv
  rw [ent_arr hf ht hn] at he
  obtain ⟨hr, hlt⟩ := ix_r hT.c hn hi
  have hz := ix_cl hi.1 hr
  refine va_lald (D := wD w) (cl := clL) (tys := tyL w) (ws := wsL w σ) hx hb hT.1 hW.1 q 3 he rfl (oI_in hi hlt) hdg ?_
  show W p l e R s m args below meth c H locs cells slots Q (F0 m (pc + 1) ls (.long (oL (gA σ f o ((oI i).toNatClampNeg : Int))) :: rest))
  rw [hz]; exact kk
theorem w_aald (X : CallFix p m c cc nL s args lw_all own) (hT : Tb w s) (hW : Wo w σ H) (f : Nat) {o i n : Int} (hv : vl w f o) (hf : ¬ f < 64) (ht : aty f = 4) (hn : aln (wc w) f o = n) (hi : 0 ≤ i ∧ i < n) (hdg : decode cc pc = .ok (.aaload, 1)) (kk : W p l e R s m args below meth c H locs cells slots Q (F0 m (pc + 1) ls (va_rf (knO w (gA σ f o i)) :: rest))) : W p l e R s m args below meth c H locs cells slots Q (F0 m pc ls (.int (oI i) :: .ref (wad w f o) :: rest)) := by
  obtain ⟨hx, hb, hml, hown, hts⟩ := X
  obtain ⟨q, hq, he⟩ := wsL_at (σ := σ) hv
  rw [ent_arr hf ht hn] at he
  obtain ⟨hr, hlt⟩ := ix_r hT.c hn hi
  have hz := ix_cl hi.1 hr
  refine va_aldq (D := wD w) (cl := clL) (tys := tyL w) (ws := wsL w σ) hx hb hT.1 hW.1 q 4 he rfl (oI_in hi hlt) hdg ?_
  show W p l e R s m args below meth c H locs cells slots Q (F0 m (pc + 1) ls (va_rf (knO w (gA σ f o ((oI i).toNatClampNeg : Int))) :: rest))
  rw [hz]; exact kk
theorem w_alen (X : CallFix p m c cc nL s args lw_all own) (hT : Tb w s) (hW : Wo w σ H) (f : Nat) {o n : Int} (hv : vl w f o) (hf : ¬ f < 64) (ht : aty f < 5) (hn : aln (wc w) f o = n) (hdg : decode cc pc = .ok (.arraylength, 1)) (kk : W p l e R s m args below meth c H locs cells slots Q (F0 m (pc + 1) ls (.int (oI n) :: rest))) : W p l e R s m args below meth c H locs cells slots Q (F0 m pc ls (.ref (wad w f o) :: rest)) := by
  obtain ⟨hx, hb, hml, hown, hts⟩ := X
  obtain ⟨q, hq, he⟩ := wsL_at (σ := σ) hv
  have hnn := aln_nn hT.c f o
  have hv : Int32.ofNat n.toNat = oI n := by rw [← Int32.ofInt_eq_ofNat]; congr 1; omega
  generalize hta : aty f = t at ht
  rw [ent_arr hf hta hn] at he
  rcases (show t = 0 ∨ t = 1 ∨ t = 2 ∨ t = 3 ∨ t = 4 by omega) with rfl | rfl | rfl | rfl | rfl
  · exact va_alen (D := wD w) (cl := clL) (tys := tyL w) (ws := wsL w σ) hx hb hT.1 hW.1 q 0 he rfl hv hdg kk
  · exact va_alen (D := wD w) (cl := clL) (tys := tyL w) (ws := wsL w σ) hx hb hT.1 hW.1 q 1 he rfl hv hdg kk
  · exact va_alen (D := wD w) (cl := clL) (tys := tyL w) (ws := wsL w σ) hx hb hT.1 hW.1 q 2 he rfl hv hdg kk
  · exact va_alen (D := wD w) (cl := clL) (tys := tyL w) (ws := wsL w σ) hx hb hT.1 hW.1 q 3 he rfl hv hdg kk
  · exact va_alen (D := wD w) (cl := clL) (tys := tyL w) (ws := wsL w σ) hx hb hT.1 hW.1 q 4 he rfl hv hdg kk
theorem ofs {σ : St} {f : Nat} {o i v : Int} (h : 0 ≤ i) : ∀ (j k : Nat), (k : Int) = i → gA (sA σ f o i v) f o (j : Int) = if j = k then v else gA σ f o (j : Int) := by
  intro j k hk
  rw [gA_sA]
  by_cases hj : j = k
  · subst hj; rw [if_pos ⟨rfl, rfl, hk⟩, if_pos rfl]
  · rw [if_neg (fun q => hj (by omega)), if_neg hj]
theorem nar_b {v : Int} (h : rB v) : vp_nar .byte (oI v) = oI v := by rw [vp_nar_byte, oI_b8, b8_id h]
theorem nar_z {v : Int} (h : rZ v) : vp_nar .boolean (oI v) = oI v := by
  unfold rZ at h
  rcases (show v = 0 ∨ v = 1 by omega) with rfl | rfl <;> decide
theorem w_iast (X : CallFix p m c cc nL s args lw_all own) (hT : Tb w s) (hW : Wo w σ H) (hS : va_S (wA w) s.heap H locs) (f : Nat) {o i n v : Int} (hv : vl w f o) (hf : ¬ f < 64) (ht : aty f = 0) (hn : aln (wc w) f o = n) (hi : 0 ≤ i ∧ i < n) (hr : rI v) (hdg : decode cc pc = .ok (.iastore, 1)) (kk : ∀ (H1 : Heap) (locs1 : List Loc), Wo w (sA σ f o i v) H1 → va_S (wA w) s.heap H1 locs1 → W p l e R s m args below meth c H1 locs1 cells slots Q (F0 m (pc + 1) ls rest)) : W p l e R s m args below meth c H locs cells slots Q (F0 m pc ls (.int (oI v) :: .int (oI i) :: .ref (wad w f o) :: rest)) := by
  obtain ⟨hx, hb, hml, hown, hts⟩ := X
  obtain ⟨q, hq, he⟩ := wsL_at (σ := σ) hv
  rw [ent_arr hf ht hn] at he
  obtain ⟨hri, hlt⟩ := ix_r hT.c hn hi
  have hz := ix_cl hi.1 hri
  refine va_iast (D := wD w) (cl := clL) (tys := tyL w) (ws := wsL w σ) hx hb hT.1 hW.1 hW.2.1 hS q 0 he rfl (oI_in hi hlt) hdg (fun H1 locs1 h1 h2 h3 => ?_)
  have hset := wsL_set (σ := σ) (σ' := sA σ f o i v) (K := f) (o := o) hW.2.1 hq (fun K' o' hne => ent_sA hne)
  have hu : upd (fun j : Nat => oI (gA σ f o j)) (oI i).toNatClampNeg (oI v) = fun j : Nat => oI (gA (sA σ f o i v) f o j) := by
    funext j
    rw [ofs hi.1 j _ hz]
    skip
    unfold upd
    split <;> rfl
  rw [hu] at h1 h2
  have hent : ent w (sA σ f o i v) f o = arE w 0 n (gA (sA σ f o i v) f o) := ent_arr hf ht hn
  rw [hent] at hset
  change va_P _ _ ((wsL w σ).set q (wad w f o, arE w 0 n (gA (sA σ f o i v) f o))) H1 at h1
  change va_D _ ((wsL w σ).set q (wad w f o, arE w 0 n (gA (sA σ f o i v) f o))) at h2
  rw [hset] at h1 h2
  exact kk H1 locs1 ⟨h1, h2, hW.2.2.sA (by rw [ht]; exact hr)⟩ h3
theorem w_bast (X : CallFix p m c cc nL s args lw_all own) (hT : Tb w s) (hW : Wo w σ H) (hS : va_S (wA w) s.heap H locs) (f : Nat) {o i n v : Int} (hv : vl w f o) (hf : ¬ f < 64) (ht : aty f = 1) (hn : aln (wc w) f o = n) (hi : 0 ≤ i ∧ i < n) (hr : rB v) (hdg : decode cc pc = .ok (.bastore, 1)) (kk : ∀ (H1 : Heap) (locs1 : List Loc), Wo w (sA σ f o i v) H1 → va_S (wA w) s.heap H1 locs1 → W p l e R s m args below meth c H1 locs1 cells slots Q (F0 m (pc + 1) ls rest)) : W p l e R s m args below meth c H locs cells slots Q (F0 m pc ls (.int (oI v) :: .int (oI i) :: .ref (wad w f o) :: rest)) := by
  obtain ⟨hx, hb, hml, hown, hts⟩ := X
  obtain ⟨q, hq, he⟩ := wsL_at (σ := σ) hv
  rw [ent_arr hf ht hn] at he
  obtain ⟨hri, hlt⟩ := ix_r hT.c hn hi
  have hz := ix_cl hi.1 hri
  refine va_bast (D := wD w) (cl := clL) (tys := tyL w) (ws := wsL w σ) hx hb hT.1 hW.1 hW.2.1 hS q 1 he rfl (oI_in hi hlt) hdg (fun H1 locs1 h1 h2 h3 => ?_)
  have hset := wsL_set (σ := σ) (σ' := sA σ f o i v) (K := f) (o := o) hW.2.1 hq (fun K' o' hne => ent_sA hne)
  have hu : upd (fun j : Nat => oI (gA σ f o j)) (oI i).toNatClampNeg (vp_nar .byte (oI v)) = fun j : Nat => oI (gA (sA σ f o i v) f o j) := by
    funext j
    rw [ofs hi.1 j _ hz]
    rw [nar_b hr]
    unfold upd
    split <;> rfl
  rw [hu] at h1 h2
  have hent : ent w (sA σ f o i v) f o = arE w 1 n (gA (sA σ f o i v) f o) := ent_arr hf ht hn
  rw [hent] at hset
  change va_P _ _ ((wsL w σ).set q (wad w f o, arE w 1 n (gA (sA σ f o i v) f o))) H1 at h1
  change va_D _ ((wsL w σ).set q (wad w f o, arE w 1 n (gA (sA σ f o i v) f o))) at h2
  rw [hset] at h1 h2
  exact kk H1 locs1 ⟨h1, h2, hW.2.2.sA (by rw [ht]; exact hr)⟩ h3
theorem w_zast (X : CallFix p m c cc nL s args lw_all own) (hT : Tb w s) (hW : Wo w σ H) (hS : va_S (wA w) s.heap H locs) (f : Nat) {o i n v : Int} (hv : vl w f o) (hf : ¬ f < 64) (ht : aty f = 2) (hn : aln (wc w) f o = n) (hi : 0 ≤ i ∧ i < n) (hr : rZ v) (hdg : decode cc pc = .ok (.bastore, 1)) (kk : ∀ (H1 : Heap) (locs1 : List Loc), Wo w (sA σ f o i v) H1 → va_S (wA w) s.heap H1 locs1 → W p l e R s m args below meth c H1 locs1 cells slots Q (F0 m (pc + 1) ls rest)) : W p l e R s m args below meth c H locs cells slots Q (F0 m pc ls (.int (oI v) :: .int (oI i) :: .ref (wad w f o) :: rest)) := by
  obtain ⟨hx, hb, hml, hown, hts⟩ := X
  obtain ⟨q, hq, he⟩ := wsL_at (σ := σ) hv
  rw [ent_arr hf ht hn] at he
  obtain ⟨hri, hlt⟩ := ix_r hT.c hn hi
  have hz := ix_cl hi.1 hri
  refine va_zast (D := wD w) (cl := clL) (tys := tyL w) (ws := wsL w σ) hx hb hT.1 hW.1 hW.2.1 hS q 2 he rfl (oI_in hi hlt) hdg (fun H1 locs1 h1 h2 h3 => ?_)
  have hset := wsL_set (σ := σ) (σ' := sA σ f o i v) (K := f) (o := o) hW.2.1 hq (fun K' o' hne => ent_sA hne)
  have hu : upd (fun j : Nat => oI (gA σ f o j)) (oI i).toNatClampNeg (vp_nar .boolean (oI v)) = fun j : Nat => oI (gA (sA σ f o i v) f o j) := by
    funext j
    rw [ofs hi.1 j _ hz]
    rw [nar_z hr]
    unfold upd
    split <;> rfl
  rw [hu] at h1 h2
  have hent : ent w (sA σ f o i v) f o = arE w 2 n (gA (sA σ f o i v) f o) := ent_arr hf ht hn
  rw [hent] at hset
  change va_P _ _ ((wsL w σ).set q (wad w f o, arE w 2 n (gA (sA σ f o i v) f o))) H1 at h1
  change va_D _ ((wsL w σ).set q (wad w f o, arE w 2 n (gA (sA σ f o i v) f o))) at h2
  rw [hset] at h1 h2
  exact kk H1 locs1 ⟨h1, h2, hW.2.2.sA (by rw [ht]; exact hr)⟩ h3
theorem w_last (X : CallFix p m c cc nL s args lw_all own) (hT : Tb w s) (hW : Wo w σ H) (hS : va_S (wA w) s.heap H locs) (f : Nat) {o i n v : Int} (hv : vl w f o) (hf : ¬ f < 64) (ht : aty f = 3) (hn : aln (wc w) f o = n) (hi : 0 ≤ i ∧ i < n) (hr : rJ v) (hdg : decode cc pc = .ok (.lastore, 1)) (kk : ∀ (H1 : Heap) (locs1 : List Loc), Wo w (sA σ f o i v) H1 → va_S (wA w) s.heap H1 locs1 → W p l e R s m args below meth c H1 locs1 cells slots Q (F0 m (pc + 1) ls rest)) : W p l e R s m args below meth c H locs cells slots Q (F0 m pc ls (.long (oL v) :: .int (oI i) :: .ref (wad w f o) :: rest)) := by
  obtain ⟨hx, hb, hml, hown, hts⟩ := X
  obtain ⟨q, hq, he⟩ := wsL_at (σ := σ) hv
  rw [ent_arr hf ht hn] at he
  obtain ⟨hri, hlt⟩ := ix_r hT.c hn hi
  have hz := ix_cl hi.1 hri
  refine va_last (D := wD w) (cl := clL) (tys := tyL w) (ws := wsL w σ) hx hb hT.1 hW.1 hW.2.1 hS q 3 he rfl (oI_in hi hlt) hdg (fun H1 locs1 h1 h2 h3 => ?_)
  have hset := wsL_set (σ := σ) (σ' := sA σ f o i v) (K := f) (o := o) hW.2.1 hq (fun K' o' hne => ent_sA hne)
  have hu : vp_updL (fun j : Nat => oL (gA σ f o j)) (oI i).toNatClampNeg (oL v) = fun j : Nat => oL (gA (sA σ f o i v) f o j) := by
    funext j
    rw [ofs hi.1 j _ hz]
    skip
    unfold vp_updL
    split <;> rfl
  rw [hu] at h1 h2
  have hent : ent w (sA σ f o i v) f o = arE w 3 n (gA (sA σ f o i v) f o) := ent_arr hf ht hn
  rw [hent] at hset
  change va_P _ _ ((wsL w σ).set q (wad w f o, arE w 3 n (gA (sA σ f o i v) f o))) H1 at h1
  change va_D _ ((wsL w σ).set q (wad w f o, arE w 3 n (gA (sA σ f o i v) f o))) at h2
  rw [hset] at h1 h2
  exact kk H1 locs1 ⟨h1, h2, hW.2.2.sA (by rw [ht]; exact hr)⟩ h3
theorem w_aast (X : CallFix p m c cc nL s args lw_all own) (hV : Hvl w) (hT : Tb w s) (hW : Wo w σ H) (hS : va_S (wA w) s.heap H locs) (f : Nat) {o i n v : Int} (hv : vl w f o) (hf : ¬ f < 64) (ht : aty f = 4) (hn : aln (wc w) f o = n) (hi : 0 ≤ i ∧ i < n) (hr : rK v) (hdg : decode cc pc = .ok (.aastore, 1)) (kk : ∀ (H1 : Heap) (locs1 : List Loc), Wo w (sA σ f o i v) H1 → va_S (wA w) s.heap H1 locs1 → W p l e R s m args below meth c H1 locs1 cells slots Q (F0 m (pc + 1) ls rest)) : W p l e R s m args below meth c H locs cells slots Q (F0 m pc ls (va_rf (knO w v) :: .int (oI i) :: .ref (wad w f o) :: rest)) := by
  obtain ⟨hx, hb, hml, hown, hts⟩ := X
  obtain ⟨q, hq, he⟩ := wsL_at (σ := σ) hv
  rw [ent_arr hf ht hn] at he
  obtain ⟨hri, hlt⟩ := ix_r hT.c hn hi
  have hz := ix_cl hi.1 hri
  have hset := wsL_set (σ := σ) (σ' := sA σ f o i v) (K := f) (o := o) hW.2.1 hq (fun K' o' hne => ent_sA hne)
  have hent : ent w (sA σ f o i v) f o = arE w 4 n (gA (sA σ f o i v) f o) := ent_arr hf ht hn
  rw [hent] at hset
  have fin : ∀ (H1 : Heap) (locs1 : List Loc), va_P (wD w) clL ((wsL w σ).set q (wad w f o, arE w 4 n (gA (sA σ f o i v) f o))) H1 → va_D (wA w) ((wsL w σ).set q (wad w f o, arE w 4 n (gA (sA σ f o i v) f o))) → va_S (wA w) s.heap H1 locs1 → W p l e R s m args below meth c H1 locs1 cells slots Q (F0 m (pc + 1) ls rest) := by
    intro H1 locs1 h1 h2 h3
    rw [hset] at h1 h2
    exact kk H1 locs1 ⟨h1, h2, hW.2.2.sA (by rw [ht]; exact hr)⟩ h3
  by_cases hz0 : v < 0
  · have hu : va_up (fun j : Nat => knO w (gA σ f o j)) (oI i).toNatClampNeg none = fun j : Nat => knO w (gA (sA σ f o i v) f o j) := by
      funext j
      rw [ofs hi.1 j _ hz]
      unfold va_up
      split
      · unfold knO; rw [if_pos hz0]
      · rfl
    rw [show knO w v = none by unfold knO; rw [if_pos hz0]]
    refine va_astqN (D := wD w) (cl := clL) (tys := tyL w) (ws := wsL w σ) hx hb hT.1 hW.1 hW.2.1 hS q 4 he rfl (oI_in hi hlt) hdg (fun H1 locs1 h1 h2 h3 => ?_)
    rw [hu] at h1 h2
    exact fin H1 locs1 h1 h2 h3
  · have hu : va_up (fun j : Nat => knO w (gA σ f o j)) (oI i).toNatClampNeg (some (wad w 9 v)) = fun j : Nat => knO w (gA (sA σ f o i v) f o j) := by
      funext j
      rw [ofs hi.1 j _ hz]
      unfold va_up
      split
      · unfold knO; rw [if_neg hz0]
      · rfl
    rw [show knO w v = some (wad w 9 v) by unfold knO; rw [if_neg hz0]]
    have hvk : vl w 9 v := hV.hv 9 rfl (by unfold rK at hr; show 0 ≤ v ∧ v < 640; omega)
    obtain ⟨q2, hq2, he2⟩ := wsL_at (σ := σ) hvk
    have he2 : (wsL w σ)[q2]? = some (wad w 9 v, .inr (8, fldL w σ 9 v)) := by rw [he2]; rfl
    refine va_astq (D := wD w) (cl := clL) (tys := tyL w) (ws := wsL w σ) (r := (RX9, TX9, 12)) hx hb hT.1 hW.1 hW.2.1 hS q 4 q2 8 he rfl he2 rfl (oI_in hi hlt) hdg (fun H1 locs1 h1 h2 h3 => ?_)
    rw [hu] at h1 h2
    exact fin H1 locs1 h1 h2 h3
end
