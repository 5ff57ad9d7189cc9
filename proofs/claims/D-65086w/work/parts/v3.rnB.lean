/-! House.rename: both branches -/
/-- nothing has the new name -/
theorem sp_rn0 {tv : Nat → Int} {cf : Cf} {σ : St} {S S' : List (Int × Int × Int × (Int → Int)) × Int} {W : List (Int × (List (Int × Int × Int × (Int → Int)) × Int))} {r : RT} {B : Int} {σ49 : St} {a x b q w there fs y13 : Int} {yd yt x0 : Int × Int × Int × (Int → Int)} {P1 : Int → Int} {Q : Int → St → Prop} (hc : CfOK cf) (h : HP tv cf σ S S' W r B) (hC : HC σ S) (hB : B + 49772 < 1073741000) (RP : RNp cf S.1 S.2 a x w b q yd yt x0) (aR : 1 ≤ a ∧ a < S.2) (bR : 1 ≤ b ∧ b < S.2) (x4 : (a, x, w) ∈ ens S.1) (hfs : 0 ≤ fs ∧ fs < 1024) (p1 : enF P1 b w q fs) (e13 : y13 = if a = b then (1 : Int) else 0) (g49 : GR σ49 S 96 (mput (4 * b + 2, hs q + fs, 48, P1) (mdel (ak x0) S.1), S.2)) (ok7 : okC (mput (4 * b + 2, hs q + fs, 48, P1) (mdel (ak x0) S.1), S.2) 2) (f49s : Fr (fun f o' => mHs f o' ∨ ((f = 71 ∨ f = 72) ∧ o' = 0)) σ σ49) (k49 : RK σ49)
    (v49 : gI σ49 640 0 = a ∧ gI σ49 641 0 = 1 ∧ gI σ49 642 0 = rI4 yd.2.2.2 32 ∧ gI σ49 643 0 = 0 ∧ gI σ49 644 0 = rI4 yd.2.2.2 40 + -1 ∧ gI σ49 645 0 = rI4 yd.2.2.2 44)
    (x49 : gI σ49 640 2 = b ∧ gI σ49 641 2 = 1 ∧ gI σ49 642 2 = rI4 yt.2.2.2 32 ∧ gI σ49 643 2 = 0 ∧ gI σ49 644 2 = rI4 yt.2.2.2 40 ∧ gI σ49 645 2 = rI4 yt.2.2.2 44) (lv49 : gI σ49 71 0 = cpM S.1) (th49 : gI σ49 72 0 = ((nds S.1).length : Int)) (dYd : 0 ≤ rI4 yd.2.2.2 40 ∧ rI4 yd.2.2.2 40 < 900000) (dYt : 0 ≤ rI4 yt.2.2.2 40 ∧ rI4 yt.2.2.2 40 < 900000)
    (t0 : there = 0) (hn : ∀ z, z ∈ S.1 → z.1 = 4 * b + 2 → z.2.1 ≠ hs q + fs) (hno : ∀ e, e ∈ ens S.1 → ¬ (e.1 = b ∧ e.2.1 = q))
    (hQ : ∀ τ S2 p0 S0 W0 k, rnR (gnP σ) S S2 a x w b q → TKo cf σ (rnE S a b q) S S' W p0 S0 W0 → SFo (p0 + rnE S a b q) (W0 ++ [(p0 + rnE S a b q, S2)]) k → HP tv cf τ S2 (laS S0 ((W0 ++ [(p0 + rnE S a b q, S2)]).take k)) ((W0 ++ [(p0 + rnE S a b q, S2)]).drop k) r (B + 49772) → HC τ S2 → gI τ 451 0 ≠ -1 → gI τ 452 0 = p0 + rnE S a b q → Fr mHo σ τ → RK τ → Q (if there ≤ 0 then (0 : Int) else 1) τ) :
    (y13 = 0 → ∀ σ_50, σ_50 = sI σ49 644 2 (w32 ((gI σ49 644 2) + 1)) → wp_House_rename_b331 cf tv a x b q Q there y13 σ_50) ∧ (¬ y13 = 0 → ∀ σ_51, σ_51 = sI σ49 644 0 (w32 ((gI σ49 644 0) + 1)) → wp_House_rename_b331 cf tv a x b q Q there y13 σ_51) := by
  have E0 := List.perm_cons_erase x4
  have eR : rnE S a b q = (if a = b then 144 else 192) := by
    unfold rnE; rw [cif_n (fun ⟨w2, g⟩ => hno _ g ⟨rfl, rfl⟩), Int.add_zero]
  refine ⟨fun y0 σ50 e50 => ?_, fun y0 σ51 e51 => ?_⟩
  · have ab : a ≠ b := fun e => by rw [if_pos e] at e13; omega
    rw [if_neg ab] at eR
    rw [show gI σ49 644 2 = rI4 yt.2.2.2 40 from x49.2.2.2.2.1, w32_id (by unfold rI; omega)] at e50
    have k50 : RK σ50 := by rw [e50]; exact k49.sI (f := 644) (by show rI _; unfold rI; omega)
    have f50 : Fr (fun f o' => (640 ≤ f ∧ f < 704) ∧ o' = 2) σ49 σ50 := by rw [e50]; exact (Fr.rf _ _).sI (by omega)
    have v50 : gI σ50 640 2 = b ∧ gI σ50 641 2 = 1 ∧ gI σ50 642 2 = rI4 yt.2.2.2 32 ∧ gI σ50 643 2 = 0 ∧ gI σ50 644 2 = rI4 yt.2.2.2 40 + 1 ∧ gI σ50 645 2 = rI4 yt.2.2.2 44 := by
      rw [e50]; simp only [gI_sI]; simp
      exact ⟨x49.1, x49.2.1, x49.2.2.1, x49.2.2.2.1, x49.2.2.2.2.2⟩
    clear e50
    refine sp_rnF (ea := -1) (eb := 1) (e := 96) (E := rnE S a b q) (yd := yd) (yt := yt) (R := fun M5 => rnR (gnP σ) S (M5, S.2) a x w b q) hc h hC hB aR bR e13 (Or.inl rfl) (g49.fr f50 ⟨by omega, by omega⟩) (ok7.up (by omega)) (f49s.tr (f50.mono (fun f o' q => Or.inl (In_s q.1)))) k50 ?_ (fun _ => v50) (by omega) (by rw [if_neg ab, eR]; rfl) (fun P3 P4 M5 p3 p4 e5 => ?_) (fun τ M5 p0 S0 W0 k a1 a2 a3 a4 a5 a6 a7 a8 a9 => hQ τ (M5, S.2) p0 S0 W0 k a1 a2 a3 a4 a5 a6 a7 a8 a9)
    · rw [f50.i 640 0 (by omega), f50.i 641 0 (by omega), f50.i 642 0 (by omega), f50.i 643 0 (by omega), f50.i 644 0 (by omega), f50.i 645 0 (by omega)]
      exact v49
    · obtain ⟨L1, L2, L3⟩ := rn0_law RP hfs p1 E0 hn hno p3 (by rw [if_neg ab]; exact p4) e5
      exact ⟨L1, by rw [f50.i _ _ (by omega), lv49, L2], by rw [f50.i _ _ (by omega), th49, L3.1.length_eq], rfl, Or.inl ⟨_, E0, hno, L3⟩⟩
  · have ab : a = b := Classical.byContradiction (fun e => by rw [if_neg e] at e13; exact y0 e13)
    rw [if_pos ab] at eR
    rw [show gI σ49 644 0 = rI4 yd.2.2.2 40 + -1 from v49.2.2.2.2.1, w32_id (by unfold rI; omega)] at e51
    have k51 : RK σ51 := by rw [e51]; exact k49.sI (f := 644) (by show rI _; unfold rI; omega)
    have f51 : Fr (fun f o' => (640 ≤ f ∧ f < 704) ∧ o' = 0) σ49 σ51 := by rw [e51]; exact (Fr.rf _ _).sI (by omega)
    have v51 : gI σ51 640 0 = a ∧ gI σ51 641 0 = 1 ∧ gI σ51 642 0 = rI4 yd.2.2.2 32 ∧ gI σ51 643 0 = 0 ∧ gI σ51 644 0 = rI4 yd.2.2.2 40 + 0 ∧ gI σ51 645 0 = rI4 yd.2.2.2 44 := by
      rw [e51]; simp only [gI_sI]; simp
      exact ⟨v49.1, v49.2.1, v49.2.2.1, v49.2.2.2.1, by omega, v49.2.2.2.2.2⟩
    clear e51
    refine sp_rnF (ea := 0) (eb := 1) (e := 96) (E := rnE S a b q) (yd := yd) (yt := yt) (R := fun M5 => rnR (gnP σ) S (M5, S.2) a x w b q) hc h hC hB aR bR e13 (Or.inl rfl) (g49.fr f51 ⟨by omega, by omega⟩) (ok7.up (by omega)) (f49s.tr (f51.mono (fun f o' q => Or.inl (In_s q.1)))) k51 v51 (fun ne => absurd ab ne) (by omega) (by rw [if_pos ab, eR]; rfl) (fun P3 P4 M5 p3 p4 e5 => ?_) (fun τ M5 p0 S0 W0 k a1 a2 a3 a4 a5 a6 a7 a8 a9 => hQ τ (M5, S.2) p0 S0 W0 k a1 a2 a3 a4 a5 a6 a7 a8 a9)
    obtain ⟨L1, L2, L3⟩ := rn0_law RP hfs p1 E0 hn hno p3 (by rw [if_pos ab]; exact p4) e5
    exact ⟨L1, by rw [f51.i _ _ (by omega), lv49, L2], by rw [f51.i _ _ (by omega), th49, L3.1.length_eq], rfl, Or.inl ⟨_, E0, hno, L3⟩⟩
/-- something has it -/
theorem sp_rn1 {tv : Nat → Int} {cf : Cf} {σ : St} {S S' : List (Int × Int × Int × (Int → Int)) × Int} {W : List (Int × (List (Int × Int × Int × (Int → Int)) × Int))} {r : RT} {B : Int} {σ49 σ52 : St} {a x b q w there fs y13 : Int} {yd yt x0 v o : Int × Int × Int × (Int → Int)} {P1 : Int → Int} {Q : Int → St → Prop} (hc : CfOK cf) (h : HP tv cf σ S S' W r B) (hC : HC σ S) (hB : B + 49772 < 1073741000) (RP : RNp cf S.1 S.2 a x w b q yd yt x0) (aR : 1 ≤ a ∧ a < S.2) (bR : 1 ≤ b ∧ b < S.2) (x4 : (a, x, w) ∈ ens S.1) (hfs : 0 ≤ fs ∧ fs < 1024) (p1 : enF P1 b w q fs) (e13 : y13 = if a = b then (1 : Int) else 0) (g49 : GR σ49 S 96 (mput (4 * b + 2, hs q + fs, 48, P1) (mdel (ak x0) S.1), S.2)) (ok7 : okC (mput (4 * b + 2, hs q + fs, 48, P1) (mdel (ak x0) S.1), S.2) 2) (f49s : Fr (fun f o' => mHs f o' ∨ ((f = 71 ∨ f = 72) ∧ o' = 0)) σ σ49) (k49 : RK σ49)
    (v49 : gI σ49 640 0 = a ∧ gI σ49 641 0 = 1 ∧ gI σ49 642 0 = rI4 yd.2.2.2 32 ∧ gI σ49 643 0 = 0 ∧ gI σ49 644 0 = rI4 yd.2.2.2 40 + -1 ∧ gI σ49 645 0 = rI4 yd.2.2.2 44)
    (x49 : gI σ49 640 2 = b ∧ gI σ49 641 2 = 1 ∧ gI σ49 642 2 = rI4 yt.2.2.2 32 ∧ gI σ49 643 2 = 0 ∧ gI σ49 644 2 = rI4 yt.2.2.2 40 ∧ gI σ49 645 2 = rI4 yt.2.2.2 44) (lv49 : gI σ49 71 0 = cpM S.1) (th49 : gI σ49 72 0 = ((nds S.1).length : Int)) (dYd : 0 ≤ rI4 yd.2.2.2 40 ∧ rI4 yd.2.2.2 40 < 900000) (dYt : 0 ≤ rI4 yt.2.2.2 40 ∧ rI4 yt.2.2.2 40 < 900000)
    (t0 : 0 < there) (hne : w ≠ there) (hv : v ∈ S.1) (v1 : v.1 = 4 * b + 2) (v2 : erow v = (b, q, there)) (efs : fs = rI4 v.2.2.2 40) (ho : o ∈ S.1) (o1 : o.1 = 4 * there) (io : ndI σ49 1 o) (hod : rI4 o.2.2.2 28 = 1 → cn1 there (ens S.1) = 0) (hop : ∀ w k s, (w, k, s) ∈ nds S.1 → opn σ w → k = 2) (hNU : NU σ (nds S.1) (ens S.1)) (e52 : σ52 = sI σ49 71 0 (w32 ((gI σ49 71 0) - 240)))
    (hQ : ∀ τ S2 p0 S0 W0 k, rnR (gnP σ) S S2 a x w b q → TKo cf σ (rnE S a b q) S S' W p0 S0 W0 → SFo (p0 + rnE S a b q) (W0 ++ [(p0 + rnE S a b q, S2)]) k → HP tv cf τ S2 (laS S0 ((W0 ++ [(p0 + rnE S a b q, S2)]).take k)) ((W0 ++ [(p0 + rnE S a b q, S2)]).drop k) r (B + 49772) → HC τ S2 → gI τ 451 0 ≠ -1 → gI τ 452 0 = p0 + rnE S a b q → Fr mHo σ τ → RK τ → Q (if there ≤ 0 then (0 : Int) else 1) τ) : wp_House_loses cf tv 1 0 (fun r_53 σ_54 => rZ r_53 → RK σ_54 → wp_House_rename_b331 cf tv a x b q Q there y13 σ_54) σ52 := by
  have wf := h.wf
  have wr := wf.wr
  have n1 := h.nx
  have cp := wf.2.2.2.2.2.2.2.2.2.2.1
  have cl := capa_le hc
  have c0 := cpM_0 hc wf
  have lim := (wf.x.ft hc).2.2
  subst efs
  have dirk : ∀ {t k s : Int}, (t, k, s) ∈ nds S.1 → (t, 1, 0) ∈ nds S.1 → k = 1 := fun {t k s} h q => by
    have := wr.u h q rfl
    rw [Prod.mk.injEq, Prod.mk.injEq] at this
    exact this.2.1
  have mv : (b, q, there) ∈ ens S.1 := ens_mem.mpr ⟨v, hv, by omega, v2⟩
  have E0 : (ens S.1).Perm ((a, x, w) :: (b, q, there) :: ((ens S.1).erase (a, x, w)).erase (b, q, there)) := (List.perm_cons_erase x4).trans ((List.perm_cons_erase ((List.mem_erase_of_ne (fun g => hne (by rw [Prod.mk.injEq, Prod.mk.injEq] at g; exact g.2.2.symm))).mpr mv)).cons _)
  generalize ((ens S.1).erase (a, x, w)).erase (b, q, there) = E1 at *
  have eR : rnE S a b q = (if a = b then 144 else 192) + 48 := by unfold rnE; rw [cif_y ⟨there, mv⟩]
  have oN := nd_put (M := S.1) (nx := S.2) wf ho o1
  obtain ⟨⟨tR1, tR2⟩, on1, on2, ok1', os1, ⟨oc1, oc2, oc3⟩, ⟨-, ocl, oca⟩, -⟩ := oN
  have ent : 240 ≤ cpM S.1 := by
    have a1 : cpM S.1 = szR (nds S.1) (ens S.1) (ats S.1) (pcs S.1) := wf.szr
    have b1 := (wf.x.fit hc).2.1
    have c1 := E0.length_eq
    rw [List.length_cons, List.length_cons] at c1
    unfold szR at a1
    omega
  rw [lv49, w32_id (by unfold rI; omega)] at e52
  have k52 : RK σ52 := by rw [e52]; exact k49.sI (f := 71) (by show rI _; unfold rI; omega)
  have f52 : Fr (fun f o' => f = 71 ∧ o' = 0) σ49 σ52 := by rw [e52]; exact (Fr.rf _ _).sI ⟨rfl, rfl⟩
  have lv52 : gI σ52 71 0 = cpM S.1 - 240 := by rw [e52, gI_sI1]
  clear e52
  have F52 : Fr (fun f o' => mHs f o' ∨ ((f = 71 ∨ f = 72) ∧ o' = 0)) σ σ52 := f49s.tr (f52.mono (fun f o' q => Or.inr ⟨Or.inl q.1, q.2⟩))
  have H52 := h.frH F52 (fun f o' q => by
    rcases q with q | q
    · exact q.1
    · unfold mHR; omega) k52
  have io2 : ndI σ52 1 o := io.fr f52 (fun g p q z => by have := z.1; omega)
  obtain ⟨u1, u2, u3, u4, u5, u6⟩ := io2
  have h70 : gA σ52 70 0 = gA σ 70 0 := F52.a _ _ (fun z => by
    rcases z with z | z
    · exact z.2 (by unfold hK; omega)
    · omega)
  have op : opn σ52 there ↔ opn σ there := by unfold opn; rw [h70]
  have cw := cn3_le (a := there) (R := E1)
  have lenE := E0.length_eq
  rw [List.length_cons, List.length_cons] at lenE
  have lk1 : rI4 o.2.2.2 28 ≠ 1 → rI4 o.2.2.2 32 = cn3 there E1 + 1 := fun z => by
    have := ocl z
    rw [perm_cn3 E0, cn3_o (show ((a, x, w) : Int × Int × Int).2.2 ≠ there from hne), cn3_i (show ((b, q, there) : Int × Int × Int).2.2 = there from rfl)] at this
    omega
  have one3 : rI4 o.2.2.2 28 ≠ 2 → cn3 there E1 = 0 := fun z => by
    have t1 : there ≠ 1 := (wr.2.2.1 _ mv).2.2
    have := wr.2.2.2.2.2.2.1 _ on2 z t1 id
    have this : cn3 there (ens S.1) = 1 := this
    rw [perm_cn3 E0, cn3_o (show ((a, x, w) : Int × Int × Int).2.2 ≠ there from hne), cn3_i (show ((b, q, there) : Int × Int × Int).2.2 = there from rfl)] at this
    omega
  have gq : (rI4 o.2.2.2 28 = 1 ∨ (w32 (rI4 o.2.2.2 32 - 1) = 0 ∧ ¬ opn σ52 there)) ↔ gnP σ there (rI4 o.2.2.2 28) E1 := by
    unfold gnP
    by_cases z : rI4 o.2.2.2 28 = 1
    · exact ⟨fun _ => Or.inl z, fun _ => Or.inl z⟩
    · rw [lk1 z, w32_id (by unfold rI; omega), op]
      exact ⟨fun g => Or.inr ⟨by have := (g.resolve_left z).1; omega, (g.resolve_left z).2⟩, fun g => Or.inr ⟨by have := (g.resolve_left z).1; omega, (g.resolve_left z).2⟩⟩
  have eq48 : ∀ e : Int, e = 144 → e + (if a = b then 48 else 96) = rnE S a b q := fun e ee => by
    rw [eR, ee]; split <;> rfl
  have mls : ∀ f o', mLs f o' → (mHs f o' ∨ ((f = 71 ∨ f = 72) ∧ o' = 0)) := fun f o' z => by
    rcases z with z | z | z | z
    · exact Or.inl (In_s z.1)
    · exact Or.inl (R6_s z)
    · exact Or.inl (Is_s z)
    · exact Or.inr z
  have va52 : ∀ τ', Fr mLs σ52 τ' → (gI τ' 640 0 = a ∧ gI τ' 641 0 = 1 ∧ gI τ' 642 0 = rI4 yd.2.2.2 32 ∧ gI τ' 643 0 = 0 ∧ gI τ' 644 0 = rI4 yd.2.2.2 40 + -1 ∧ gI τ' 645 0 = rI4 yd.2.2.2 44) ∧ (gI τ' 640 2 = b ∧ gI τ' 641 2 = 1 ∧ gI τ' 642 2 = rI4 yt.2.2.2 32 ∧ gI τ' 643 2 = 0 ∧ gI τ' 644 2 = rI4 yt.2.2.2 40 + 0 ∧ gI τ' 645 2 = rI4 yt.2.2.2 44) := fun τ' fL => by
    have g0 : ∀ g (i : Int), (640 ≤ g ∧ g ≤ 645) → (i = 0 ∨ i = 2) → gI τ' g i = gI σ49 g i := fun g i hg hi => (fL.i _ _ (by unfold mLs mRow mIs; omega)).trans (f52.i _ _ (by omega))
    rw [g0 640 0 (by omega) (by omega), g0 641 0 (by omega) (by omega), g0 642 0 (by omega) (by omega), g0 643 0 (by omega) (by omega), g0 644 0 (by omega) (by omega), g0 645 0 (by omega) (by omega), g0 640 2 (by omega) (by omega), g0 641 2 (by omega) (by omega), g0 642 2 (by omega) (by omega), g0 643 2 (by omega) (by omega), g0 644 2 (by omega) (by omega), g0 645 2 (by omega) (by omega), Int.add_zero]
    exact ⟨v49, x49⟩
  refine sp_Hloses (e := 96) (w := there) (kd := rI4 o.2.2.2 28) (lk := rI4 o.2.2.2 32) (sz := rI4 o.2.2.2 36) (en := rI4 o.2.2.2 40) (at' := rI4 o.2.2.2 44) (A := cpM S.1 - 240) (T := ((nds S.1).length : Int)) hc H52 k52 (g49.fr f52 ⟨by omega, by omega⟩) (by omega) (ok7.up (by omega)) rfl ⟨tR1, tR2⟩ ok1' (u1.trans (by omega)) u2 u3 u4 u5 u6 lv52 (by omega) (by rw [f52.i _ _ (by omega)]; exact th49) (by omega) (fun hg τ8 g8 lv8 th8 f8 k8 => ?_) (fun hg τ8 P2 p2 g8 lv8 th8 f8 k8 => ?_)
  · obtain ⟨va, vb⟩ := va52 τ8 f8
    refine sp_rnF (ea := -1) (eb := 0) (e := 144) (E := rnE S a b q) (yd := yd) (yt := yt) (R := fun M5 => rnR (gnP σ) S (M5, S.2) a x w b q) hc h hC hB aR bR e13 (Or.inr rfl) g8 ((ok7.forget (x := there)).up (by omega)) (F52.tr (f8.mono mls)) k8 va (fun _ => vb) (by omega) (eq48 144 rfl) (fun P3 P4 M5 p3 p4 e5 => ?_) (fun τ M5 p0 S0 W0 k a1 a2 a3 a4 a5 a6 a7 a8 a9 => hQ τ (M5, S.2) p0 S0 W0 k a1 a2 a3 a4 a5 a6 a7 a8 a9)
    have c3E : cn3 there E1 = 0 := by
      rcases gq.mp hg with z | z
      · exact one3 (by omega)
      · exact z.1
    have cE : cn1 there (ens S.1) = 0 := by
      by_cases z : rI4 o.2.2.2 28 = 1
      · exact hod z
      · refine cn1_z.mpr (fun e he ee => z ?_)
        have ad := (wr.2.2.1 e he).1
        rw [ee] at ad
        exact dirk on2 ad
    obtain ⟨L1, L2, L3⟩ := rn1_law RP hv v1 v2 hne ho o1 cE c3E p1 E0 p3 p4 e5
    have rm1 := cpM_fl (p := fun y => decide (ofT there y)) (M := S.1) (IOK.sz wf.iok)
    have rm0 := cpM_nn (M := S.1.filter (fun y => decide (ofT there y))) (fun v hv => IOK.sz wf.iok v (List.mem_filter.mp hv).1)
    have c := (nd_fl wr.1.2 on2).length_eq
    rw [List.length_cons] at c
    refine ⟨L1, by rw [lv8, L2, w32_id (by unfold rI; omega)], by rw [th8, L3.1.length_eq]; omega, rfl, Or.inr ⟨there, _, _, E1, E0, hne, on2, fun g => absurd (gq.mp hg) g, fun _ => L3⟩⟩
  · obtain ⟨va, vb⟩ := va52 τ8 f8
    have ng : ¬ gnP σ there (rI4 o.2.2.2 28) E1 := fun g => hg (gq.mpr g)
    have k2 : rI4 o.2.2.2 28 = 2 := Classical.byContradiction (fun z => ng (by
      by_cases z1 : rI4 o.2.2.2 28 = 1
      · exact Or.inl z1
      · exact Or.inr ⟨one3 z, fun g => z (hop _ _ _ on2 g)⟩))
    refine sp_rnF (ea := -1) (eb := 0) (e := 144) (E := rnE S a b q) (yd := yd) (yt := yt) (R := fun M5 => rnR (gnP σ) S (M5, S.2) a x w b q) hc h hC hB aR bR e13 (Or.inr rfl) g8 ((ok7.put (fun _ => rfl)).up (by omega)) (F52.tr (f8.mono mls)) k8 va (fun _ => vb) (by omega) (eq48 144 rfl) (fun P3 P4 M5 p3 p4 e5 => ?_) (fun τ M5 p0 S0 W0 k a1 a2 a3 a4 a5 a6 a7 a8 a9 => hQ τ (M5, S.2) p0 S0 W0 k a1 a2 a3 a4 a5 a6 a7 a8 a9)
    have nu : NU σ (nds S.1) ((b, q, w) :: E1) := fun n hn g2 g3 => by
      by_cases z : n.1 = there
      · refine Classical.byContradiction (fun z2 => ng (Or.inr ⟨?_, by rw [← z]; exact z2⟩))
        rw [z, cn3_o (show ((b, q, w) : Int × Int × Int).2.2 ≠ there from hne)] at g3
        exact g3
      · refine hNU n hn g2 ?_
        rw [perm_cn3 E0, cn3_cons, cn3_o (show ((b, q, there) : Int × Int × Int).2.2 ≠ n.1 from fun e => z e.symm)]
        rw [cn3_cons] at g3
        exact g3
    rw [k2, lk1 (by omega), w32_id (by unfold rI; omega)] at p2
    obtain ⟨L1, L2, L3⟩ := rn2_law RP hv v1 v2 hne ho o1 k2 p1 (by rw [lk1 (by omega)]; exact p2) E0 p3 p4 (nlc_hd wr.1.2 nu) e5
    refine ⟨L1, by rw [lv8, L2], by rw [th8, L3.1.length_eq], rfl, Or.inr ⟨there, _, _, E1, E0, hne, on2, fun _ => L3, fun g => absurd g ng⟩⟩
