/-! on: what is nameless goes -/
def lfgs (xs : List Int) (L : List (Int × Int × Int × Int × Int × Int)) : List (Int × Int × Int × Int × Int × Int) := xs.foldl (fun L x => lforget x L) L
def mfgs (xs : List Int) (M : List (Int × Int × Int × (Int → Int))) : List (Int × Int × Int × (Int → Int)) := xs.foldl (fun M x => mforget x M) M
theorem AM_fgs (db : Int → Int → Int) : ∀ (xs : List Int) (L : List (Int × Int × Int × Int × Int × Int)), AM db (lfgs xs L) = mfgs xs (AM db L)
  | [], _ => rfl
  | x :: xs, L => by
    show AM db (lfgs xs (lforget x L)) = mfgs xs (mforget x (AM db L))
    rw [AM_fgs db xs, AM_forget]
theorem lfgs_app (xs ys : List Int) (L : List (Int × Int × Int × Int × Int × Int)) : lfgs (xs ++ ys) L = lfgs ys (lfgs xs L) := by
  unfold lfgs
  rw [List.foldl_append]
theorem ldel_mem {κ : Int} {L : List (Int × Int × Int × Int × Int × Int)} {x : Int × Int × Int × Int × Int × Int} (h : x ∈ ldel κ L) : x ∈ L := by unfold ldel at h; exact (List.mem_filter.mp h).1
theorem lforget_mem {x : Int} {L : List (Int × Int × Int × Int × Int × Int)} {e : Int × Int × Int × Int × Int × Int} (h : e ∈ lforget x L) : e ∈ L := by
  unfold lforget at h
  exact lcut_mem (lcut_mem (ldel_mem h))
theorem lfgs_mem {e : Int × Int × Int × Int × Int × Int} : ∀ {xs : List Int} {L : List (Int × Int × Int × Int × Int × Int)}, e ∈ lfgs xs L → e ∈ L
  | [], _, h => h
  | x :: xs, L, h => lforget_mem (lfgs_mem (xs := xs) (L := lforget x L) h)
theorem ldel_len (κ : Int) (L : List (Int × Int × Int × Int × Int × Int)) : (ldel κ L).length ≤ L.length := by unfold ldel; exact List.length_filter_le _ _
theorem lforget_len (x : Int) (L : List (Int × Int × Int × Int × Int × Int)) : (lforget x L).length ≤ L.length := by
  unfold lforget
  exact Nat.le_trans (ldel_len _ _) (Nat.le_trans (lcut_len _ _ _) (lcut_len _ _ _))
theorem lfgs_len : ∀ (xs : List Int) (L : List (Int × Int × Int × Int × Int × Int)), (lfgs xs L).length ≤ L.length
  | [], _ => Nat.le_refl _
  | x :: xs, L => Nat.le_trans (lfgs_len xs (lforget x L)) (lforget_len x L)
theorem lcut_S {cf : Cf} {L : List (Int × Int × Int × Int × Int × Int)} (h : szOK cf L) (x y m : Int) : lS (lcut x y L) m ≤ lS L m ∧ szOK cf (lcut x y L) := by
  unfold lcut
  exact ⟨lS_fl h m, h.fl⟩
theorem ldel_S {cf : Cf} {L : List (Int × Int × Int × Int × Int × Int)} (h : szOK cf L) (x m : Int) : lS (ldel x L) m ≤ lS L m ∧ szOK cf (ldel x L) := by
  unfold ldel
  exact ⟨lS_fl h m, h.fl⟩
theorem lforget_S {cf : Cf} {x : Int} {L : List (Int × Int × Int × Int × Int × Int)} (h : szOK cf L) (m : Int) : lS (lforget x L) m ≤ lS L m ∧ szOK cf (lforget x L) := by
  unfold lforget
  have a := lcut_S h (4 * x + 1) 0 m
  have b := lcut_S a.2 (4 * x + 3) 0 m
  have c := ldel_S b.2 (kap (4 * x) 0) m
  exact ⟨Int.le_trans c.1 (Int.le_trans b.1 a.1), c.2⟩
theorem lfgs_S {cf : Cf} : ∀ {xs : List Int} {L : List (Int × Int × Int × Int × Int × Int)}, szOK cf L → ∀ m, lS (lfgs xs L) m ≤ lS L m
  | [], _, _, _ => Int.le_refl _
  | x :: xs, L, h, m => Int.le_trans (lfgs_S (xs := xs) (lforget_S (x := x) h m).2 m) (lforget_S h m).1
theorem mcut_mem {a b : Int} {M : List (Int × Int × Int × (Int → Int))} {y : Int × Int × Int × (Int → Int)} (h : y ∈ mcut a b M) : y ∈ M := by unfold mcut at h; exact (List.mem_filter.mp h).1
theorem mdel_mem {κ : Int} {M : List (Int × Int × Int × (Int → Int))} {y : Int × Int × Int × (Int → Int)} : y ∈ mdel κ M ↔ y ∈ M ∧ ak y ≠ κ := by
  unfold mdel
  rw [List.mem_filter, decide_eq_true_iff]
theorem mforget_mem {x : Int} {M : List (Int × Int × Int × (Int → Int))} {y : Int × Int × Int × (Int → Int)} (h : y ∈ mforget x M) : y ∈ M ∧ ak y ≠ kap (4 * x) 0 := by
  unfold mforget at h
  have a := mdel_mem.mp h
  exact ⟨mcut_mem (mcut_mem a.1), a.2⟩
theorem mfgs_mem {y : Int × Int × Int × (Int → Int)} : ∀ {xs : List Int} {M : List (Int × Int × Int × (Int → Int))}, y ∈ mfgs xs M → y ∈ M ∧ ∀ x, x ∈ xs → ak y ≠ kap (4 * x) 0
  | [], _, h => ⟨h, fun x hx => absurd hx List.not_mem_nil⟩
  | x :: xs, M, h => by
    have a := mfgs_mem (xs := xs) (M := mforget x M) h
    have b := mforget_mem a.1
    refine ⟨b.1, fun z hz => ?_⟩
    rcases List.mem_cons.mp hz with w | w
    · rw [w]; exact b.2
    · exact a.2 z w
theorem mfgs_nl {xs : List Int} {M : List (Int × Int × Int × (Int → Int))} (h0 : ino0 M) (hx : ∀ x, x ∈ nlL M → x ∈ xs) : nlL (mfgs xs M) = [] := by
  rw [List.eq_nil_iff_forall_not_mem]
  intro x hm
  obtain ⟨y, y1, y2⟩ := List.mem_map.mp hm
  have y3 := fl_mem.mp y1
  have y4 := mfgs_mem y3.1
  have y5 : y.1 = 4 * x := by have := y3.2.1; omega
  refine y4.2 x (hx x (List.mem_map.mpr ⟨y, fl_mem.mpr ⟨y4.1, y3.2⟩, y2⟩)) ?_
  show kap y.1 y.2.1 = _
  rw [y5, h0 y y4.1 y3.2.1]
theorem cpM_fl {p : Int × Int × Int × (Int → Int) → Bool} : ∀ {M : List (Int × Int × Int × (Int → Int))}, (∀ x, x ∈ M → 0 ≤ x.2.2.1) → cpM (M.filter p) ≤ cpM M
  | [], _ => Int.le_refl _
  | x :: M, h => by
    have a := cpM_fl (p := p) (M := M) (fun y hy => h y (List.mem_cons_of_mem _ hy))
    have b := h x List.mem_cons_self
    have c : cpM (x :: M) = (x.2.2.1 + 192) + cpM M := by
      unfold cpM; rw [List.map_cons, List.sum_cons]
    rw [c, List.filter_cons]
    split
    · have d : cpM (x :: M.filter p) = (x.2.2.1 + 192) + cpM (M.filter p) := by
        unfold cpM; rw [List.map_cons, List.sum_cons]
      rw [d]; omega
    · omega
theorem cpM_cut {a b : Int} {M : List (Int × Int × Int × (Int → Int))} (h : ∀ x, x ∈ M → 0 ≤ x.2.2.1) : cpM (mcut a b M) ≤ cpM M := by unfold mcut; exact cpM_fl h
theorem cpM_del {κ : Int} {M : List (Int × Int × Int × (Int → Int))} (h : ∀ x, x ∈ M → 0 ≤ x.2.2.1) : cpM (mdel κ M) ≤ cpM M := by unfold mdel; exact cpM_fl h
theorem cpM_forget {x : Int} {M : List (Int × Int × Int × (Int → Int))} (h : ∀ x, x ∈ M → 0 ≤ x.2.2.1) : cpM (mforget x M) ≤ cpM M := by
  unfold mforget
  have a := cpM_cut (a := 4 * x + 1) (b := 0) h
  have h1 : ∀ y, y ∈ mcut (4 * x + 1) 0 M → 0 ≤ y.2.2.1 := fun y hy => h y (mcut_mem hy)
  have b := cpM_cut (a := 4 * x + 3) (b := 0) h1
  have h2 : ∀ y, y ∈ mcut (4 * x + 3) 0 (mcut (4 * x + 1) 0 M) → 0 ≤ y.2.2.1 := fun y hy => h1 y (mcut_mem hy)
  exact Int.le_trans (cpM_del h2) (Int.le_trans b a)
theorem cpM_fgs : ∀ {xs : List Int} {M : List (Int × Int × Int × (Int → Int))}, (∀ x, x ∈ M → 0 ≤ x.2.2.1) → cpM (mfgs xs M) ≤ cpM M
  | [], _, _ => Int.le_refl _
  | x :: xs, M, h => Int.le_trans (cpM_fgs (xs := xs) (M := mforget x M) (fun y hy => h y (mforget_mem hy).1)) (cpM_forget h)
/-- the loop of on() -/
theorem sp_fgs {tv : Nat → Int} {cf : Cf} {σ : St} {L : List (Int × Int × Int × Int × Int × Int)} {n : Int} {Q : Int → St → Prop} (hrk : RK σ) (hI : XI cf σ 0 L) (hlen : L.length ≤ 890) (hn : gI σ 218 0 = n) (h0 : 0 ≤ n ∧ n ≤ 16)
    (hQ : ∀ τ, XI cf τ 0 (lfgs (orL σ 0) L) → XR cf σ τ 0 L (lfgs (orL σ 0) L) → RK τ → (∀ υ, υ = sI τ 218 0 0 → wp_Store_settle cf tv 0 (fun σ_27 => RK σ_27 → wp_House_count cf tv (fun σ_29 => RK σ_29 → Q n σ_29) σ_27) υ)) : lQ2 (wp_House_on_L31 cf tv Q) n 0 σ := by
  refine lQ2_rule (fun a y τ => a = n ∧ (0 ≤ y ∧ y ≤ n) ∧ RK τ ∧ XI cf τ 0 (lfgs (cat1 (gA σ 217 0) y.toNat) L) ∧ XR cf σ τ 0 L (lfgs (cat1 (gA σ 217 0) y.toNat) L)) (fun _ y _ => (n - y).toNat) ?_ n 0 σ ⟨rfl, by omega, hrk, hI, XR.is (Fr.rf _ _)⟩
  intro K a y τ hIv hK
  obtain ⟨ea, hy, rk, i, r⟩ := hIv
  subst ea
  unfold wp_House_on_L31
  refine ⟨fun q => ?_, fun q => ⟨by omega, ?_⟩⟩
  · have e : y = a := by omega
    have eo : orL σ 0 = cat1 (gA σ 217 0) y.toNat := by unfold orL; rw [hn, e]
    rw [← eo] at i r
    exact hQ τ i r rk
  · have oe : gA τ 217 0 = gA σ 217 0 := r.2.2.a _ _ (fun q => by unfold mIx at q; omega)
    rw [oe]
    have ll := lfgs_len (cat1 (gA σ 217 0) y.toNat) L
    refine sp_forget rk (by rw [← oe]; exact rk.ai _ _ _ (by decide)) i (by omega) (fun υ i2 r2 k2 y2 e2 => ?_)
    rw [w32_id (by unfold rI; omega)] at e2
    subst e2
    have ec : lfgs (cat1 (gA σ 217 0) (y + 1).toNat) L = lforget (gA σ 217 0 y) (lfgs (cat1 (gA σ 217 0) y.toNat) L) := by
      rw [show (y + 1).toNat = y.toNat + 1 by omega, cat1_S, lfgs_app]
      show lforget (gA σ 217 0 (y.toNat : Int)) _ = _
      rw [show ((y.toNat : Nat) : Int) = y by omega]
    exact hK a (y + 1) υ ⟨rfl, by omega, k2, by rw [ec]; exact i2, by rw [ec]; exact r.tr r2⟩ (by omega)
/-- numbers of which nothing counts are dropped -/
def mSe (f : Nat) (o' : Int) : Prop := mMv 0 f o' ∨ (f = 323 ∧ o' = 0)
theorem sp_settleL {tv : Nat → Int} {cf : Cf} {σ : St} {dk : Int → Int} {db : Int → Int → Int} {Sp : Int → Int → (Int → Int → Int) → Prop} {B : Int} {Q : St → Prop} (hc : CfOK cf) (hrk : RK σ) (hD : DJ tv cf σ 0 dk db Sp B) (hSp : ∀ m, 4 + cf.2.2 ≤ m → m < cf.1 - 6 → ∀ w, 0 ≤ w → w ≤ dk m → Sp m w (pgs db m)) (hB : B + 348 < 1073741000)
    (hQ : ∀ τ dk', DJ tv cf τ 0 dk' db Sp (B + 348) → (∀ m, dk' m = if (4 + cf.2.2 ≤ m ∧ m < cf.1 - 6) ∧ gA σ 324 0 m ≤ 0 then -1 else dk m) → (∀ m, gA τ 323 0 m = if 4 + cf.2.2 ≤ m ∧ m < cf.1 - 6 then (if gA σ 324 0 m ≤ 0 then 0 else 1) else gA σ 323 0 m) → Fr mSe σ τ → RK τ → ∀ σ11, σ11 = sI τ 211 0 0 → ∀ σ12, σ12 = sI σ11 202 0 (w64 (gI σ11 202 0 + 1000)) → wp_Store_commitAll cf tv 0 (fun σ14 => RK σ14 → Q σ14) σ12) : wp_Store_settle cf tv 0 Q σ := by
  have hR : 0 ≤ cf.2.2 ∧ cf.2.2 ≤ 4 := hc.2.2
  have hBl : 24 ≤ cf.1 ∧ cf.1 ≤ 64 := hc.1
  unfold wp_Store_settle
  intro y0 e0
  refine lQ1_rule (fun y τ => (4 + cf.2.2 ≤ y ∧ y ≤ cf.1 - 6) ∧ RK τ ∧ Fr mSe σ τ ∧ (∀ m, gA τ 323 0 m = if 4 + cf.2.2 ≤ m ∧ m < y then (if gA σ 324 0 m ≤ 0 then 0 else 1) else gA σ 323 0 m) ∧ ∃ dk', DJ tv cf τ 0 dk' db Sp (B + 6 * (y - (4 + cf.2.2))) ∧ ∀ m, dk' m = if (4 + cf.2.2 ≤ m ∧ m < y) ∧ gA σ 324 0 m ≤ 0 then -1 else dk m) (fun y _ => (cf.1 - y).toNat) ?_ y0 σ ⟨by omega, hrk, Fr.rf _ _, fun m => by rw [if_neg (by omega)], dk, by rw [e0, show B + 6 * (4 + cf.2.2 - (4 + cf.2.2)) = B by omega]; exact hD, fun m => by rw [if_neg (by omega)]⟩
  intro K y τ hI hK
  obtain ⟨hy, rk, fr, us, dk', D, hdk⟩ := hI
  have lv : gA τ 324 0 = gA σ 324 0 := fr.a _ _ (fun q => by unfold mSe mMv at q; omega)
  unfold wp_Store_settle_L8
  refine ⟨fun q => ?_, fun q => ⟨by omega, by omega, fun σ15 e15 => ⟨by omega, ?_⟩⟩⟩
  · have ye : y = cf.1 - 6 := by omega
    rw [ye] at us hdk
    exact hQ τ dk' (D.le (by omega) hB) hdk us fr rk
  · have v : gA σ15 323 0 y = if gA τ 324 0 y ≤ 0 then 0 else 1 := by rw [e15, sA_eq]
    have us15 : ∀ m, gA σ15 323 0 m = if 4 + cf.2.2 ≤ m ∧ m < y + 1 then (if gA σ 324 0 m ≤ 0 then 0 else 1) else gA σ 323 0 m := fun m => by
      by_cases e : m = y
      · rw [e, v, lv, if_pos (show 4 + cf.2.2 ≤ y ∧ y < y + 1 by omega)]
      · rw [e15, sA_if, if_neg e, us m]
        by_cases w : 4 + cf.2.2 ≤ m ∧ m < y
        · rw [if_pos w, if_pos (show 4 + cf.2.2 ≤ m ∧ m < y + 1 by omega)]
        · rw [if_neg w, if_neg (show ¬ (4 + cf.2.2 ≤ m ∧ m < y + 1) by omega)]
    have f15 : Fr mSe τ σ15 := by rw [e15]; exact (Fr.rf _ _).sA (Or.inr ⟨rfl, rfl⟩)
    have k15 : RK σ15 := by
      rw [e15]
      refine rk.sA (f := 323) (show rI _ from ?_)
      split
      · unfold rI; omega
      · unfold rI; omega
    have D15 : DJ tv cf σ15 0 dk' db Sp (B + 6 * (y - (4 + cf.2.2))) := by
      rw [e15]
      exact D.fr (M := fun f o' => f = 323 ∧ o' = 0) ((Fr.rf _ _).sA ⟨rfl, rfl⟩) (fun f o' a q => by unfold rBI at a; omega)
    refine ⟨fun z => ?_, fun z => ?_⟩
    · rw [v, lv] at z
      have nl : ¬ gA σ 324 0 y ≤ 0 := fun w => z (by rw [if_pos w])
      unfold wp_Store_settle_b65
      intro y2 e2
      rw [w32_id (by unfold rI; omega)] at e2
      subst e2
      refine hK (y + 1) σ15 ⟨by omega, k15, fr.tr f15, us15, dk', D15.le (by omega) (by omega), fun m => ?_⟩ (by omega)
      rw [hdk m]
      by_cases w : (4 + cf.2.2 ≤ m ∧ m < y) ∧ gA σ 324 0 m ≤ 0
      · rw [if_pos w, if_pos (show (4 + cf.2.2 ≤ m ∧ m < y + 1) ∧ _ from ⟨by omega, w.2⟩)]
      · rw [if_neg w, if_neg]
        intro u
        by_cases e : m = y
        · rw [e] at u; exact nl u.2
        · exact w ⟨by omega, u.2⟩
    · rw [v, lv] at z
      have nl : gA σ 324 0 y ≤ 0 := by
        apply Classical.byContradiction
        intro w
        rw [if_neg w] at z
        omega
      have dy : dk' y = dk y := by rw [hdk, if_neg (by omega)]
      refine sp_jdrop hc k15 D15 (by omega) (by omega) (fun w w0 w1 => hSp y (by omega) (by omega) w w0 (by omega)) (by omega) (fun υ D2 _ f2 k2 _ => ?_)
      unfold wp_Store_settle_b65
      intro y2 e2
      rw [w32_id (by unfold rI; omega)] at e2
      subst e2
      refine hK (y + 1) υ ⟨by omega, k2, (fr.tr f15).tr (f2.mono (fun f o' q => Or.inl q)), fun m => ?_, _, D2.le (by omega) (by omega), fun m => ?_⟩ (by omega)
      · rw [f2.a 323 0 (fun q => by unfold mMv at q; omega)]; exact us15 m
      · show upF dk' y (-1) m = _
        unfold upF
        by_cases e : m = y
        · rw [if_pos e, e, if_pos (show (4 + cf.2.2 ≤ y ∧ y < y + 1) ∧ _ from ⟨by omega, nl⟩)]
        · rw [if_neg e, hdk m]
          by_cases w : (4 + cf.2.2 ≤ m ∧ m < y) ∧ gA σ 324 0 m ≤ 0
          · rw [if_pos w, if_pos (show (4 + cf.2.2 ≤ m ∧ m < y + 1) ∧ _ from ⟨by omega, w.2⟩)]
          · rw [if_neg w, if_neg (fun u => w ⟨by omega, u.2⟩)]
