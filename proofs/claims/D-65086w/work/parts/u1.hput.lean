/-! House.put -/
theorem Rpc_s {f : Nat} {o' : Int} (h : mRpc f o') : mHs f o' := by
  rcases h with h | h
  · exact ⟨mRpc_h (Or.inl h), (by unfold mR0 mRd2 mPg mRow mIs at h; unfold hK; omega)⟩
  · exact ⟨mRpc_h (Or.inr h), by unfold hK; omega⟩
theorem sp_Ppc {tv : Nat → Int} {cf : Cf} {σ : St} {S S' : List (Int × Int × Int × (Int → Int)) × Int} {W : List (Int × (List (Int × Int × Int × (Int → Int)) × Int))} {r : RT} {B : Int} {x k : Int} {Q : Int → St → Prop} (hc : CfOK cf) (h : HP tv cf σ S S' W r B) (hx : rI x) (hk : rI k)
    (hQ : ∀ τ l b P0, pcI S.1 x k l b P0 → (0 ≤ l ∧ l ≤ 64) → (∀ i, 0 ≤ i → i < 64 → gA τ 77 0 i = b i) → (∀ i, ¬ (0 ≤ i ∧ i < l) → b i = 0) → HP tv cf τ S S' W r B → Fr mRpc σ τ → RK τ → Q l τ) : wp_House_piece cf tv x k Q σ := by
  have H := h
  obtain ⟨dk, db, L, p, ⟨a, b⟩, w, -⟩ := h
  refine sp_Hpiece hc p.rd hx hk (fun y hy => (w.1.2 y (by rw [← a]; exact hy)).2.2.2.1) (fun τ q1 q2 f rk => ?_) (fun τ y y1 y2 y3 y4 f rk => ?_)
  · rw [a] at q1
    exact hQ τ 0 (fun _ => 0) (pcs S.1) (Or.inr ⟨rfl, rfl, rfl, q1⟩) (by omega) q2 (fun _ _ => rfl) (H.frH f (fun f o' => mRpc_h) rk) f rk
  · rw [a] at y1
    have o := (w.iok y y1).2.2.2.1 (by omega)
    have e : prow y = (x, k, plen y, fun i => if 0 ≤ i ∧ i < 64 then y.2.2.2 (32 + i) else 0) := by
      unfold prow; rw [y3, show y.1 / 4 = x by omega]
    have mem : prow y ∈ pcs S.1 := List.mem_map.mpr ⟨y, List.mem_filter.mpr ⟨y1, decide_eq_true (by omega)⟩, rfl⟩
    obtain ⟨u, v, uv⟩ := List.append_of_mem mem
    refine hQ τ (plen y) _ (u ++ v) (Or.inl ⟨y, y1, y2, y3, e, by rw [← e, uv]; exact List.perm_middle⟩) (by omega) (fun i i0 i1 => by
      show _ = if 0 ≤ i ∧ i < 64 then y.2.2.2 (32 + i) else 0
      rw [if_pos ⟨i0, i1⟩]; exact y4 i i0 i1) (fun i hi => ?_) (H.frH f (fun f o' => mRpc_h) rk) f rk
    show (if 0 ≤ i ∧ i < 64 then y.2.2.2 (32 + i) else 0) = 0
    by_cases q : 0 ≤ i ∧ i < 64
    · rw [if_pos q]; exact o.2.2.2.2.2 i (by omega)
    · rw [if_neg q]
theorem sp_item {tv : Nat → Int} {cf : Cf} {σ : St} {l : Int} {Q : Int → St → Prop} (hl : 0 ≤ l ∧ l ≤ 64) (hrk : RK σ) (hQ : Q (szp l) σ) : wp_House_itemOf cf tv l Q σ := by
  unfold wp_House_itemOf wp_House_eights
  unfold szp at hQ
  refine ⟨fun q => ?_, fun q => by rw [if_pos q] at hQ; exact hQ⟩
  rw [if_neg q] at hQ
  intro _ _
  rw [iand_m8 (by omega) (by omega), w32_id (x := 32 + _) (by unfold rI; omega), w32_id (by unfold rI; omega), show 32 + (l + 7) / 8 * 8 + 192 = 224 + (l + 7) / 8 * 8 by omega]
  exact hQ
/-- bytes of a piece when m bytes, from d on, are put at f -/
def nwB (f m d : Int) (by' b : Int → Int) : Int → Int := fun i => if f ≤ i ∧ i < f + m then by' (d + (i - f)) else b i
/-- a part is written: m bytes from d on, at T + d -/
def wrS (cf : Cf) (S S2 : List (Int × Int × Int × (Int → Int)) × Int) (w T d m : Int) (by' : Int → Int) (e : Int) : Prop := ∃ k f l b P0 s0 N0, (T + d = 64 * k + f ∧ 0 ≤ f ∧ f + m ≤ 64 ∧ 1 ≤ m) ∧ pcO (pcs S.1) w k l b P0 ∧ (l ≤ 64 ∧ ∀ i, ¬ (0 ≤ i ∧ i < l) → b i = 0) ∧ (nds S.1).Perm ((w, 2, s0) :: N0) ∧ RWS S2.1 ((w, 2, max s0 (T + d + m)) :: N0) (ens S.1) (ats S.1) ((w, k, max l (f + m), nwB f m d by' b) :: P0) ∧ S2.2 = S.2 ∧ WF cf S2 ∧ e = 80 + (max l (f + m) + 7) / 8 * 8 ∧ cpM S.1 + (szp (max l (f + m)) - szp l) ≤ capa cf
def wrF (cf : Cf) (S : List (Int × Int × Int × (Int → Int)) × Int) (w T d m : Int) : Prop := ∃ k f l b P0, (T + d = 64 * k + f ∧ 0 ≤ f ∧ f + m ≤ 64 ∧ 1 ≤ m) ∧ pcO (pcs S.1) w k l b P0 ∧ capa cf < cpM S.1 + (szp (max l (f + m)) - szp l)
/-- how many bytes the next part has -/
def mny (T n d : Int) : Int := min (n - d) (64 - (T + d) % 64)
/-- part by part: in m steps -/
def WTn (cf : Cf) (w T n : Int) (by' : Int → Int) : Nat → Int → List (Int × Int × Int × (Int → Int)) × Int → List (Int × Int × Int × (Int → Int)) × Int → List (Int × (List (Int × Int × Int × (Int → Int)) × Int)) → Int → Int → List (Int × Int × Int × (Int → Int)) × Int → List (Int × Int × Int × (Int → Int)) × Int → List (Int × (List (Int × Int × Int × (Int → Int)) × Int)) → Int → Prop
  | 0, d, S, S', W, p, d', Sn, Sn', Wn, pn => (n = d ∨ (d < n ∧ wrF cf S w T d (mny T n d))) ∧ d = d' ∧ S = Sn ∧ S' = Sn' ∧ W = Wn ∧ p = pn
  | m + 1, d, S, S', W, p, d', Sn, Sn', Wn, pn => d < n ∧ ∃ e p0 S2 S0 W0 k, wrS cf S S2 w T d (mny T n d) by' e ∧ TM cf p e S S' W p0 S0 W0 ∧ SFo (p0 + e) (W0 ++ [(p0 + e, S2)]) k ∧ WTn cf w T n by' m (d + mny T n d) S2 (laS S0 ((W0 ++ [(p0 + e, S2)]).take k)) ((W0 ++ [(p0 + e, S2)]).drop k) (p0 + e) d' Sn Sn' Wn pn
def WTr (cf : Cf) (w T n : Int) (by' : Int → Int) (d : Int) (S S' : List (Int × Int × Int × (Int → Int)) × Int) (W : List (Int × (List (Int × Int × Int × (Int → Int)) × Int))) (p d' : Int) (Sn Sn' : List (Int × Int × Int × (Int → Int)) × Int) (Wn : List (Int × (List (Int × Int × Int × (Int → Int)) × Int))) (pn : Int) : Prop := ∃ m, WTn cf w T n by' m d S S' W p d' Sn Sn' Wn pn
theorem WTr.fin {cf : Cf} {w T n : Int} {by' : Int → Int} {d : Int} {S S' : List (Int × Int × Int × (Int → Int)) × Int} {W : List (Int × (List (Int × Int × Int × (Int → Int)) × Int))} {p : Int} (h : n = d) : WTr cf w T n by' d S S' W p d S S' W p := ⟨0, Or.inl h, rfl, rfl, rfl, rfl, rfl⟩
theorem WTr.full {cf : Cf} {w T n : Int} {by' : Int → Int} {d : Int} {S S' : List (Int × Int × Int × (Int → Int)) × Int} {W : List (Int × (List (Int × Int × Int × (Int → Int)) × Int))} {p : Int} (h : d < n) (h2 : wrF cf S w T d (mny T n d)) : WTr cf w T n by' d S S' W p d S S' W p := ⟨0, Or.inr ⟨h, h2⟩, rfl, rfl, rfl, rfl, rfl⟩
theorem WTr.step {cf : Cf} {w T n : Int} {by' : Int → Int} {d e d' p p0 pn : Int} {S S' S2 S0 Sn Sn' : List (Int × Int × Int × (Int → Int)) × Int} {W W0 Wn : List (Int × (List (Int × Int × Int × (Int → Int)) × Int))} {k : Nat} (h : d < n) (h2 : wrS cf S S2 w T d (mny T n d) by' e) (h3 : TM cf p e S S' W p0 S0 W0) (h4 : SFo (p0 + e) (W0 ++ [(p0 + e, S2)]) k) (h5 : WTr cf w T n by' (d + mny T n d) S2 (laS S0 ((W0 ++ [(p0 + e, S2)]).take k)) ((W0 ++ [(p0 + e, S2)]).drop k) (p0 + e) d' Sn Sn' Wn pn) : WTr cf w T n by' d S S' W p d' Sn Sn' Wn pn := by
  obtain ⟨m, hm⟩ := h5
  exact ⟨m + 1, h, e, p0, S2, S0, W0, k, h2, h3, h4, hm⟩
theorem WTr.cs {cf : Cf} {w T n : Int} {by' : Int → Int} {d d' p pn : Int} {S S' Sn Sn' : List (Int × Int × Int × (Int → Int)) × Int} {W Wn : List (Int × (List (Int × Int × Int × (Int → Int)) × Int))} (h : WTr cf w T n by' d S S' W p d' Sn Sn' Wn pn) : ((n = d ∨ (d < n ∧ wrF cf S w T d (mny T n d))) ∧ d = d' ∧ S = Sn ∧ S' = Sn' ∧ W = Wn ∧ p = pn) ∨ (d < n ∧ ∃ e p0 S2 S0 W0 k, wrS cf S S2 w T d (mny T n d) by' e ∧ TM cf p e S S' W p0 S0 W0 ∧ SFo (p0 + e) (W0 ++ [(p0 + e, S2)]) k ∧ WTr cf w T n by' (d + mny T n d) S2 (laS S0 ((W0 ++ [(p0 + e, S2)]).take k)) ((W0 ++ [(p0 + e, S2)]).drop k) (p0 + e) d' Sn Sn' Wn pn) := by
  obtain ⟨m, hm⟩ := h
  rcases m with _ | m
  · exact Or.inl hm
  · obtain ⟨a, e, p0, S2, S0, W0, k, b, c, g, i⟩ := hm
    exact Or.inr ⟨a, e, p0, S2, S0, W0, k, b, c, g, ⟨m, i⟩⟩
/-- the place as the reference tells it -/
def plH (cf : Cf) (σ : St) : Int := if gI σ 451 0 = -1 then (cf.2.1 - 2) * 128 else gI σ 452 0
theorem TKo.tm {cf : Cf} {σ : St} {e p0 : Int} {S S' S0 : List (Int × Int × Int × (Int → Int)) × Int} {W W0 : List (Int × (List (Int × Int × Int × (Int → Int)) × Int))} (h : TKo cf σ e S S' W p0 S0 W0) (he : 0 < e) : TM cf (plH cf σ) e S S' W p0 S0 W0 := by
  unfold TM plH
  rcases h with ⟨a, b, c⟩ | ⟨a, b⟩
  · rw [if_neg a]; exact Or.inl ⟨b, c⟩
  · by_cases q : gI σ 451 0 = -1
    · rw [if_pos q]; exact Or.inr ⟨by omega, b⟩
    · rw [if_neg q]; exact Or.inr ⟨a.resolve_left q, b⟩
theorem sp_Hput {tv : Nat → Int} {cf : Cf} {σ : St} {S S' : List (Int × Int × Int × (Int → Int)) × Int} {W : List (Int × (List (Int × Int × Int × (Int → Int)) × Int))} {r : RT} {B : Int} {w T n kd rw' s : Int} {by' : Int → Int} {Q : Int → St → Prop} (hc : CfOK cf) (h : HP tv cf σ S S' W r B) (hC : HC σ S) (hrk : RK σ) (hB : B + 1642476 < 1073741000) (hw : (w, 2, s) ∈ nds S.1) (hT : 0 ≤ T) (hn : 1 ≤ n ∧ n ≤ 2048) (hTn : T + n ≤ 16384)
    (hby : ∀ (τ : St) (i : Int) (Q' : Int → St → Prop), 0 ≤ i → i < n → gA τ 85 0 = gA σ 85 0 → RK τ → (rB (by' i) → Q' (by' i) τ) → wp_House_byteOf cf tv kd rw' i (fun r_98 σ_99 => rB r_98 → RK σ_99 → Q' r_98 σ_99) τ)
    (hQ : ∀ τ d Sn Sn' Wn pn Bn, WTr cf w T n by' 0 S S' W (plH cf σ) d Sn Sn' Wn pn → HP tv cf τ Sn Sn' Wn r Bn → Bn ≤ B + 1642476 → HC τ Sn → plH cf τ = pn → Fr mHo σ τ → RK τ → Q (if d = 0 then -10 else d) τ) : wp_House_put cf tv w T n kd rw' Q σ := by
  unfold wp_House_put
  refine lQ1_rule (fun d τ => ∃ Sc Sc' Wc j, (HP tv cf τ Sc Sc' Wc r (B + 49772 * j) ∧ (0 ≤ j ∧ j ≤ (T % 64 + d + 63) / 64) ∧ ((d = 0 ∧ j = 0) ∨ (T + d) % 64 = 0 ∨ d = n) ∧ (0 ≤ d ∧ d ≤ n)) ∧ HC τ Sc ∧ Fr mHo σ τ ∧ RK τ ∧ (∃ s, (w, 2, s) ∈ nds Sc.1) ∧ ∀ d' Sn Sn' Wn pn, WTr cf w T n by' d Sc Sc' Wc (plH cf τ) d' Sn Sn' Wn pn → WTr cf w T n by' 0 S S' W (plH cf σ) d' Sn Sn' Wn pn) (fun d _ => (n - d).toNat) ?_ 0 σ ⟨S, S', W, 0, ⟨by rw [show B + 49772 * 0 = B by omega]; exact h, by omega, Or.inl ⟨rfl, rfl⟩, by omega⟩, hC, Fr.rf _ _, hrk, ⟨s, hw⟩, fun _ _ _ _ _ q => q⟩
  intro K d τ hI kK
  obtain ⟨Sc, Sc', Wc, j, ⟨H, hj, hd, hdn⟩, hCc, fr, rk, ⟨sc, hwc⟩, tr⟩ := hI
  have wf := H.wf
  have wr := wf.wr
  have n1 := H.nx
  have ok := H.okC hc
  have cp := wf.2.2.2.2.2.2.2.2.2.2.1
  have cl := capa_le hc
  have c0 := cpM_0 hc wf
  have wR : 1 ≤ w ∧ w < Sc.2 := (wr.1.1 _ hwc).1
  unfold wp_House_put_L3
  refine ⟨fun q => ?_, fun q => ?_⟩
  · have e : d = n := by omega
    have := hQ τ d Sc Sc' Wc _ _ (tr _ _ _ _ _ (WTr.fin e.symm)) H (by omega) hCc rfl fr rk
    rw [if_neg (by omega), e] at this
    exact this
  · intro k ek f ef m em
    rw [w32_id (x := T + d) (by unfold rI; omega)] at ek ef
    rw [jdv_nn (by omega) (by omega) (by omega)] at ek
    rw [jrm_nn (by omega) (by omega) (by omega)] at ef
    rw [w32_id (x := n - d) (by unfold rI; omega), w32_id (x := 64 - f) (by unfold rI; omega)] at em
    have emn : mny T n d = m := by unfold mny; rw [em, ef]
    have hm : 1 ≤ m ∧ m ≤ n - d ∧ f + m ≤ 64 ∧ T + d = 64 * k + f ∧ 0 ≤ f ∧ (m = n - d ∨ f + m = 64) := by omega
    refine sp_Ppc hc H (by unfold rI; omega) (by unfold rI; omega) (fun τ1 l b P0 pI hl hb hbz H1 f1 k1 _ _ => ?_)
    intro ln eln
    rw [w32_id (x := f + m) (by unfold rI; omega)] at eln
    have lnr : 1 ≤ ln ∧ ln ≤ 64 ∧ l ≤ ln ∧ f + m ≤ ln := by omega
    refine sp_item (by omega) k1 (fun _ _ => ?_)
    refine sp_item hl k1 (fun _ _ => ?_)
    intro more emore
    have sl : 0 ≤ szp l ∧ szp l ≤ 288 := by unfold szp; split <;> omega
    have sn : 0 ≤ szp ln ∧ szp ln ≤ 288 := by unfold szp; split <;> omega
    rw [w32_id (by unfold rI; omega)] at emore
    have g1 : Fr mHs τ τ1 := f1.mono (fun f o' => Rpc_s)
    have lv1 : gI τ1 71 0 = cpM Sc.1 := (hCc.fr g1 (fun g q v => v.2 q)).1
    have pO := pI.o (cf := cf) (M := Sc.1) (nx := Sc.2) wf
    rw [lv1, w32_id (by unfold rI; omega), cap_e]
    have full : capa cf < cpM Sc.1 + more → ∀ τ', Fr mHs τ τ' → HP tv cf τ' Sc Sc' Wc r (B + 49772 * j) → RK τ' → Q (if d = 0 then -10 else d) τ' := by
      intro hf τ' g' H' k'
      have plE : plH cf τ' = plH cf τ := by
        unfold plH
        rw [g'.i 451 0 (fun q => (mHs_W q).1 rfl), g'.i 452 0 (fun q => (mHs_W q).2 rfl)]
      refine hQ τ' d Sc Sc' Wc _ _ (tr _ _ _ _ _ (WTr.full (by omega) ?_)) H' (by omega) (hCc.fr g' (fun g q v => v.2 q)) plE (fr.tr (g'.mono (fun f o' => Or.inl))) k'
      rw [emn]
      exact ⟨k, f, l, b, P0, ⟨hm.2.2.2.1, hm.2.2.2.2.1, hm.2.2.1, hm.1⟩, pO, by rw [← eln, ← emore]; exact hf⟩
    have go : cpM Sc.1 + more ≤ capa cf → wp_House_put_b107 cf tv w T n kd rw' Q K d k f m ln more τ1 := by
      intro hcap
      unfold wp_House_put_b107
      have cop : gA τ1 85 0 = gA σ 85 0 := by
        rw [g1.a _ _ (fun q => q.2 (by unfold hK; omega)), fr.a _ _ (fun q => by
          rcases q with q | q | q
          · exact q.2 (by unfold hK; omega)
          · unfold stS at q; omega
          · omega)]
      refine lQ7_rule (fun a1 a2 a3 a4 a5 a6 i υ => a1 = d ∧ a2 = k ∧ a3 = f ∧ a4 = m ∧ a5 = ln ∧ a6 = more ∧ (0 ≤ i ∧ i ≤ m) ∧ RK υ ∧ Fr (fun f o' => f = 77 ∧ o' = 0) τ1 υ ∧ ∀ q, 0 ≤ q → q < 64 → gA υ 77 0 q = if f ≤ q ∧ q < f + i then by' (d + (q - f)) else b q) (fun _ _ _ _ _ _ i _ => (m - i).toNat) ?_ d k f m ln more 0 τ1 ⟨rfl, rfl, rfl, rfl, rfl, rfl, by omega, k1, Fr.rf _ _, fun q q0 q1 => by rw [if_neg (by omega)]; exact hb q q0 q1⟩
      intro K' a1 a2 a3 a4 a5 a6 i υ hI' hK'
      obtain ⟨x1, x2, x3, x4, x5, x6, hi, kυ, fυ, bυ⟩ := hI'
      rw [x1, x2, x3, x4, x5, x6]
      unfold wp_House_put_L110
      refine ⟨fun q3 => ?_, fun q3 => ?_⟩
      · have ei : i = m := by omega
        rw [ei] at bυ
        have Hυ := H1.frH fυ (fun f o' q => by unfold mHR; omega) kυ
        have gυ : Fr mHs τ υ := g1.tr (fυ.mono (fun f o' q => ⟨by unfold mHR; omega, by unfold hK; omega⟩))
        refine sp_Pread hc Hυ (by unfold rI; omega) (fun τ2 no => absurd hwc (no _ _)) (fun τ2 z z1 z2 z3 z4 z5 H2 f2 k2 _ _ => ?_)
        have z4' := z4
        rw [z3] at z4'
        have u := wr.u hwc z4' rfl
        rw [Prod.mk.injEq, Prod.mk.injEq] at u
        have zk : rI4 z.2.2.2 28 = 2 := u.2.1.symm
        obtain ⟨nr, nn1, nn2, nk, ns, ⟨nc1, nc2, nc3⟩, ⟨-, ncl, nca⟩, nak⟩ := nd_put (M := Sc.1) (nx := Sc.2) wf z1 z2
        obtain ⟨i1, i2, i3, i4, i5, i6⟩ := z5
        intro σ87 e87
        rw [show gI τ2 643 0 = rI4 z.2.2.2 36 from i4, w32_id (x := T + d) (by unfold rI; omega), w32_id (x := T + d + m) (by unfold rI; omega)] at e87
        have k87 : RK σ87 := by rw [e87]; exact k2.sI (f := 643) (by show rI _; unfold rI; omega)
        have f87 : Fr (fun f o' => 640 ≤ f ∧ f < 704) τ2 σ87 := by rw [e87]; exact (Fr.rf _ _).sI (by omega)
        have v87 : gI σ87 640 0 = w ∧ gI σ87 641 0 = 2 ∧ gI σ87 642 0 = rI4 z.2.2.2 32 ∧ gI σ87 643 0 = max (rI4 z.2.2.2 36) (T + d + m) ∧ gI σ87 644 0 = rI4 z.2.2.2 40 ∧ gI σ87 645 0 = rI4 z.2.2.2 44 := by
          rw [e87]; simp only [gI_sI]; simp
          exact ⟨i1.trans (by omega), i2.trans zk, i3, i5, i6⟩
        clear e87
        refine sp_Hbegin (S := Sc) (fun τ3 g3 f3 k3 _ => ?_)
        have fb : Fr (fun f o' => mRi 0 f o' ∨ (640 ≤ f ∧ f < 704) ∨ mRow 6 f o') υ τ3 := ((f2.mono (fun f o' => Or.inl)).tr (f87.mono (fun f o' q => Or.inr (Or.inl q)))).tr (f3.mono (fun f o' q => Or.inr (Or.inr q)))
        have b3 : ∀ q, 0 ≤ q → q < ln → gA τ3 77 0 q = nwB f m d by' b q := fun q q0 q1 => by
          rw [fb.a 77 0 (fun q => by
            rcases q with q | q | q
            · exact (mRi_k q).2 (by omega)
            · omega
            · unfold mRow at q; omega)]
          exact bυ q q0 (by omega)
        refine sp_gPie (n := ln) k3 g3 (by omega) (ok.s (by omega)) (by omega) (by omega) (by omega) b3 (fun τ4 P1 p1 g4 f4 k4 _ => ?_)
        have vi : ∀ g, 640 ≤ g → g ≤ 645 → gI τ4 g 0 = gI σ87 g 0 := fun g a b => by rw [f4.i _ _ (by unfold mRow; omega), f3.i _ _ (by unfold mRow; omega)]
        have ok4 : okC (mput (4 * w + 1, k, 32 + (ln + 7) / 8 * 8, P1) Sc.1, Sc.2) 1 := ok.put (fun q => by have q : (4 * w + 1) % 4 = 0 := q; omega)
        refine sp_gIno (l := 1) (a := w) (kd := 2) (lk := rI4 z.2.2.2 32) (sz := max (rI4 z.2.2.2 36) (T + d + m)) (en := rI4 z.2.2.2 40) (at' := rI4 z.2.2.2 44) k4 g4 (by omega) (ok4.s (by omega)) (by rw [vi _ (by decide) (by decide)]; exact v87.1) (by rw [vi _ (by decide) (by decide)]; exact v87.2.1) (by rw [vi _ (by decide) (by decide)]; exact v87.2.2.1) (by rw [vi _ (by decide) (by decide)]; exact v87.2.2.2.1) (by rw [vi _ (by decide) (by decide)]; exact v87.2.2.2.2.1) (by rw [vi _ (by decide) (by decide)]; exact v87.2.2.2.2.2) (by omega) (fun τ5 P4 p4 g5 f5 k5 _ => ?_)
        have g5 := g5.2 (by decide)
        have nb0 : ∀ q, ¬ (0 ≤ q ∧ q < ln) → nwB f m d by' b q = 0 := fun q hq => by
          unfold nwB; rw [if_neg (by omega)]; exact hbz q (by omega)
        have hN : (nds Sc.1).Perm ((w, 2, rI4 z.2.2.2 36) :: (nds Sc.1).filter (fun n => decide (n.1 ≠ w))) := nd_fl wr.1.2 (by rw [← zk]; exact nn2)
        have hsz : 64 * k + ln ≤ max (rI4 z.2.2.2 36) (T + d + m) := by
          by_cases ql : l ≤ f + m
          · omega
          · have lz : 64 * k + l ≤ rI4 z.2.2.2 36 := by
              rcases pO with ⟨l1, pm⟩ | ⟨l0, -⟩
              · obtain ⟨k', t, c, -, dd, -⟩ := wr.2.2.2.2.1 _ (pm.mem_iff.mpr List.mem_cons_self)
                have c : (w, k', t) ∈ nds Sc.1 := c
                have dd : 64 * k + l ≤ t := dd
                have := wr.u c nn2 rfl
                rw [Prod.mk.injEq, Prod.mk.injEq] at this
                rw [this.2.2] at dd; exact dd
              · omega
            omega
        obtain ⟨L1, L2, L3⟩ := wr_law (cf := cf) (M := Sc.1) (nx := Sc.2) (s' := max (rI4 z.2.2.2 36) (T + d + m)) wf z1 z2 zk hN pI (by omega) (by omega) nb0 p1 (by omega) p4 (by omega) rfl
        have sI5 : sIn (mput (4 * w + 1, k, 32 + (ln + 7) / 8 * 8, P1) Sc.1, Sc.2) w 2 P4 = (mput (4 * w, 0, 48, P4) (mput (4 * w + 1, k, 32 + (ln + 7) / 8 * 8, P1) Sc.1), Sc.2) := by
          unfold sIn; rw [if_neg (by decide)]
          show (_, max Sc.2 (w + 1)) = _
          rw [show max Sc.2 (w + 1) = Sc.2 by omega]
        rw [sI5] at g5
        generalize mput (4 * w, 0, 48, P4) (mput (4 * w + 1, k, 32 + (ln + 7) / 8 * 8, P1) Sc.1) = M4 at *
        have fT : Fr mHs τ τ5 := ((gυ.tr (fb.mono (fun f o' q => ?_))).tr (f4.mono (fun f o' => R6_s))).tr (f5.mono (fun f o' => R6_s))
        · have H5 := H.frH fT (fun f o' q => q.1) k5
          have plE : plH cf τ5 = plH cf τ := by
            unfold plH
            rw [fT.i 451 0 (fun q => (mHs_W q).1 rfl), fT.i 452 0 (fun q => (mHs_W q).2 rfl)]
          rw [show 0 + (32 + (ln + 7) / 8 * 8) + 48 = 80 + (ln + 7) / 8 * 8 by omega] at g5
          refine sp_handS (e := 80 + (ln + 7) / 8 * 8) hc H5 (by omega) g5 (by omega) L1 (by show Sc.2 < 1073740000; omega) (fun τ8 p0 S0 W0 kk tk sf H8 nn pl f8 k8 _ => ?_)
          have f8s : Fr stS τ5 τ8 := f8.mono (fun f o' => st_Hh)
          have hC8 : HC τ8 Sc := (hCc.fr fT (fun g q v => v.2 q)).fr f8s (fun g q v => by unfold hK at q; unfold stS at v; omega)
          intro σ96 e96 d2 e2
          rw [show gI τ8 71 0 = cpM Sc.1 from hC8.1, w32_id (by unfold rI; omega)] at e96
          rw [w32_id (by unfold rI; omega)] at e2
          have f96 : Fr (fun f o' => (f = 71 ∨ f = 72) ∧ o' = 0) τ8 σ96 := by rw [e96]; exact (Fr.rf _ _).sI (by omega)
          have k96 : RK σ96 := by rw [e96]; exact k8.sI (f := 71) (by show rI _; unfold rI; omega)
          have lv96 : gI σ96 71 0 = cpM Sc.1 + more := by rw [e96, gI_sI1]
          have th96 : gI σ96 72 0 = gI τ8 72 0 := by rw [e96, gI_sIo (by decide)]
          clear e96
          rw [e2]
          have pl96 : plH cf σ96 = p0 + (80 + (ln + 7) / 8 * 8) := by
            unfold plH
            rw [f96.i 451 0 (by omega), f96.i 452 0 (by omega), if_neg nn]; exact pl
          refine kK (d + m) σ96 ⟨(M4, Sc.2), _, _, j + 1, ⟨by rw [show B + 49772 * (j + 1) = B + 49772 * j + 49772 by omega]; exact H8.frH f96 (fun f o' q => by unfold mHR; omega) k96, by omega, by omega, by omega⟩, ⟨?_, ?_, ?_⟩, ?_, k96, ⟨_, L3.1.mem_iff.mpr List.mem_cons_self⟩, fun d' Sn Sn' Wn pn t => tr _ _ _ _ _ (WTr.step (by omega) (by rw [emn]; exact ⟨k, f, l, b, P0, _, _, ⟨hm.2.2.2.1, hm.2.2.2.2.1, hm.2.2.1, hm.1⟩, pO, ⟨hl.2, hbz⟩, hN, by rw [← eln]; exact L3, rfl, L1, by rw [← eln], by rw [← eln, ← emore]; exact hcap⟩) (by rw [← plE]; exact tk.tm (by omega)) sf (by rw [pl96] at t; rw [emn]; exact t))⟩ (by omega)
          · show gI σ96 71 0 = cpM M4
            rw [lv96, L2, emore]
          · show gI σ96 72 0 = ((nds M4).length : Int)
            have := hN.length_eq
            rw [List.length_cons] at this
            rw [th96, L3.1.length_eq, List.length_cons, ← this]; exact hC8.2.1
          · show gI σ96 69 0 = 1
            rw [f96.i _ _ (by omega)]; exact hC8.2.2
          · exact fr.tr (((fT.mono (fun f o' => Or.inl)).tr (f8s.mono (fun f o' q => Or.inr (Or.inl q)))).tr (f96.mono (fun f o' q => Or.inr (Or.inr q))))
        · rcases q with q | q | q
          · exact Ri_s q
          · exact In_s q
          · exact R6_s q
      · rw [w32_id (x := d + i) (by unfold rI; omega), w32_id (x := f + i) (by unfold rI; omega)]
        have copυ : gA υ 85 0 = gA σ 85 0 := by rw [fυ.a _ _ (by omega)]; exact cop
        refine hby υ (d + i) _ (by omega) (by omega) copυ kυ (fun rb => ⟨by omega, fun σ100 e100 i2 ei2 => ?_⟩)
        rw [w32_id (by unfold rI; omega)] at ei2
        rw [ei2]
        refine hK' d k f m ln more (i + 1) σ100 ⟨rfl, rfl, rfl, rfl, rfl, rfl, by omega, by rw [e100]; exact kυ.sA (f := 77) (by show rB _; exact rb), fυ.tr (by rw [e100]; exact (Fr.rf _ _).sA ⟨rfl, rfl⟩), fun q q0 q1 => ?_⟩ (by omega)
        rw [e100, sA_if]
        by_cases e : q = f + i
        · rw [if_pos e, if_pos (by omega), e]; congr 1; omega
        · rw [if_neg e]
          have := bυ q q0 q1
          rw [show gA υ 77 0 q = _ from this]
          by_cases v : f ≤ q ∧ q < f + i
          · rw [if_pos v, if_pos (by omega)]
          · rw [if_neg v, if_neg (by omega)]
    refine ⟨fun q2 => go (by omega), fun q2 => ⟨fun q3 => go (by omega), fun q3 => ?_⟩⟩
    have fl := full (by omega) τ1 g1 H1 k1
    exact ⟨fun q4 => by rw [if_neg q4] at fl; exact fl, fun q4 => by rw [if_pos q4] at fl; exact fl⟩
