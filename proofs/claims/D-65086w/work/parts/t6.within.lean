/-! House.isWithin -/
def mRw (f : Nat) (o' : Int) : Prop := mRi 3 f o' ∨ (f = 82 ∧ o' = 0)
theorem Rw_s {f : Nat} {o' : Int} (h : mRw f o') : mHs f o' := by
  rcases h with h | h
  · exact Ri_s h
  · exact ⟨by unfold mHR; omega, by unfold hK; omega⟩
def dirE (S : List (Int × Int × Int × (Int → Int)) × Int) (y : Int × Int × Int × (Int → Int)) : Prop := ((erow y).2.2, 1, 0) ∈ nds S.1
/-- the directories that were found below d: n of them, the first k done; of the entries of number k those with keys below p -/
def LI (S : List (Int × Int × Int × (Int → Int)) × Int) (d x : Int) (ln : Int → Int) (n k p : Int) (D : List (Int × Int × Int × (Int → Int))) : Prop :=
  ((D.map ak).Nodup ∧ ∀ y, y ∈ D → y ∈ S.1 ∧ y.1 % 4 = 2 ∧ dirE S y) ∧ n = D.length + 1 ∧ ln 0 = d ∧ (∀ i : Nat, ∀ y, D[i]? = some y → ln (i + 1) = (erow y).2.2) ∧
  (∀ y, y ∈ D → ∃ j, 0 ≤ j ∧ ((j < k ∧ ln j = y.1 / 4) ∨ (j = k ∧ ln j = y.1 / 4 ∧ ak y < p))) ∧
  (∀ j, 0 ≤ j → j < k → ∀ y, y ∈ S.1 → y.1 = 4 * ln j + 2 → dirE S y → y ∈ D) ∧ (∀ y, y ∈ S.1 → y.1 = 4 * ln k + 2 → ak y < p → dirE S y → y ∈ D) ∧
  (∀ j, 0 ≤ j → j < k → ln j ≠ x) ∧ (∀ j, 0 ≤ j → j < n → Anc (nds S.1) (ens S.1) d (ln j) ∧ (ln j, 1, 0) ∈ nds S.1) ∧ ∀ i j, 0 ≤ i → i < j → j < n → ln i ≠ ln j
theorem LI.n1 {cf : Cf} {S : List (Int × Int × Int × (Int → Int)) × Int} {d x : Int} {ln : Int → Int} {n k p : Int} {D : List (Int × Int × Int × (Int → Int))} (hc : CfOK cf) (w : WF cf S) (h : LI S d x ln n k p D) : 1 ≤ n ∧ n ≤ 712 := by
  obtain ⟨⟨a, b⟩, c, -⟩ := h
  have l := nd_sub (m := S.1.map ak) a (fun v hv => by
    obtain ⟨y, y1, y2⟩ := List.mem_map.mp hv
    exact List.mem_map.mpr ⟨y, (b y y1).1, y2⟩)
  have := w.len hc
  rw [List.length_map, List.length_map] at l
  omega
theorem LI.mem {S : List (Int × Int × Int × (Int → Int)) × Int} {d x : Int} {ln : Int → Int} {n k p : Int} {D : List (Int × Int × Int × (Int → Int))} (h : LI S d x ln n k p D) {y : Int × Int × Int × (Int → Int)} (hy : y ∈ D) : ∃ j, (0 ≤ j ∧ j < n) ∧ ln j = (erow y).2.2 := by
  obtain ⟨-, c, -, e, -⟩ := h
  obtain ⟨i, i1⟩ := List.getElem?_of_mem hy
  have : i < D.length := (List.getElem?_eq_some_iff.mp i1).1
  exact ⟨(i : Int) + 1, by omega, e i y i1⟩
/-- an entry that names no directory is done -/
theorem LI.skip {S : List (Int × Int × Int × (Int → Int)) × Int} {d x : Int} {ln : Int → Int} {n k p p' : Int} {D : List (Int × Int × Int × (Int → Int))} (h : LI S d x ln n k p D) (hp : p ≤ p') (hs : ∀ y, y ∈ S.1 → y.1 = 4 * ln k + 2 → p ≤ ak y → ak y < p' → ¬ dirE S y) : LI S d x ln n k p' D := by
  obtain ⟨a, b, c, e, f, g, g2, i⟩ := h
  refine ⟨a, b, c, e, fun y hy => ?_, g, fun y y1 y2 y3 y4 => ?_, i⟩
  · obtain ⟨j, j0, j1⟩ := f y hy
    exact ⟨j, j0, j1.imp id (fun q => ⟨q.1, q.2.1, by omega⟩)⟩
  · by_cases q : ak y < p
    · exact g2 y y1 y2 q y4
    · exact absurd y4 (hs y y1 y2 (by omega) y3)
theorem LI.add {cf : Cf} {S : List (Int × Int × Int × (Int → Int)) × Int} {d x : Int} {ln ln' : Int → Int} {n k p : Int} {D : List (Int × Int × Int × (Int → Int))} {y : Int × Int × Int × (Int → Int)} (w : WF cf S) (h : LI S d x ln n k p D) (hk : 0 ≤ k ∧ k < n) (hy : y ∈ S.1) (y2 : y.1 = 4 * ln k + 2) (yp : p ≤ ak y) (hn : ∀ v, v ∈ S.1 → p ≤ ak v → ak y ≤ ak v) (hd : dirE S y) (el : ∀ j, ln' j = if j = n then (erow y).2.2 else ln j) : LI S d x ln' (n + 1) k (ak y + 1) (D ++ [y]) := by
  have wr := w.wr
  obtain ⟨rk, hrk⟩ := wr.2.2.2.2.2.2.2.2
  obtain ⟨⟨a1, a2⟩, b, c, e, f, g, g2, i, o, di⟩ := h
  have lo : ∀ j, j ≠ n → ln' j = ln j := fun j q => by rw [el, if_neg q]
  have me : erow y ∈ ens S.1 := ens_mem.mpr ⟨y, hy, by omega, rfl⟩
  have e1 : (erow y).1 = ln k := by show y.1 / 4 = _; omega
  have an : Anc (nds S.1) (ens S.1) d (erow y).2.2 := Anc.st (x := (erow y).2.1) (o k hk.1 hk.2).1 (by rw [← e1]; exact me) hd
  have rl : rk d ≤ rk (ln k) := (o k hk.1 hk.2).1.le' hrk
  have rt : rk (erow y).1 < rk (erow y).2.2 := hrk _ me hd
  rw [e1] at rt
  have nD : y ∉ D := fun q => by
    obtain ⟨j, j0, j1⟩ := f y q
    rcases j1 with ⟨j1, j2⟩ | ⟨j1, j2, j3⟩
    · exact di j k j0 j1 hk.2 (by rw [j2]; omega)
    · omega
  have nl : ∀ j, 0 ≤ j → j < n → ln j ≠ (erow y).2.2 := fun j j0 j1 q => by
    by_cases z : j = 0
    · rw [z, c] at q
      rw [q] at rl; omega
    · have lt : (j - 1).toNat < D.length := by omega
      have ge := List.getElem?_eq_getElem lt
      have := e (j - 1).toNat _ ge
      rw [show (((j - 1).toNat : Nat) : Int) + 1 = j by omega, q] at this
      have hm := List.getElem_mem lt
      have eq := w.par (a2 _ hm).1 hy (a2 _ hm).2.1 (by omega) (a2 _ hm).2.2 this.symm
      rw [eq] at hm
      exact nD hm
  refine ⟨⟨?_, fun v hv => ?_⟩, by rw [List.length_append]; simp; omega, by rw [lo 0 (by omega)]; exact c, fun i' v hv => ?_, fun v hv => ?_, fun j j0 j1 v v1 v2 v3 => ?_, fun v v1 v2 v3 v4 => ?_, fun j j0 j1 => by rw [lo j (by omega)]; exact i j j0 j1, fun j j0 j1 => ?_, fun i' j i0 ij jn => ?_⟩
  · rw [List.map_append]
    refine List.nodup_append.mpr ⟨a1, by simp, fun v hv u hu q => ?_⟩
    have hu : u ∈ [ak y] := hu
    obtain ⟨z, z1, z2⟩ := List.mem_map.mp hv
    rw [List.mem_singleton.mp hu] at q
    rw [q] at z2
    have := w.1.1.inj (a2 z z1).1 hy z2
    rw [this] at z1
    exact nD z1
  · rcases List.mem_append.mp hv with q | q
    · exact a2 v q
    · rw [List.mem_singleton.mp q]; exact ⟨hy, by omega, hd⟩
  · by_cases q : i' < D.length
    · rw [List.getElem?_append_left q] at hv
      rw [lo _ (by omega)]; exact e i' v hv
    · have l1 := (List.getElem?_eq_some_iff.mp hv).1
      rw [List.length_append] at l1
      have l1 : i' < D.length + 1 := l1
      have ei : i' = D.length := by omega
      rw [ei, List.getElem?_append_right (Nat.le_refl _), Nat.sub_self] at hv
      have hv : some y = some v := hv
      rw [Option.some.injEq] at hv
      rw [el, if_pos (by omega), hv]
  · rcases List.mem_append.mp hv with q | q
    · obtain ⟨j, j0, j1⟩ := f v q
      refine ⟨j, j0, ?_⟩
      rcases j1 with ⟨j1, j2⟩ | ⟨j1, j2, j3⟩
      · exact Or.inl ⟨j1, by rw [lo j (by omega)]; exact j2⟩
      · exact Or.inr ⟨j1, by rw [lo j (by omega)]; exact j2, by omega⟩
    · rw [List.mem_singleton.mp q]
      exact ⟨k, hk.1, Or.inr ⟨rfl, by rw [lo k (by omega)]; omega, by omega⟩⟩
  · rw [lo j (by omega)] at v2
    exact List.mem_append_left _ (g j j0 j1 v v1 v2 v3)
  · rw [lo k (by omega)] at v2
    by_cases q : ak v < p
    · exact List.mem_append_left _ (g2 v v1 v2 q v4)
    · have := hn v v1 (by omega)
      have := w.1.1.inj v1 hy (by omega)
      rw [this]
      exact List.mem_append_right _ List.mem_cons_self
  · by_cases q : j = n
    · rw [el, if_pos q]; exact ⟨an, hd⟩
    · rw [lo j q]; exact o j j0 (by omega)
  · rw [lo i' (by omega)]
    by_cases q : j = n
    · rw [el, if_pos q]; exact nl i' i0 (by omega)
    · rw [lo j q]; exact di i' j i0 ij (by omega)
/-- number k is done -/
theorem LI.next {S : List (Int × Int × Int × (Int → Int)) × Int} {d x : Int} {ln : Int → Int} {n k p : Int} {D : List (Int × Int × Int × (Int → Int))} (h : LI S d x ln n k p D) (hk : 0 ≤ k) (hx : ln k ≠ x) (hp : ∀ y, y ∈ S.1 → y.1 = 4 * ln k + 2 → ak y < p) (h0 : ∀ y, y ∈ S.1 → 0 ≤ ak y) : LI S d x ln n (k + 1) 0 D := by
  obtain ⟨a, b, c, e, f, g, g2, i, o⟩ := h
  refine ⟨a, b, c, e, fun y hy => ?_, fun j j0 j1 y y1 y2 y3 => ?_, fun y y1 _ y3 => absurd (h0 y y1) (by omega), fun j j0 j1 => ?_, o⟩
  · obtain ⟨j, j0, j1⟩ := f y hy
    exact ⟨j, j0, Or.inl (j1.elim (fun q => ⟨by omega, q.2⟩) (fun q => ⟨by omega, q.2.1⟩))⟩
  · by_cases q : j = k
    · rw [q] at y2; exact g2 y y1 y2 (hp y y1 y2) y3
    · exact g j j0 (by omega) y y1 y2 y3
  · by_cases q : j = k
    · rw [q]; exact hx
    · exact i j j0 (by omega)
theorem LI.end {S : List (Int × Int × Int × (Int → Int)) × Int} {d x : Int} {ln : Int → Int} {n k p : Int} {D : List (Int × Int × Int × (Int → Int))} (h : LI S d x ln n k p D) (hk : n ≤ k) : ¬ Anc (nds S.1) (ens S.1) d x := by
  intro an
  have key : ∀ {v}, Anc (nds S.1) (ens S.1) d v → ∃ j, (0 ≤ j ∧ j < n) ∧ ln j = v := by
    intro v hv
    refine hv.ind (fun v => ∃ j, (0 ≤ j ∧ j < n) ∧ ln j = v) ⟨0, by have := h.2.1; omega, h.2.2.1⟩ (fun d' x' t' _ ih h2 h3 => ?_)
    obtain ⟨j, hj, ej⟩ := ih
    obtain ⟨y, y1, y2, y3⟩ := ens_mem.mp h2
    have e1 : y.1 / 4 = d' := congrArg (fun r => r.1) y3
    have hD := h.2.2.2.2.2.1 j hj.1 (by omega) y y1 (by rw [ej]; omega) (by unfold dirE; rw [y3]; exact h3)
    obtain ⟨i, i1, i2⟩ := h.mem hD
    exact ⟨i, i1, by rw [i2, y3]⟩
  obtain ⟨j, hj, ej⟩ := key an
  exact h.2.2.2.2.2.2.2.1 j hj.1 (by omega) ej
theorem sp_HisWithin {tv : Nat → Int} {cf : Cf} {σ : St} {S S' : List (Int × Int × Int × (Int → Int)) × Int} {W : List (Int × (List (Int × Int × Int × (Int → Int)) × Int))} {r : RT} {B : Int} {x d : Int} {Q : Int → St → Prop} (hc : CfOK cf) (h : HP tv cf σ S S' W r B) (hrk : RK σ) (hd : (d, 1, 0) ∈ nds S.1)
    (h1 : ∀ τ, Anc (nds S.1) (ens S.1) d x → HP tv cf τ S S' W r B → Fr mRw σ τ → RK τ → Q 1 τ)
    (h0 : ∀ τ, ¬ Anc (nds S.1) (ens S.1) d x → HP tv cf τ S S' W r B → Fr mRw σ τ → RK τ → Q 0 τ) : wp_House_isWithin cf tv x d Q σ := by
  have wf := h.wf
  have wr := wf.wr
  have nx := h.nx
  have d1 : 1 ≤ d ∧ d < S.2 := (wr.1.1 _ hd).1
  have a0 : ∀ y, y ∈ S.1 → 0 ≤ ak y := fun y hy => ak_0 (by have := (wf.iok y hy).2.2.2.2.1; omega)
  have hf : ∀ f o', mRw f o' → mHR f o' := fun f o' q => (Rw_s q).1
  unfold wp_House_isWithin
  refine ⟨by omega, fun σ60 e60 => ?_⟩
  have f60 : Fr mRw σ σ60 := by rw [e60]; exact (Fr.rf _ _).sA (Or.inr ⟨rfl, rfl⟩)
  have k60 : RK σ60 := by rw [e60]; exact hrk.sA (f := 82) (by show rI d; unfold rI; omega)
  have l60 : gA σ60 82 0 0 = d := by rw [e60, gA_sA, if_pos ⟨rfl, rfl, rfl⟩]
  refine lQ2_rule (fun n k τ => HP tv cf τ S S' W r B ∧ Fr mRw σ τ ∧ RK τ ∧ (0 ≤ k ∧ k ≤ n) ∧ ∃ D, LI S d x (gA τ 82 0) n k 0 D) (fun n k _ => (1024 - k).toNat) ?_ 1 0 σ60 ⟨h.frH f60 hf k60, f60, k60, by omega, [], ⟨⟨List.nodup_nil, fun y hy => absurd hy List.not_mem_nil⟩, rfl, l60, fun i y hy => by exact absurd hy (by simp), fun y hy => absurd hy List.not_mem_nil, fun j j0 j1 => by omega, fun y y1 _ y3 => absurd (a0 y y1) (by omega), fun j j0 j1 => by omega, fun j j0 j1 => ?_, fun i j i0 ij jn => by omega⟩⟩
  rotate_left
  · rw [show j = 0 by omega, l60]
    exact ⟨Anc.rf, hd⟩
  intro K n k τ hI hK
  obtain ⟨H, fr, rk, hk, D, hL⟩ := hI
  have nb := hL.n1 hc wf
  unfold wp_House_isWithin_L12
  refine ⟨fun q => h0 τ (hL.end q) H fr rk, fun q => ⟨by omega, fun q2 => ⟨by omega, ?_⟩, fun q2 => h1 τ (by rw [← show gA τ 82 0 k = x from q2]; exact (hL.2.2.2.2.2.2.2.2.1 k hk.1 (by omega)).1) H fr rk⟩⟩
  have dk := (hL.2.2.2.2.2.2.2.2.1 k hk.1 (by omega)).2
  have q2 : ¬ gA τ 82 0 k = x := q2
  have lr : 1 ≤ gA τ 82 0 k ∧ gA τ 82 0 k < S.2 := (wr.1.1 _ dk).1
  generalize hlk : gA τ 82 0 k = lk at *
  have fin : ∀ (υ' : St) (p n'' : Int) D'', HP tv cf υ' S S' W r B → Fr mRw σ υ' → RK υ' → k < n'' → LI S d x (gA υ' 82 0) n'' k p D'' → (∀ y, y ∈ S.1 → y.1 = 4 * lk + 2 → ak y < p) → gA υ' 82 0 k = lk → wp_House_isWithin_b208 cf tv x d Q K n'' k υ' := by
    intro υ' p n'' D'' H2 f2 k2 kn hL2 hp e2
    have nb2 := hL2.n1 hc wf
    unfold wp_House_isWithin_b208
    intro y4 e4
    rw [w32_id (by unfold rI; omega)] at e4
    rw [e4]
    exact hK n'' (k + 1) υ' ⟨H2, f2, k2, by omega, D'', hL2.next hk.1 (by rw [e2]; exact q2) (by rw [e2]; exact hp) a0⟩ (by omega)
  refine sp_keyOf (by unfold rI; omega) (by omega) (fun _ _ => ?_)
  refine lQ4_rule (fun n' k' y5 y7 υ => k' = k ∧ y5 = 4 * lk + 2 ∧ rJ y7 ∧ HP tv cf υ S S' W r B ∧ Fr mRw σ υ ∧ RK υ ∧ k < n' ∧ gA υ 82 0 k = lk ∧ ∃ D', LI S d x (gA υ 82 0) n' k (kap y5 y7) D') (fun _ _ y5 y7 _ => (kap (y5 + 1) 0 - kap y5 y7).toNat) ?_ n k _ 0 τ ⟨rfl, rfl, by unfold rJ; omega, H, fr, rk, by omega, hlk, D, hL.skip (by unfold kap; omega) (fun y y1 y2 _ y4 => by rw [hlk] at y2; unfold ak at y4; rw [y2] at y4; unfold kap at y4; omega)⟩
  intro K' n' k' y5 y7 υ hI' hK'
  obtain ⟨ek, e5, r7, H', fr', rk', kn, lkυ, D', hL'⟩ := hI'
  rw [ek]
  have nb' := hL'.n1 hc wf
  unfold wp_House_isWithin_L47
  refine sp_Pseek hc H' (by unfold rJ; omega) r7 (fun q => ⟨fun _ => fin υ _ n' D' H' fr' rk' kn hL' (fun y y1 _ => q y y1) lkυ, fun w => absurd rfl w⟩) (fun υ1 y y1 y2 y3 hi lo sz rlo rhi H1 rd f1 k1 => ⟨fun w => absurd w (by decide), fun _ => ⟨fun ne => ?_, fun eq => ?_⟩⟩)
  · have g1 : gA υ1 82 0 = gA υ 82 0 := f1.a _ _ (fun q => by unfold mIs at q; omega)
    refine fin υ1 _ n' D' H1 (fr'.tr (f1.mono (fun f o' q => Or.inl (Or.inl (Or.inl q))))) k1 kn (by rw [g1]; exact hL') (fun v v1 v2 => Classical.byContradiction (fun q => ne ?_)) (by rw [g1]; exact lkυ)
    have a := y3 v v1 (by omega)
    have b1 := kap_hi' (h := y.1) (l := y.2.1) (h' := v.1) (l' := v.2.1) a
    have b2 := kap_hi' (h := y5) (l := y7) (h' := y.1) (l' := y.2.1) y2
    rw [show gI υ1 391 0 = y.1 from hi]
    omega
  · have hy5 : y.1 = y5 := (show gI υ1 391 0 = y.1 from hi).symm.trans eq
    have oe := (wf.iok y y1).2.1 (by omega)
    intro y7' e7
    rw [show gI υ1 392 0 = y.2.1 from lo] at e7
    have w7 : (y.2.1 = -1 → y7' = 0) ∧ (y.2.1 ≠ -1 → kap y5 y7' = ak y + 1) ∧ rJ y7' := by
      unfold rJ at rlo
      unfold ak kap rJ
      rw [e7, hy5]
      unfold w64
      omega
    have me : erow y ∈ ens S.1 := ens_mem.mpr ⟨y, y1, by omega, rfl⟩
    obtain ⟨-, ⟨kd0, s0, tn⟩, t1⟩ := wr.2.2.1 _ me
    have tr : 1 ≤ (erow y).2.2 ∧ (erow y).2.2 < S.2 := (wr.1.1 _ tn).1
    have te : rI4 y.2.2.2 28 = (erow y).2.2 := rfl
    refine rd _ 0 (Or.inl rfl) (fun υ2 b2 a2 H2 f2 k2 => ?_)
    have rg' : rowL 0 = 320 := rfl
    refine sp_rget a2 (by omega) (by omega) (by omega) (fun k3 _ _ => ?_)
    rw [show (0 : Int) + 24 + 4 = 28 by omega, rI4_row (P := y.2.2.2) (n := 48) (fun i i0 i1 => b2 i i0 (by rw [oe.1]; omega)) (by omega) (by omega), te]
    have F2 : Fr mRw υ υ2 := (f1.mono (fun f o' q => Or.inl (Or.inl (Or.inl q)))).tr (f2.mono (fun f o' q => Or.inl (Or.inl (Or.inr q))))
    have g2 : gA υ2 82 0 = gA υ 82 0 := (f2.a _ _ (fun q => by unfold mRd2 mPg mRow at q; omega)).trans (f1.a _ _ (fun q => by unfold mIs at q; omega))
    have go : ∀ (υ3 : St) (n'' : Int) D'', HP tv cf υ3 S S' W r B → Fr mRw σ υ3 → RK υ3 → gA υ3 82 0 k = lk → k < n'' → LI S d x (gA υ3 82 0) n'' k (ak y + 1) D'' → wp_House_isWithin_b195 cf tv x d Q K' (wp_House_isWithin_b208 cf tv x d Q K) n'' k y5 y7' υ3 := by
      intro υ3 n'' D'' H3 f3 k3 l3 kn3 hL3
      unfold wp_House_isWithin_b195
      refine ⟨fun nz => ?_, fun z => fin υ3 _ n'' D'' H3 f3 k3 kn3 hL3 (fun v v1 v2 => ?_) l3⟩
      · have e1 := w7.2.1 (fun q => nz (w7.1 q))
        refine hK' n'' k y5 y7' υ3 ⟨rfl, e5, w7.2.2, H3, f3, k3, kn3, l3, D'', by rw [e1]; exact hL3⟩ ?_
        show (kap (y5 + 1) 0 - kap y5 y7').toNat < (kap (y5 + 1) 0 - kap y5 y7).toNat
        have : kap y5 y7 < kap (y5 + 1) 0 := by unfold kap; omega
        omega
      · have lz : y.2.1 = -1 := Classical.byContradiction (fun q => by
          have e1 := w7.2.1 q
          unfold rJ at rlo
          rw [z] at e7
          unfold w64 at e7
          omega)
        unfold ak kap
        rw [lz, v2, hy5, e5]
        omega
    have sk : ¬ dirE S y → LI S d x (gA υ 82 0) n' k (ak y + 1) D' := fun nd => hL'.skip (by omega) (fun v v1 _ v3 v4 => by
      have := y3 v v1 v3
      have := wf.1.1.inj v1 y1 (by omega)
      rw [this]; exact nd)
    refine ⟨fun q => by omega, fun _ => ?_⟩
    refine sp_Pread hc H2 (by unfold rI; omega) (fun υ3 no H3 f3 k3' _ _ => absurd tn (no _ _)) (fun υ3 z z1 z2 z3 z4 z5 H3 f3 k3' _ _ => ⟨fun w => absurd w (by decide), fun _ => ?_⟩)
    have F3 : Fr mRw σ υ3 := (fr'.tr F2).tr (f3.mono (fun f o' q => Or.inl q))
    have g3 : gA υ3 82 0 = gA υ 82 0 := (f3.a _ _ (fun q => (mRi_k q).2 (by omega))).trans g2
    have kz : gI υ3 641 3 = rI4 z.2.2.2 28 := z5.2.1
    have zn : ((erow y).2.2, rI4 z.2.2.2 28, rI4 z.2.2.2 36) ∈ nds S.1 := by rw [← z3]; exact z4
    rw [kz]
    have nk : ¬ rI4 z.2.2.2 28 = 1 → ¬ dirE S y := fun k1' nd => k1' (by
      have := wr.u nd zn rfl
      rw [Prod.mk.injEq, Prod.mk.injEq] at this
      exact this.2.1.symm)
    refine ⟨fun k1' => go υ3 n' D' H3 F3 k3' (by rw [g3]; exact lkυ) kn (by rw [g3]; exact sk (nk k1')), fun k1' y3' e3' => ⟨by omega, fun σ57 e57 => ?_⟩⟩
    · have dy : dirE S y := by
        have s0 : rI4 z.2.2.2 36 = 0 := (wr.1.1 _ zn).2 k1'
        unfold dirE
        rw [k1', s0] at zn
        exact zn
      rw [w32_id (by unfold rI; omega)] at e3'
      rw [e3']
      have f57 : Fr mRw υ3 σ57 := by rw [e57]; exact (Fr.rf _ _).sA (Or.inr ⟨rfl, rfl⟩)
      have k57 : RK σ57 := by rw [e57]; exact k3'.sA (f := 82) (by show rI _; unfold rI; omega)
      have l57 : ∀ j, gA σ57 82 0 j = if j = n' then (erow y).2.2 else gA υ 82 0 j := fun j => by rw [e57, sA_if, g3]
      refine go σ57 (n' + 1) (D' ++ [y]) (H3.frH f57 hf k57) (F3.tr f57) k57 (by rw [l57, if_neg (by omega)]; exact lkυ) (by omega) (LI.add wf hL' ⟨hk.1, kn⟩ y1 (by rw [lkυ]; omega) y2 (fun v v1 v2 => y3 v v1 v2) dy l57)
