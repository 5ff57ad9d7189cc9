/-! Model.writePart -/
theorem rwI.th {σ τ υ : St} {w op a b c d x y g z : Int} {bs : Int → Int} (r : RWn σ τ w) (h : rwI τ w op a b c d g x y bs) (e : υ = sA τ 735 0 w z) : RWn σ υ w ∧ rwI υ w op a b z d g x y bs := by
  have f : Fr (fun f o' => (f = 735) ∧ o' = 0) τ υ := by rw [e]; exact (Fr.rf _ _).sA ⟨rfl, rfl⟩
  obtain ⟨h0, h1, h2, h3, h4, h5, h6, h7, h8, h9⟩ := h
  refine ⟨⟨r.1.tr (f.mono (fun f o' z => by omega)), fun f' hf j hj => ?_, fun j hj => ?_⟩, h0, ?_, ?_, ?_, ?_, ?_, ?_, ?_, ?_, ?_⟩
  · rw [e, gA_sA, if_neg (fun z => hj z.2.2)]
    exact r.2.1 f' hf j hj
  · rw [congrFun (f.a 740 0 (by omega)) j]; exact r.2.2 j hj
  · rw [congrFun (f.a 732 0 (by omega)) _]; exact h1
  · rw [congrFun (f.a 733 0 (by omega)) _]; exact h2
  · rw [congrFun (f.a 734 0 (by omega)) _]; exact h3
  · rw [e, gA_sA, if_pos ⟨rfl, rfl, rfl⟩]
  · rw [congrFun (f.a 736 0 (by omega)) _]; exact h5
  · rw [congrFun (f.a 737 0 (by omega)) _]; exact h6
  · rw [congrFun (f.a 738 0 (by omega)) _]; exact h7
  · rw [congrFun (f.a 739 0 (by omega)) _]; exact h8
  · unfold rowB at h9 ⊢
    rw [f.a 740 0 (by omega)]; exact h9
theorem rwI.fo {σ τ υ : St} {w op a b c d x y g z : Int} {bs : Int → Int} (r : RWn σ τ w) (h : rwI τ w op a b c d g x y bs) (e : υ = sA τ 736 0 w z) : RWn σ υ w ∧ rwI υ w op a b c z g x y bs := by
  have f : Fr (fun f o' => (f = 736) ∧ o' = 0) τ υ := by rw [e]; exact (Fr.rf _ _).sA ⟨rfl, rfl⟩
  obtain ⟨h0, h1, h2, h3, h4, h5, h6, h7, h8, h9⟩ := h
  refine ⟨⟨r.1.tr (f.mono (fun f o' z => by omega)), fun f' hf j hj => ?_, fun j hj => ?_⟩, h0, ?_, ?_, ?_, ?_, ?_, ?_, ?_, ?_, ?_⟩
  · rw [e, gA_sA, if_neg (fun z => hj z.2.2)]
    exact r.2.1 f' hf j hj
  · rw [congrFun (f.a 740 0 (by omega)) j]; exact r.2.2 j hj
  · rw [congrFun (f.a 732 0 (by omega)) _]; exact h1
  · rw [congrFun (f.a 733 0 (by omega)) _]; exact h2
  · rw [congrFun (f.a 734 0 (by omega)) _]; exact h3
  · rw [congrFun (f.a 735 0 (by omega)) _]; exact h4
  · rw [e, gA_sA, if_pos ⟨rfl, rfl, rfl⟩]
  · rw [congrFun (f.a 737 0 (by omega)) _]; exact h6
  · rw [congrFun (f.a 738 0 (by omega)) _]; exact h7
  · rw [congrFun (f.a 739 0 (by omega)) _]; exact h8
  · unfold rowB at h9 ⊢
    rw [f.a 740 0 (by omega)]; exact h9
theorem rwI.rw {σ τ υ : St} {w op a b c d x y g : Int} {bs : Int → Int} (r : RWn σ τ w) (h : rwI τ w op a b c d g x y bs) (f : Fr (fun f o' => (f = 740) ∧ o' = 0) τ υ) (ro : ∀ j, ¬ (64 * w ≤ j ∧ j < 64 * w + 64) → gA υ 740 0 j = gA τ 740 0 j) : RWn σ υ w ∧ rwI υ w op a b c d g x y (rowB υ w) := by
  obtain ⟨h0, h1, h2, h3, h4, h5, h6, h7, h8, h9⟩ := h
  refine ⟨⟨r.1.tr (f.mono (fun f o' z => by omega)), fun f' hf j hj => ?_, fun j hj => ?_⟩, h0, ?_, ?_, ?_, ?_, ?_, ?_, ?_, ?_, rfl⟩
  · rw [congrFun (f.a f' 0 (by omega)) j]; exact r.2.1 f' hf j hj
  · rw [ro j hj]; exact r.2.2 j hj
  · rw [congrFun (f.a 732 0 (by omega)) _]; exact h1
  · rw [congrFun (f.a 733 0 (by omega)) _]; exact h2
  · rw [congrFun (f.a 734 0 (by omega)) _]; exact h3
  · rw [congrFun (f.a 735 0 (by omega)) _]; exact h4
  · rw [congrFun (f.a 736 0 (by omega)) _]; exact h5
  · rw [congrFun (f.a 737 0 (by omega)) _]; exact h6
  · rw [congrFun (f.a 738 0 (by omega)) _]; exact h7
  · rw [congrFun (f.a 739 0 (by omega)) _]; exact h8
theorem WF.p1 {cf : Cf} {S : List (Int × Int × Int × (Int → Int)) × Int} (w : WF cf S) {a b : Int × Int × Int × (Int → Int)} (ha : a ∈ pcs S.1) (hb : b ∈ pcs S.1) (e1 : a.1 = b.1) (e2 : a.2.1 = b.2.1) : a = b := by
  unfold pcs pkT at ha hb
  obtain ⟨x, x1, x3⟩ := List.mem_map.mp ha
  obtain ⟨y, y1, y3⟩ := List.mem_map.mp hb
  obtain ⟨x1, x2⟩ := List.mem_filter.mp x1
  obtain ⟨y1, y2⟩ := List.mem_filter.mp y1
  have x2 : x.1 % 4 = 1 := of_decide_eq_true x2
  have y2 : y.1 % 4 = 1 := of_decide_eq_true y2
  rw [← x3, ← y3] at e1 e2
  have e1 : x.1 / 4 = y.1 / 4 := e1
  have e2 : x.2.1 = y.2.1 := e2
  have : x = y := w.1.1.inj x1 y1 (by show kap x.1 x.2.1 = kap y.1 y.2.1; rw [e2, show x.1 = y.1 by omega])
  rw [← x3, ← y3, this]
theorem GO_wr {cf : Cf} {S S2 : List (Int × Int × Int × (Int → Int)) × Int} {w T d m e c dd gn x y k f l s0 : Int} {by' b bs : Int → Int} {P0 : List (Int × Int × Int × (Int → Int))} {N0 : List (Int × Int × Int)} (hc : CfOK cf) (W : WF cf S) (pO : pcO (pcs S.1) w k l b P0) (hN : (nds S.1).Perm ((w, 2, s0) :: N0)) (hbs : bs = nwB f m d by' b) (R : RWS S2.1 ((w, 2, dd) :: N0) (ens S.1) (ats S.1) ((w, k, c, nwB f m d by' b) :: P0)) (h2 : S2.2 = S.2) : GO 6 w k c dd gn x y bs S S2 := by
  intro tv' cf' σ t g Q ht rk mr rw' kk
  have wr := W.wr
  have F := W.fts hc
  have fit := (W.x.fit hc)
  have row : (w, 2, s0) ∈ nds S.1 := hN.mem_iff.mpr List.mem_cons_self
  have cp := W.2.2.2.2.2.2.2.2.2.2.1
  have ln : (pcs S.1).length ≤ 718 := by have := fit.1; have := fit.2.1; omega
  subst hbs
  refine sp_dWrite (l0 := l) (b0 := b) (P0 := P0) rk ht mr F rw' ?_ hN (fun r hr e => wr.u hr row e) ?_ (fun τ T' o k' => kk τ (MR.of T' R h2) o k')
  · rcases pO with ⟨-, pm⟩ | ⟨-, -, q, -⟩
    · have := pm.length_eq; rw [List.length_cons] at this; omega
    · rw [q]; exact ln
  · rcases pO with ⟨-, pm⟩ | ⟨-, -, q, q'⟩
    · exact Or.inl ⟨pm, fun v hv e => W.p1 hv (pm.mem_iff.mpr List.mem_cons_self) e.1 e.2⟩
    · exact Or.inr ⟨q, q'⟩
def mMw (f : Nat) (o' : Int) : Prop := mMh f o' ∨ (f = 741 ∧ o' = 0)
theorem pcO.u {cf : Cf} {S : List (Int × Int × Int × (Int → Int)) × Int} {w k l l' : Int} {b b' : Int → Int} {P0 P1 : List (Int × Int × Int × (Int → Int))} (W : WF cf S) (h : pcO (pcs S.1) w k l b P0) (h' : pcO (pcs S.1) w k l' b' P1) : l = l' ∧ b = b' ∧ pSum P0 = pSum P1 := by
  have s1 := h.sum
  have s2 := h'.sum
  rcases h with ⟨a1, a2⟩ | ⟨a1, a2, a3, a4⟩
  · have m1 : (w, k, l, b) ∈ pcs S.1 := a2.mem_iff.mpr List.mem_cons_self
    rcases h' with ⟨b1, b2⟩ | ⟨b1, b2, b3, b4⟩
    · have m2 : (w, k, l', b') ∈ pcs S.1 := b2.mem_iff.mpr List.mem_cons_self
      have := W.p1 m1 m2 rfl rfl
      rw [Prod.mk.injEq, Prod.mk.injEq, Prod.mk.injEq] at this
      obtain ⟨-, -, e1, e2⟩ := this
      rw [e1] at s1
      exact ⟨e1, e2, by omega⟩
    · exact absurd ⟨rfl, rfl⟩ (b4 _ m1)
  · rcases h' with ⟨b1, b2⟩ | ⟨b1, b2, b3, b4⟩
    · exact absurd ⟨rfl, rfl⟩ (a4 _ (b2.mem_iff.mpr List.mem_cons_self))
    · exact ⟨by omega, by rw [a2, b2], by rw [a3, b3]⟩
/-- a row, whatever is done with it -/
theorem sp_grpR {tv : Nat → Int} {cf : Cf} {σ : St} {S S' : List (Int × Int × Int × (Int → Int)) × Int} {W : List (Int × (List (Int × Int × Int × (Int → Int)) × Int))} {p : Int} {op a b : Int} {K : Int → St → Prop} (hrk : RK σ) (m : MP cf σ S S' W p) (ho : rI op) (ha : rI a) (hb : rI b) (hK : ∀ τ c d x y bs, RWn σ τ W.length → rwI τ W.length op a b c d 0 x y bs → RK τ → K W.length τ) : wp_Model_group cf tv op a b (fun r τ => rI r → RK τ → K r τ) σ := by
  obtain ⟨-, -, ⟨gw, hw, h7⟩, -⟩ := m
  refine sp_Mgroup hrk hw (by omega) ho ha hb (fun τ1 o1 o2 o3 o4 o5 f1 k1 _ _ => ?_)
  refine hK τ1 _ _ _ _ _ ⟨f1.mono (fun f o' z => by omega), fun f hf j hj => o5 f hf j hj, fun j _ => ?_⟩ ⟨by omega, o1, o2, o3, rfl, rfl, o4, rfl, rfl, rfl⟩ k1
  rw [congrFun (f1.a 740 0 (by omega)) j]
theorem WF.pz {cf : Cf} {S : List (Int × Int × Int × (Int → Int)) × Int} (w : WF cf S) {a : Int × Int × Int × (Int → Int)} (ha : a ∈ pcs S.1) : ∀ i, ¬ (0 ≤ i ∧ i < a.2.2.1) → a.2.2.2 i = 0 := by
  unfold pcs pkT at ha
  obtain ⟨x, x1, x3⟩ := List.mem_map.mp ha
  obtain ⟨x1, x2⟩ := List.mem_filter.mp x1
  have x2 : x.1 % 4 = 1 := of_decide_eq_true x2
  have o := (w.iok x x1).2.2.2.1 x2
  intro i hi
  rw [← x3] at hi ⊢
  have hi : ¬ (0 ≤ i ∧ i < plen x) := hi
  show (if 0 ≤ i ∧ i < 64 then x.2.2.2 (32 + i) else 0) = 0
  by_cases q : 0 ≤ i ∧ i < 64
  · rw [if_pos q]; exact o.2.2.2.2.2 i (by omega)
  · rw [if_neg q]
theorem sp_MwrP {tv : Nat → Int} {cf : Cf} {σ : St} {S S' : List (Int × Int × Int × (Int → Int)) × Int} {W : List (Int × (List (Int × Int × Int × (Int → Int)) × Int))} {p : Int} {w T d m v way s : Int} {by' : Int → Int} {Q : Int → St → Prop} (hc : CfOK cf) (hrk : RK σ) (mp : MP cf σ S S' W p) (hw : (w, 2, s) ∈ nds S.1) (hT : 0 ≤ T) (hd : 0 ≤ d ∧ d + m ≤ 2048) (hm : 1 ≤ m ∧ (T + d) % 64 + m ≤ 64) (hTm : T + d + m ≤ 16384) (hbr : ∀ i, rB (by' i))
    (hby : ∀ i, d ≤ i → i < d + m → (way = 2 → gA σ 742 0 i = by' i) ∧ (way = 1 → b8 (w32 (w64 (v + w64 (7 * i)))) = by' i) ∧ (way ≠ 1 → way ≠ 2 → b8 (w32 (lshr v (w32 (8 * i)))) = by' i))
    (hF : wrF cf S w T d m → Q 0 σ)
    (hS : ¬ wrF cf S w T d m → ∃ S2 e p0 S0 W0 n, wrS cf S S2 w T d m by' e ∧ TM cf p e S S' W p0 S0 W0 ∧ SFo (p0 + e) (W0 ++ [(p0 + e, S2)]) n ∧ ∀ τ, MP cf τ S2 (laS S0 ((W0 ++ [(p0 + e, S2)]).take n)) ((W0 ++ [(p0 + e, S2)]).drop n) (p0 + e) → Fr mMw σ τ → RK τ → Q 1 τ) : wp_Model_writePart cf tv w (T + d) m d v way Q σ := by
  have m' := mp
  obtain ⟨⟨m0, m1⟩, ⟨w0, w1, w2⟩, ⟨gw, hw', h7⟩, l', on, q, q'⟩ := m'
  have F := w0.fts hc
  have wr := w0.wr
  have nn := m0.n
  have c0 := cpM_0 hc w0
  have cp := w0.2.2.2.2.2.2.2.2.2.2.1
  have cl := capa_le hc
  have fit := (w0.x.fit hc).2.2
  have wR : 1 ≤ w ∧ w < S.2 := (wr.1.1 _ hw).1
  have rw0 : rI w := by
    obtain ⟨i, i0, i1, i2⟩ := (TR.mn m0).mp hw
    have : gA σ 714 0 (700 * 0 + i) = w := congrArg (fun r => r.1) i2
    rw [← this]; exact hrk.2 714 0 _
  have F3 := F.2.2
  unfold wp_Model_writePart
  intro k ek f ef
  rw [jdv_nn (by omega) (by omega) (by omega)] at ek
  rw [jrm_nn (by omega) (by omega) (by omega)] at ef
  have hkf : T + d = 64 * k + f ∧ 0 ≤ f ∧ f + m ≤ 64 ∧ 0 ≤ k ∧ k < 256 := by omega
  -- behind the search of the piece
  have main : ∀ (y l : Int) (b : Int → Int) (P0 : List (Int × Int × Int × (Int → Int))), pcO (pcs S.1) w k l b P0 → (0 ≤ l ∧ l ≤ 64) → (∀ i, ¬ (0 ≤ i ∧ i < l) → b i = 0) → ((y = -1 ∧ l = 0) ∨ (y ≠ -1 ∧ 1 ≤ l ∧ (0 ≤ y ∧ y < 1440) ∧ ∀ i, 0 ≤ i → i < l → gA σ 729 0 (64 * y + i) = b i)) → wp_Model_writePart_b39 cf tv w (T + d) m d v way Q k f y l σ := by
    intro y l b P0 pO hl hbz hy
    generalize hln : max l (f + m) = ln
    have lnr : 1 ≤ ln ∧ ln ≤ 64 ∧ l ≤ ln ∧ f + m ≤ ln := by omega
    have b80 : wp_Model_writePart_b80 cf tv w (T + d) m d v way Q k f y l ln (szp l) σ := by
      unfold wp_Model_writePart_b80
      have sl : 0 ≤ szp l ∧ szp l ≤ 288 := by unfold szp; split <;> omega
      have sn : szp ln = 224 + (ln + 7) / 8 * 8 := by unfold szp; rw [if_neg (by omega)]
      refine sp_Mlive (t := 0) hrk m0 F (fun r hr => by have := (fit r hr).1; omega) (fun _ _ => ?_)
      have lv : 240 * ((nds S.1).length + (ens S.1).length + (ats S.1).length : Int) + pSum (pcs S.1) = cpM S.1 := w0.szr.symm
      rw [lv]
      refine sp_Meights (by omega) (fun _ _ => ?_)
      rw [w32_id (x := cpM S.1 - szp l) (by unfold rI; omega), w32_id (x := cpM S.1 - szp l + 224) (by unfold rI; omega), w32_id (by unfold rI; omega), cap_e]
      refine ⟨fun hcap => ?_, fun hcap => hF ⟨k, f, l, b, P0, ⟨hkf.1, hkf.2.1, hkf.2.2.1, hm.1⟩, pO, by rw [hln, sn]; omega⟩⟩
      have nF : ¬ wrF cf S w T d m := fun ⟨k', f', l2, b2, P2, ⟨x1, x2, x3, x4⟩, pO2, x5⟩ => by
        have ek' : k' = k := by omega
        have ef' : f' = f := by omega
        rw [ek'] at pO2
        obtain ⟨u1, u2, u3⟩ := pO.u w0 pO2
        rw [← u1, ef', hln, sn] at x5
        omega
      obtain ⟨S2, e, p0, S0, W0, n, ⟨k', f', l2, b2, P2, s2, N2, ⟨x1, x2, x3, x4⟩, pO2, ⟨x5, x6⟩, hN, R, h2, wS2, ee, x7⟩, ht, hsf, hQ⟩ := hS nF
      have ek' : k' = k := by omega
      have ef' : f' = f := by omega
      rw [ek'] at pO2 R
      rw [ef'] at R ee
      obtain ⟨u1, u2, u3⟩ := pO.u w0 pO2
      rw [← u1, hln] at ee R
      rw [← u1, ← u2] at pO2
      rw [← u2] at R
      -- the old bytes
      refine lQ6_rule (fun a1 a2 a3 a4 a5 i υ => a1 = k ∧ a2 = f ∧ a3 = y ∧ a4 = l ∧ a5 = ln ∧ (0 ≤ i ∧ i ≤ 64) ∧ RK υ ∧ Fr (fun f o' => f = 741 ∧ o' = 0) σ υ ∧ ∀ q, 0 ≤ q → q < i → gA υ 741 0 q = b q) (fun _ _ _ _ _ i _ => (64 - i).toNat) ?_ k f y l ln 0 σ ⟨rfl, rfl, rfl, rfl, rfl, by omega, hrk, Fr.rf _ _, fun q q0 q1 => by omega⟩
      intro K a1 a2 a3 a4 a5 i υ hI hK
      obtain ⟨y1, y2, y3, y4, y5, hi, kυ, fυ, bυ⟩ := hI
      rw [y1, y2, y3, y4, y5]
      unfold wp_Model_writePart_L111
      refine ⟨fun g => ?_, fun g => ?_⟩
      · have ei : i = 64 := by omega
        rw [ei] at bυ
        -- the new bytes
        refine lQ4_rule (fun a1 a2 a3 j ω => a1 = k ∧ a2 = f ∧ a3 = ln ∧ (0 ≤ j ∧ j ≤ m) ∧ RK ω ∧ Fr (fun f o' => f = 741 ∧ o' = 0) σ ω ∧ ∀ q, 0 ≤ q → q < 64 → gA ω 741 0 q = if f ≤ q ∧ q < f + j then by' (d + (q - f)) else b q) (fun _ _ _ j _ => (m - j).toNat) ?_ k f ln 0 υ ⟨rfl, rfl, rfl, by omega, kυ, fυ, fun q q0 q1 => by rw [if_neg (by omega)]; exact bυ q q0 q1⟩
        intro K2 a1 a2 a3 j ω hI2 hK2
        obtain ⟨z1, z2, z3, hj, kω, fω, bω⟩ := hI2
        rw [z1, z2, z3]
        have mω := mp.fr fω (fun g a b => by omega)
        unfold wp_Model_writePart_L158
        refine ⟨fun g => ?_, fun g => ?_⟩
        · have ej : j = m := by omega
          rw [ej] at bω
          refine sp_MnodeOf kω (Or.inl rfl) mω.1.1 F (fun no _ _ => absurd rfl (no _ hw)) (fun i2 p0' p1' p2' _ _ => ?_)
          have nω := mω.1.1.n
          refine ⟨by have := F.1.1; omega, fun y14 e14 => ?_⟩
          have row : mnR ω 0 i2 ∈ nds S.1 := (TR.mn mω.1.1).mpr ⟨i2, p0', p1', rfl⟩
          have rowS : (w, 2, s2) ∈ nds S.1 := hN.mem_iff.mpr List.mem_cons_self
          have es : y14 = s2 := by
            have := wr.u row rowS p2'
            have : gA ω 716 0 (700 * 0 + i2) = s2 := congrArg (fun r => r.2.2) this
            rw [e14]; exact this
          rw [es]
          have sR : 0 ≤ s2 ∧ s2 ≤ 16384 := (w0.nk rowS).2.2
          have fin : ∀ (τ : St) (z c dd x' y' : Int) (bs' : Int → Int), z = max s2 (T + d + m) → RWn ω τ W.length → rwI τ W.length 6 w k ln dd 0 x' y' bs' → RK τ → wp_Model_writePart_b287 cf tv w (T + d) m d v way Q ln W.length z W.length τ := by
            intro τ z c dd x' y' bs' ez rn hg kτ
            unfold wp_Model_writePart_b287
            refine ⟨by omega, fun σ93 e93 => ?_⟩
            obtain ⟨rn2, hg2⟩ := rwI.fo rn hg e93
            have k93 : RK σ93 := by rw [e93]; exact kτ.sA (f := 736) (by show rI z; unfold rI; omega)
            refine lQ3_rule (fun a1 a2 i υ => a1 = ln ∧ a2 = W.length ∧ (0 ≤ i ∧ i ≤ 64) ∧ RK υ ∧ Fr (fun f o' => f = 740 ∧ o' = 0) σ93 υ ∧ (∀ q, ¬ (64 * (W.length : Int) ≤ q ∧ q < 64 * (W.length : Int) + 64) → gA υ 740 0 q = gA σ93 740 0 q) ∧ ∀ q, 0 ≤ q → q < i → gA υ 740 0 (64 * W.length + q) = gA ω 741 0 q) (fun _ _ i _ => (64 - i).toNat) ?_ ln W.length 0 σ93 ⟨rfl, rfl, by omega, k93, Fr.rf _ _, fun _ _ => rfl, fun q q0 q1 => by omega⟩
            intro K3 a1 a2 i υ3 hI3 hK3
            obtain ⟨t1, t2, hi3, k3, f3, o3, b3⟩ := hI3
            rw [t1, t2]
            unfold wp_Model_writePart_L291
            refine ⟨fun g => ?_, fun g => ?_⟩
            · have ei : i = 64 := by omega
              rw [ei] at b3
              obtain ⟨rn3, hg3⟩ := rwI.rw rn2 hg2 f3 o3
              refine sp_Meights (by omega) (fun _ _ => ?_)
              rw [w32_id (x := 80 + (ln + 7) / 8 * 8) (by unfold rI; omega), ← ee]
              have hbs : rowB υ3 W.length = nwB f m d by' b := by
                funext q
                unfold rowB
                by_cases qq : 0 ≤ q ∧ q < 64
                · rw [if_pos qq, b3 q qq.1 qq.2, bω q qq.1 qq.2]; rfl
                · rw [if_neg qq]; unfold nwB; rw [if_neg (by omega)]; exact (hbz q (by omega)).symm
              rw [ez] at hg3
              refine sp_handM hc k3 mω rn3 wS2 hg3 (GO_wr (T := T) (e := e) hc w0 pO2 hN hbs R h2) (by omega) ht hsf (fun τ2 M f2 k2 _ => ?_)
              exact hQ τ2 M ((fω.mono (fun f o' => Or.inr)).tr (((rn3.1.mono (fun f o' z => by unfold mMh; omega)).tr f2).mono (fun f o' => Or.inl))) k2
            · have wl := h7
              rw [w32_id (x := 64 * (W.length : Int)) (by unfold rI; omega), w32_id (by unfold rI; omega)]
              refine ⟨by omega, by omega, fun σ89 e89 i2 ei2 => ?_⟩
              rw [w32_id (by unfold rI; omega)] at ei2
              rw [ei2]
              have fr' : gA υ3 741 0 i = gA ω 741 0 i := by
                rw [f3.a _ _ (by omega), e93, gA_sAo (by decide), rn.1.a _ _ (by omega)]
              refine hK3 ln W.length (i + 1) σ89 ⟨rfl, rfl, by omega, by rw [e89]; exact k3.sA (f := 740) (k3.2 741 0 i), f3.tr (by rw [e89]; exact (Fr.rf _ _).sA ⟨rfl, rfl⟩), fun q hq => ?_, fun q q0 q1 => ?_⟩ (by omega)
              · rw [e89, sA_if, if_neg (by omega)]; exact o3 q hq
              · rw [e89, sA_if]
                by_cases v1 : q = i
                · rw [v1, if_pos rfl]; exact fr'
                · rw [if_neg (by omega)]; exact b3 q q0 (by omega)
          refine sp_grpR kω mω (by unfold rI; omega) rw0 (by unfold rI; omega) (fun τ cc dd x' y' bs' rn hg kτ => ⟨by omega, fun σ101 e101 => ?_⟩)
          obtain ⟨rn2, hg2⟩ := rwI.th rn hg e101
          have k101 : RK σ101 := by rw [e101]; exact kτ.sA (f := 735) (by show rI ln; unfold rI; omega)
          rw [w32_id (x := T + d + m) (by unfold rI; omega)]
          exact ⟨fun g => fin σ101 s2 0 dd x' y' bs' (by omega) rn2 hg2 k101, fun g => fin σ101 (T + d + m) 0 dd x' y' bs' (by omega) rn2 hg2 k101⟩
        · have put : wp_Model_writePart_b225 cf tv w (T + d) m d v way Q K2 k f ln j (by' (d + j)) (f + j) ω := by
            unfold wp_Model_writePart_b225
            refine ⟨by omega, fun σ91 e91 j2 ej2 => ?_⟩
            rw [w32_id (by unfold rI; omega)] at ej2
            rw [ej2]
            refine hK2 k f ln (j + 1) σ91 ⟨rfl, rfl, rfl, by omega, by rw [e91]; exact kω.sA (f := 741) (hbr _), fω.tr (by rw [e91]; exact (Fr.rf _ _).sA ⟨rfl, rfl⟩), fun q q0 q1 => ?_⟩ (by omega)
            rw [e91, sA_if]
            by_cases e : q = f + j
            · rw [if_pos e, if_pos (by omega), e]; congr 1; omega
            · rw [if_neg e]
              rw [show gA ω 741 0 q = _ from bω q q0 q1]
              by_cases v1 : f ≤ q ∧ q < f + j
              · rw [if_pos v1, if_pos (by omega)]
              · rw [if_neg v1, if_neg (by omega)]
          have hb' := hby (d + j) (by omega) (by omega)
          intro y15 e15
          rw [w32_id (x := d + j) (by unfold rI; omega)] at e15
          rw [e15, w32_id (x := f + j) (by unfold rI; omega)]
          unfold wp_Model_writePart_b223
          refine ⟨fun w2' => ⟨fun w1' => ?_, fun w1' => ?_⟩, fun w2' => ⟨by omega, ?_⟩⟩
          · rw [hb'.2.2 w1' w2']; exact put
          · rw [hb'.2.1 w1']; exact put
          · rw [fω.a 742 0 (by omega), show gA σ 742 0 (d + j) = by' (d + j) from hb'.1 w2']; exact put
      · have put : ∀ z, z = b i → rB z → wp_Model_writePart_b148 cf tv w (T + d) m d v way Q K k f y l ln i z i υ := by
          intro z ez rz
          unfold wp_Model_writePart_b148
          refine ⟨by omega, fun σ94 e94 i2 ei2 => ?_⟩
          rw [w32_id (by unfold rI; omega)] at ei2
          rw [ei2]
          refine hK k f y l ln (i + 1) σ94 ⟨rfl, rfl, rfl, rfl, rfl, by omega, by rw [e94]; exact kυ.sA (f := 741) rz, fυ.tr (by rw [e94]; exact (Fr.rf _ _).sA ⟨rfl, rfl⟩), fun q q0 q1 => ?_⟩ (by omega)
          rw [e94, sA_if]
          by_cases e : q = i
          · rw [if_pos e, ez, e]
          · rw [if_neg e]; exact bυ q q0 (by omega)
        refine ⟨fun g2 => put 0 (hbz i (by omega)).symm (by unfold rB; omega), fun g2 => ?_⟩
        rcases hy with ⟨y1', y2'⟩ | ⟨y1', y2', y3', y4'⟩
        · omega
        · rw [w32_id (x := 64 * y) (by unfold rI; omega), w32_id (x := 64 * y + i) (by unfold rI; omega)]
          refine ⟨by omega, put _ ?_ (kυ.2 729 0 _)⟩
          rw [fυ.a 729 0 (by omega)]
          exact y4' i (by omega) (by omega)
    have b59 : wp_Model_writePart_b59 cf tv w (T + d) m d v way Q k f y l ln σ := by
      unfold wp_Model_writePart_b59
      refine ⟨fun ny => ?_, fun ny => ?_⟩
      · refine sp_Meights (by omega) (fun _ _ => ?_)
        rw [w32_id (x := 224 + (l + 7) / 8 * 8) (by unfold rI; omega)]
        rcases hy with ⟨y1', -⟩ | ⟨-, y2', -⟩
        · exact absurd y1' ny
        · have : szp l = 224 + (l + 7) / 8 * 8 := by unfold szp; rw [if_neg (by omega)]
          rw [← this]; exact b80
      · rcases hy with ⟨-, y2'⟩ | ⟨y1', -⟩
        · have : szp l = 0 := by unfold szp; rw [if_pos y2']
          rw [this] at b80; exact b80
        · exact absurd ny y1'
    unfold wp_Model_writePart_b39
    rw [w32_id (x := f + m) (by unfold rI; omega)]
    exact ⟨fun g => by rw [show ln = l by omega] at b59; exact b59, fun g => by rw [show ln = f + m by omega] at b59; exact b59⟩
  refine sp_MpieceOf hrk (Or.inl rfl) m0 F (fun no _ _ => ⟨fun g => absurd rfl g, fun _ => ?_⟩) (fun i i0 i1 i2 i3 _ _ => ⟨fun _ => ⟨by omega, ?_⟩, fun g => by omega⟩)
  · exact main (-1) 0 (fun _ => 0) (pcs S.1) (Or.inr ⟨rfl, rfl, rfl, fun p hp => no p hp⟩) (by omega) (fun _ _ => rfl) (Or.inl ⟨rfl, rfl⟩)
  · have row : mpR σ 0 i ∈ pcs S.1 := (TR.mp m0).mpr ⟨i, i0, i1, rfl⟩
    have rowe : mpR σ 0 i = (w, k, gA σ 728 0 (720 * 0 + i), fun j => if 0 ≤ j ∧ j < 64 then gA σ 729 0 (64 * (720 * 0 + i) + j) else 0) := by unfold mpR; rw [i2, i3]
    rw [rowe] at row
    have ft := (fit _ row).1
    have ft : 1 ≤ gA σ 728 0 (720 * 0 + i) ∧ gA σ 728 0 (720 * 0 + i) ≤ 64 := ft
    obtain ⟨u, v', uv⟩ := List.append_of_mem row
    refine main (720 * 0 + i) _ _ (u ++ v') (Or.inl ⟨ft.1, by rw [uv]; exact List.perm_middle⟩) (by omega) (w0.pz row) (Or.inr ⟨by omega, ft.1, by omega, fun j j0 j1 => ?_⟩)
    show _ = if 0 ≤ j ∧ j < 64 then gA σ 729 0 (64 * (720 * 0 + i) + j) else 0
    rw [if_pos (by omega)]
