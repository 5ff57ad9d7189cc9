/-! the tree is read: the index and the nodes, as they are meant -/
theorem PX.fr {tv : Nat → Int} {cf : Cf} {σ τ : St} {dk : Int → Int} {db : Int → Int → Int} {L : List (Int × Int × Int × Int × Int × Int)} {S' : List (Int × Int × Int × (Int → Int)) × Int} {W : List (Int × (List (Int × Int × Int × (Int → Int)) × Int))} {r : RT} {B : Int} {M : Nat → Int → Prop} (h : PX tv cf σ dk db L S' W r B) (fr : Fr M σ τ) (n : ∀ f o', M f o' → ¬ relF f ∧ ¬ rBI 0 f o') (rk : RK τ) : PX tv cf τ dk db L S' W r B := by
  obtain ⟨Sp, d, s, x, op⟩ := h.opn
  exact op τ M B fr (fun f o' a q => (n f o' q).1 a) rk (d.fr fr (fun f o' a q => (n f o' q).2 a)) (Int.le_refl _)
/-- what is needed to read -/
def RD (tv : Nat → Int) (cf : Cf) (σ : St) (dk : Int → Int) (db : Int → Int → Int) (L : List (Int × Int × Int × Int × Int × Int)) : Prop := (∃ Sp B, DJ tv cf σ 0 dk db Sp B) ∧ SA tv cf σ dk db L
theorem PX.rd {tv : Nat → Int} {cf : Cf} {σ : St} {dk : Int → Int} {db : Int → Int → Int} {L : List (Int × Int × Int × Int × Int × Int)} {S' : List (Int × Int × Int × (Int → Int)) × Int} {W : List (Int × (List (Int × Int × Int × (Int → Int)) × Int))} {r : RT} {B : Int} (h : PX tv cf σ dk db L S' W r B) : RD tv cf σ dk db L := by
  obtain ⟨Sp, d, s, x, op⟩ := h.opn
  exact ⟨⟨Sp, B, d⟩, s⟩
/-- fields that readers touch -/
def mHR (f : Nat) (o' : Int) : Prop := (64 ≤ f ∧ f < 128 ∧ f ≠ 73) ∨ (f = 135 ∧ o' = 0) ∨ (f = 201 ∧ o' = 0) ∨ mIs 0 f o' ∨ (512 ≤ f ∧ f < 576) ∨ (640 ≤ f ∧ f < 704)
theorem mHR_n {f : Nat} {o' : Int} (h : mHR f o') : ¬ relF f ∧ ¬ rBI 0 f o' := by
  unfold mHR mIs at h
  unfold relF rBI
  omega
theorem RD.fr {tv : Nat → Int} {cf : Cf} {σ : St} {dk : Int → Int} {db : Int → Int → Int} {L : List (Int × Int × Int × Int × Int × Int)} {τ : St} {M : Nat → Int → Prop} (h : RD tv cf σ dk db L) (fr : Fr M σ τ) (n : ∀ f o', M f o' → mHR f o') (rk : RK τ) : RD tv cf τ dk db L := by
  obtain ⟨⟨Sp, B, d⟩, s⟩ := h
  refine ⟨⟨Sp, B, d.fr fr (fun f o' a q => (mHR_n (n f o' q)).2 a)⟩, s.fr fr (fun f o' a q => ?_) rk⟩
  have := (mHR_n (n f o' q)).1
  unfold mSA at a
  unfold relF at this
  omega
theorem RD.rk {tv : Nat → Int} {cf : Cf} {σ : St} {dk : Int → Int} {db : Int → Int → Int} {L : List (Int × Int × Int × Int × Int × Int)} (h : RD tv cf σ dk db L) : RK σ := h.2.1.2
/-- the entry that was found -/
def CU (σ : St) (e : Int × Int × Int × Int × Int × Int) : Prop := gI σ 391 0 = e.1 ∧ gI σ 392 0 = e.2.1 ∧ gI σ 393 0 = e.2.2.1 ∧ gI σ 394 0 = e.2.2.2.1 ∧ gI σ 395 0 = e.2.2.2.2.1
theorem CU.fr {σ τ : St} {e : Int × Int × Int × Int × Int × Int} {M : Nat → Int → Prop} (h : CU σ e) (f : Fr M σ τ) (n : ∀ g, 391 ≤ g → g ≤ 397 → ¬ M g 0) : CU τ e := by
  unfold CU
  rw [f.i 391 0 (n _ (by decide) (by decide)), f.i 392 0 (n _ (by decide) (by decide)), f.i 393 0 (n _ (by decide) (by decide)), f.i 394 0 (n _ (by decide) (by decide)), f.i 395 0 (n _ (by decide) (by decide))]
  exact h
theorem RD.ev {tv : Nat → Int} {cf : Cf} {σ : St} {dk : Int → Int} {db : Int → Int → Int} {L : List (Int × Int × Int × Int × Int × Int)} (h : RD tv cf σ dk db L) {e : Int × Int × Int × Int × Int × Int} (he : e ∈ L) : 40 ≤ e.2.2.2.2.1 ∧ e.2.2.2.2.1 ≤ 96 := (h.2.2.1.2.2 e he).2.1.n
theorem RD.srt {tv : Nat → Int} {cf : Cf} {σ : St} {dk : Int → Int} {db : Int → Int → Int} {L : List (Int × Int × Int × Int × Int × Int)} (h : RD tv cf σ dk db L) : Srt L := h.2.2.1.1.1.srt
theorem RD.hi {tv : Nat → Int} {cf : Cf} {σ : St} {dk : Int → Int} {db : Int → Int → Int} {L : List (Int × Int × Int × Int × Int × Int)} (h : RD tv cf σ dk db L) {e : Int × Int × Int × Int × Int × Int} (he : e ∈ L) : 0 ≤ e.1 ∧ e.1 < 4294967296 := by
  have v := h.2.2.1.2.2 e he
  have j := v.2.1.2.2
  rw [← v.2.2.2.1]
  unfold hiN hiT
  split
  · omega
  · split
    · omega
    · split <;> omega
theorem RD.lo {tv : Nat → Int} {cf : Cf} {σ : St} {dk : Int → Int} {db : Int → Int → Int} {L : List (Int × Int × Int × Int × Int × Int)} (h : RD tv cf σ dk db L) {e : Int × Int × Int × Int × Int × Int} (he : e ∈ L) : rJ e.2.1 := by
  have v := h.2.2.1.2.2 e he
  rw [← v.2.2.2.2.1]
  exact loN_r _ _
theorem sp_hseek {tv : Nat → Int} {cf : Cf} {σ : St} {dk : Int → Int} {db : Int → Int → Int} {L : List (Int × Int × Int × Int × Int × Int)} {x l : Int} {Q : Int → St → Prop} (h : RD tv cf σ dk db L) (hx : rJ x) (hl : rJ l) (h0 : (∀ e, e ∈ L → kyE e < kap x l) → Q 0 σ)
    (h1 : ∀ τ A B e, L = A ++ e :: B → (∀ a, a ∈ A → kyE a < kap x l) → kap x l ≤ kyE e → CU τ e → Fr (mIs 0) σ τ → Q 1 τ) : wp_Index_seek cf tv 0 x l Q σ :=
  sp_iseek h.rk hx hl h.2.2.1.1.1 h0 (fun τ A B e q1 q2 q3 q4 q5 q6 q7 q8 f => h1 τ A B e q1 q2 q3 ⟨q4, q5, q6, q7, q8⟩ f)
theorem sp_hnext {tv : Nat → Int} {cf : Cf} {σ : St} {dk : Int → Int} {db : Int → Int → Int} {L : List (Int × Int × Int × Int × Int × Int)} {A B : List (Int × Int × Int × Int × Int × Int)} {e : Int × Int × Int × Int × Int × Int} {Q : Int → St → Prop} (h : RD tv cf σ dk db L) (hL : L = A ++ e :: B) (hC : CU σ e) (h0 : B = [] → Q 0 σ)
    (h1 : ∀ τ y B', B = y :: B' → CU τ y → Fr (mIs 0) σ τ → Q 1 τ) : wp_Index_next cf tv 0 Q σ := by
  have srt := h.srt
  have he : e ∈ L := by rw [hL]; exact List.mem_append_right _ List.mem_cons_self
  have hh := h.hi he
  obtain ⟨c1, c2, c3⟩ := hC
  have sp := srt_mid (by rw [← hL]; exact srt)
  have ke : kap e.1 e.2.1 = kyE e := rfl
  refine sp_inext h.rk c1 c2 (by omega) h.2.2.1.1.1 (fun q => ?_) (fun τ A' B' y q1 q2 q3 q4 q5 q6 q7 q8 f => ?_)
  · rcases B with _ | ⟨y, B'⟩
    · exact h0 rfl
    · exfalso
      have a := sp.2 y List.mem_cons_self
      have b := q y (by rw [hL]; exact List.mem_append_right _ (List.mem_cons_of_mem _ List.mem_cons_self))
      omega
  · rw [ke] at q2 q3
    -- y is the first of B
    have yB : y ∈ B := by
      have ym : y ∈ A ++ e :: B := by rw [← hL, q1]; exact List.mem_append_right _ List.mem_cons_self
      rcases List.mem_append.mp ym with w | w
      · have := sp.1 y w; omega
      · rcases List.mem_cons.mp w with w | w
        · rw [w] at q3; omega
        · exact w
    rcases B with _ | ⟨z, B2⟩
    · exact absurd yB List.not_mem_nil
    · have zy : z = y := by
        have zm : z ∈ A' ++ y :: B' := by rw [← q1, hL]; exact List.mem_append_right _ (List.mem_cons_of_mem _ List.mem_cons_self)
        have sp' := srt_mid (by rw [← q1]; exact srt)
        have kz := sp.2 z List.mem_cons_self
        have sz : (z :: B2).Pairwise (fun a b => kyE a < kyE b) := by
          have := srt
          rw [hL] at this
          exact (List.pairwise_cons.mp (List.pairwise_append.mp this).2.1).2
        rcases List.mem_cons.mp yB with w | w
        · exact w.symm
        · have a := (List.pairwise_cons.mp sz).1 y w
          rcases List.mem_append.mp zm with u | u
          · have := q2 z u; omega
          · rcases List.mem_cons.mp u with u | u
            · exact u
            · have := sp'.2 z u; omega
      rw [zy] at h1
      exact h1 τ y B2 rfl ⟨q4, q5, q6, q7, q8⟩ f
theorem sp_hfind {tv : Nat → Int} {cf : Cf} {σ : St} {dk : Int → Int} {db : Int → Int → Int} {L : List (Int × Int × Int × Int × Int × Int)} {x l : Int} {Q : Int → St → Prop} (h : RD tv cf σ dk db L) (hx : rJ x) (hl : rJ l) (h0 : ∀ τ, (∀ e, e ∈ L → kyE e ≠ kap x l) → Fr (mIs 0) σ τ → Q 0 τ)
    (h1 : ∀ τ A B e, L = A ++ e :: B → e.1 = x ∧ e.2.1 = l → CU τ e → Fr (mIs 0) σ τ → Q 1 τ) : wp_Index_find cf tv 0 x l Q σ := by
  refine sp_find h.rk hx hl h.2.2.1.1.1 (fun τ A B q1 q2 q3 f => h0 τ (fun e he w => ?_) f) (fun τ A B y k q1 q2 q3 q4 q5 q6 q7 q8 q9 q10 q11 q12 q13 f => h1 τ A B (en σ y k) q1 q11 ⟨by rw [q11.1]; exact q12, by rw [q11.2]; exact q13, q8, q9, q10⟩ f)
  rw [q1] at he
  rcases List.mem_append.mp he with u | u
  · have := q2 e u; omega
  · have := q3 e u; omega
/-- fields: the index's finding, the row, what reading a page touches -/
def mR0 (r : Int) (f : Nat) (o' : Int) : Prop := mIs 0 f o' ∨ mRd2 0 r f o'
theorem mR0_h {r : Int} {f : Nat} {o' : Int} (h : mR0 r f o') : mHR f o' := by
  unfold mR0 mRd2 mPg mRow mIs at h
  unfold mHR mIs
  omega
theorem sp_hread {tv : Nat → Int} {cf : Cf} {σ : St} {dk : Int → Int} {db : Int → Int → Int} {L : List (Int × Int × Int × Int × Int × Int)} {r : Int} {e : Int × Int × Int × Int × Int × Int} {Q : St → Prop} (hc : CfOK cf) (h : RD tv cf σ dk db L) (he : e ∈ L) (hC : CU σ e) (hr : r = 0 ∨ r = 7)
    (hQ : ∀ τ, (∀ k, 24 ≤ k → k < e.2.2.2.2.1 → gA τ 512 r k = (anE db e).2.2.2 k) → gI τ 513 r = 0 → CU τ e → Fr (mRd2 0 r) σ τ → RK τ → Q τ) : wp_Store_read cf tv 0 (gI σ 393 0) (gI σ 394 0) (gI σ 395 0) r (fun σ1 => RK σ1 → Q σ1) σ := by
  have hR : 0 ≤ cf.2.2 ∧ cf.2.2 ≤ 4 := hc.2.2
  obtain ⟨c1, c2, c3, c4, c5⟩ := id hC
  obtain ⟨v1, v2, v3, v4, v5, v6, v7⟩ := h.2.2.1.2.2 e he
  have nn := v2.n
  have rl : 320 ≤ rowL r := by
    rcases hr with w | w
    · rw [w]; decide
    · rw [w]; decide
  obtain ⟨⟨Sp, B, d⟩, s⟩ := h
  rw [c3, c4, c5]
  refine sp_sread hc d s.1.1 ⟨by omega, v1.2⟩ v6.1 (by omega) (by omega) v7 (fun τ q1 q2 q3 q4 f rk => hQ τ (fun k k0 k1 => ?_) q3 (hC.fr f (fun g a b q => by unfold mRd2 mPg mRow at q; omega)) f rk)
  rw [q1 k (by omega) k1]
  show _ = pay (db e.2.2.1) e.2.2.2.1 e.2.2.2.2.1 k
  unfold pay
  rw [if_pos ⟨k0, k1⟩]
theorem rI4_row {g P : Int → Int} {n k : Int} (h : ∀ i, 24 ≤ i → i < n → g i = P i) (k0 : 24 ≤ k) (k1 : k + 4 ≤ n) : rI4 g k = rI4 P k := rI4_ext (fun i i0 i1 => h i (by omega) (by omega))
theorem rL8_row {g P : Int → Int} {n k : Int} (h : ∀ i, 24 ≤ i → i < n → g i = P i) (k0 : 24 ≤ k) (k1 : k + 8 ≤ n) : rL8 g k = rL8 P k := rL8_ext (fun i i0 i1 => h i (by omega) (by omega))
/-- the node of a thing -/
def ndI (σ : St) (i : Int) (x : Int × Int × Int × (Int → Int)) : Prop := gI σ 640 i = x.1 / 4 ∧ gI σ 641 i = rI4 x.2.2.2 28 ∧ gI σ 642 i = rI4 x.2.2.2 32 ∧ gI σ 643 i = rI4 x.2.2.2 36 ∧ gI σ 644 i = rI4 x.2.2.2 40 ∧ gI σ 645 i = rI4 x.2.2.2 44
def mRi (i : Int) (f : Nat) (o' : Int) : Prop := mR0 0 f o' ∨ ((640 ≤ f ∧ f ≤ 645) ∧ o' = i)
theorem mRi_h {i : Int} {f : Nat} {o' : Int} (h : mRi i f o') : mHR f o' := by
  rcases h with h | h
  · exact mR0_h h
  · unfold mHR; omega
/-- items whose node has 48 bytes -/
def in48 (M : List (Int × Int × Int × (Int → Int))) : Prop := ∀ x, x ∈ M → x.1 % 4 = 0 → x.2.2.1 = 48
theorem sp_Hread {tv : Nat → Int} {cf : Cf} {σ : St} {dk : Int → Int} {db : Int → Int → Int} {L : List (Int × Int × Int × Int × Int × Int)} {x i : Int} {Q : Int → St → Prop} (hc : CfOK cf) (h : RD tv cf σ dk db L) (hx : rI x) (h48 : in48 (AM db L)) (h0 : ∀ τ, (∀ y, y ∈ AM db L → ak y ≠ kap (4 * x) 0 ∨ x < 1) → Fr (mRi i) σ τ → RK τ → Q 0 τ)
    (h1 : ∀ τ y, y ∈ AM db L → y.1 = 4 * x → y.2.1 = 0 → 1 ≤ x → ndI τ i y → Fr (mRi i) σ τ → RK τ → Q 1 τ) : wp_House_read cf tv x i Q σ := by
  have hx' := hx
  unfold rI at hx'
  unfold wp_House_read
  refine ⟨fun q => h0 σ (fun _ _ => Or.inr q) (Fr.rf _ _) h.rk, fun q => ?_⟩
  refine sp_keyOf hx ⟨by omega, by omega⟩ (fun _ _ => ?_)
  rw [Int.add_zero]
  refine sp_hfind h (by unfold rJ; omega) (by unfold rJ; omega) (fun τ q1 f _ k => ⟨fun w => absurd rfl w, fun _ => h0 τ (fun y hy => Or.inl (fun w => ?_)) (f.mono (fun f o' q => Or.inl (Or.inl q))) k⟩) (fun τ A B e q1 q2 q3 f _ k => ⟨fun _ => ?_, fun w => absurd w (by decide)⟩)
  · obtain ⟨e, e1, e2⟩ := List.mem_map.mp hy
    rw [← e2, ak_anE] at w
    exact q1 e e1 w
  · have he : e ∈ L := by rw [q1]; exact List.mem_append_right _ List.mem_cons_self
    have hm : anE db e ∈ AM db L := List.mem_map.mpr ⟨e, he, rfl⟩
    have n48 : e.2.2.2.2.1 = 48 := h48 _ hm (by show e.1 % 4 = 0; omega)
    have h2 := h.fr f (fun f o' q => Or.inr (Or.inr (Or.inr (Or.inl q)))) k
    refine sp_hread hc h2 he q3 (Or.inl rfl) (fun τ2 b1 a2 _ f2 k2 σ3 e3 => ?_)
    have rg : ∀ (υ : St) (j : Int) (Q : Int → St → Prop), gI υ 513 0 = 0 → gA υ 512 0 = gA τ2 512 0 → 0 ≤ j → j + 28 ≤ 48 → (RK υ → Q (rI4 (anE db e).2.2.2 (24 + j)) υ) → wp_Row_get cf tv 0 j Q υ := by
      intro υ j Q w1 w2 j0 j1 hq
      refine sp_rget w1 (by omega) j0 (by have : rowL 0 = 320 := rfl; omega) (fun k => ?_)
      rw [w2, show (0 : Int) + 24 + j = 24 + j by omega, rI4_row (P := (anE db e).2.2.2) (n := 48) (fun i i0 i1 => b1 i i0 (by omega)) (by omega) (by omega)]
      exact hq k
    have rg' : rowL 0 = 320 := rfl
    refine rg σ3 4 _ (by rw [e3]; exact a2) (by rw [e3]; rfl) (by omega) (by omega) (fun k3 _ _ σ4 e4 => ?_)
    refine rg σ4 8 _ (by rw [e4, e3]; exact a2) (by rw [e4, e3]; rfl) (by omega) (by omega) (fun k4 _ _ σ5 e5 => ?_)
    refine rg σ5 12 _ (by rw [e5, e4, e3]; exact a2) (by rw [e5, e4, e3]; rfl) (by omega) (by omega) (fun k5 _ _ σ6 e6 => ?_)
    refine rg σ6 16 _ (by rw [e6, e5, e4, e3]; exact a2) (by rw [e6, e5, e4, e3]; rfl) (by omega) (by omega) (fun k6 _ _ σ7 e7 => ?_)
    refine rg σ7 20 _ (by rw [e7, e6, e5, e4, e3]; exact a2) (by rw [e7, e6, e5, e4, e3]; rfl) (by omega) (by omega) (fun k7 _ _ σ8 e8 => ?_)
    have F : Fr (mRi i) τ2 σ8 := by
      rw [e8, e7, e6, e5, e4, e3]
      exact (((((((Fr.rf _ _).sI (Or.inr ⟨by omega, rfl⟩)).sI (Or.inr ⟨by omega, rfl⟩)).sI (Or.inr ⟨by omega, rfl⟩)).sI (Or.inr ⟨by omega, rfl⟩)).sI (Or.inr ⟨by omega, rfl⟩)).sI (Or.inr ⟨by omega, rfl⟩))
    have k8 : RK σ8 := by rw [e8]; exact k7.sI (rI4_r _ _)
    refine h1 σ8 (anE db e) hm q2.1 q2.2 (by omega) ⟨?_, ?_, ?_, ?_, ?_, ?_⟩ ((f.mono (fun f o' q => Or.inl (Or.inl q))).tr ((f2.mono (fun f o' q => Or.inl (Or.inr q))).tr F)) k8
    · rw [e8, gI_sIo (by decide), e7, gI_sIo (by decide), e6, gI_sIo (by decide), e5, gI_sIo (by decide), e4, gI_sIo (by decide), e3, gI_sI1]
      show x = e.1 / 4
      omega
    · rw [e8, gI_sIo (by decide), e7, gI_sIo (by decide), e6, gI_sIo (by decide), e5, gI_sIo (by decide), e4, gI_sI1]; rfl
    · rw [e8, gI_sIo (by decide), e7, gI_sIo (by decide), e6, gI_sIo (by decide), e5, gI_sI1]; rfl
    · rw [e8, gI_sIo (by decide), e7, gI_sIo (by decide), e6, gI_sI1]; rfl
    · rw [e8, gI_sIo (by decide), e7, gI_sI1]; rfl
    · rw [e8, gI_sI1]; rfl
/-- the rest of the row that is gone through -/
def IT (σ : St) (B : List (Int × Int × Int × Int × Int × Int)) (c : Int) : Prop := (c = 0 ∧ B = []) ∨ (c = 1 ∧ ∃ e B', B = e :: B' ∧ CU σ e)
def mI (L : List (Int × Int × Int × Int × Int × Int)) (c : Int) (σ : St) : Nat := if c = 0 then 0 else (L.filter (fun y => decide (kap (gI σ 391 0) (gI σ 392 0) ≤ kyE y))).length
theorem mI_at {L A B : List (Int × Int × Int × Int × Int × Int)} {e : Int × Int × Int × Int × Int × Int} {σ : St} (hs : Srt L) (hL : L = A ++ e :: B) (hC : CU σ e) : mI L 1 σ = B.length + 1 := by
  unfold mI
  rw [if_neg (by decide), hC.1, hC.2.1, hL, List.filter_append, List.filter_cons]
  have sp := srt_mid (by rw [← hL]; exact hs)
  have ke : kap e.1 e.2.1 = kyE e := rfl
  rw [ke, if_pos (decide_eq_true (Int.le_refl _)), fl_none (p := fun y : Int × Int × Int × Int × Int × Int => kyE e ≤ kyE y) (fun a ha => by have := sp.1 a ha; omega), fl_all (p := fun y : Int × Int × Int × Int × Int × Int => kyE e ≤ kyE y) (fun a ha => by have := sp.2 a ha; omega)]
  rfl
theorem mI_it {L A B : List (Int × Int × Int × Int × Int × Int)} {c : Int} {σ : St} (hs : Srt L) (hL : L = A ++ B) (hI : IT σ B c) : mI L c σ = B.length := by
  rcases hI with ⟨a, b⟩ | ⟨a, e, B', b, d⟩
  · rw [a, b]; rfl
  · rw [a, mI_at hs (by rw [hL, b]) d, b]; rfl
theorem IT.fr {σ τ : St} {B : List (Int × Int × Int × Int × Int × Int)} {c : Int} {M : Nat → Int → Prop} (h : IT σ B c) (f : Fr M σ τ) (n : ∀ g, 391 ≤ g → g ≤ 397 → ¬ M g 0) : IT τ B c := by
  rcases h with q | ⟨a, e, B', b, d⟩
  · exact Or.inl q
  · exact Or.inr ⟨a, e, B', b, d.fr f n⟩
theorem sp_itseek {tv : Nat → Int} {cf : Cf} {σ : St} {dk : Int → Int} {db : Int → Int → Int} {L : List (Int × Int × Int × Int × Int × Int)} {x l : Int} {Q : Int → St → Prop} (h : RD tv cf σ dk db L) (hx : rJ x) (hl : rJ l)
    (hQ : ∀ c τ A B, L = A ++ B → (∀ a, a ∈ A → kyE a < kap x l) → (∀ b, b ∈ B → kap x l ≤ kyE b) → IT τ B c → Fr (mIs 0) σ τ → RK τ → Q c τ) : wp_Index_seek cf tv 0 x l (fun r τ => rZ r → RK τ → Q r τ) σ := by
  refine sp_hseek h hx hl (fun q _ k => hQ 0 σ L [] (List.append_nil L).symm q (fun b hb => absurd hb List.not_mem_nil) (Or.inl ⟨rfl, rfl⟩) (Fr.rf _ _) k) (fun τ A B e q1 q2 q3 q4 f _ k => hQ 1 τ A (e :: B) q1 q2 (fun b hb => ?_) (Or.inr ⟨rfl, e, B, rfl, q4⟩) f k)
  rcases List.mem_cons.mp hb with w | w
  · rw [w]; exact q3
  · have := (srt_mid (by rw [← q1]; exact h.srt)).2 b w
    omega
theorem sp_itnext {tv : Nat → Int} {cf : Cf} {σ : St} {dk : Int → Int} {db : Int → Int → Int} {L : List (Int × Int × Int × Int × Int × Int)} {A B : List (Int × Int × Int × Int × Int × Int)} {e : Int × Int × Int × Int × Int × Int} {Q : Int → St → Prop} (h : RD tv cf σ dk db L) (hL : L = A ++ e :: B) (hC : CU σ e)
    (hQ : ∀ c τ, IT τ B c → mI L c τ < B.length + 1 → Fr (mIs 0) σ τ → RK τ → Q c τ) : wp_Index_next cf tv 0 (fun r τ => rZ r → RK τ → Q r τ) σ := by
  have eL : L = (A ++ [e]) ++ B := by rw [hL, List.append_assoc]; rfl
  refine sp_hnext h hL hC (fun q _ k => ?_) (fun τ y B' q1 q2 f _ k => ?_)
  · exact hQ 0 σ (Or.inl ⟨rfl, q⟩) (by unfold mI; rw [if_pos rfl]; omega) (Fr.rf _ _) k
  · have i : IT τ B 1 := Or.inr ⟨rfl, y, B', q1, q2⟩
    exact hQ 1 τ i (by rw [mI_it h.srt eL i]; omega) f k
