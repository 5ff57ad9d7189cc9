/-! pieces, attributes, counts are read -/
def mRpc (f : Nat) (o' : Int) : Prop := mR0 7 f o' ∨ (f = 77 ∧ o' = 0)
theorem mRpc_h {f : Nat} {o' : Int} (h : mRpc f o') : mHR f o' := by
  rcases h with h | h
  · exact mR0_h h
  · unfold mHR; omega
theorem sp_Hpiece {tv : Nat → Int} {cf : Cf} {σ : St} {dk : Int → Int} {db : Int → Int → Int} {L : List (Int × Int × Int × Int × Int × Int)} {x k : Int} {Q : Int → St → Prop} (hc : CfOK cf) (h : RD tv cf σ dk db L) (hx : rI x) (hk : rI k) (hP : ∀ y, y ∈ AM db L → okP y)
    (h0 : ∀ τ, (∀ y, y ∈ AM db L → y.1 = 4 * x + 1 → y.2.1 ≠ k) → (∀ i, 0 ≤ i → i < 64 → gA τ 77 0 i = 0) → Fr mRpc σ τ → RK τ → Q 0 τ)
    (h1 : ∀ τ y, y ∈ AM db L → y.1 = 4 * x + 1 → y.2.1 = k → (∀ i, 0 ≤ i → i < 64 → gA τ 77 0 i = y.2.2.2 (32 + i)) → Fr mRpc σ τ → RK τ → Q (plen y) τ) : wp_House_piece cf tv x k Q σ := by
  have hx' := hx
  unfold rI at hx'
  unfold wp_House_piece
  refine sp_fill1 (by show (0 : Int) ≤ 64; decide) (by show (64 : Int) < 2147483647; decide) (fun k1 => ?_)
  generalize e1 : sAr σ 77 0 (fun i => if 0 ≤ i ∧ i < aln cf 77 0 then 0 else gA σ 77 0 i) = σ1 at k1
  have f1 : Fr (fun f o' => f = 77 ∧ o' = 0) σ σ1 := by rw [← e1]; exact (Fr.rf _ _).sAr ⟨rfl, rfl⟩
  have b1 : ∀ i, 0 ≤ i → i < 64 → gA σ1 77 0 i = 0 := fun i i0 i1 => by
    rw [← e1, gA_sAr1]
    exact if_pos ⟨i0, i1⟩
  have H1 := h.fr (f1.mono (fun f o' q => (Or.inr q : mRpc f o'))) (fun _ _ q => mRpc_h q) k1
  refine sp_keyOf hx ⟨by omega, by omega⟩ (fun _ _ => ?_)
  refine sp_hfind H1 (by unfold rJ; omega) hk.j (fun τ q1 f _ k2 => ⟨fun w => absurd rfl w, fun _ => h0 τ (fun y hy w1 w2 => ?_) (fun i i0 i1 => ?_) ((f1.mono (fun f o' q => Or.inr q)).tr (f.mono (fun f o' q => Or.inl (Or.inl q)))) k2⟩) (fun τ A B e q1 q2 q3 f _ k2 => ⟨fun _ => ?_, fun w => absurd w (by decide)⟩)
  · obtain ⟨e, he, ey⟩ := List.mem_map.mp hy
    rw [← ey] at w1 w2
    refine q1 e he ?_
    show kap e.1 e.2.1 = _
    have a : e.1 = 4 * x + 1 := w1
    have b : e.2.1 = k := w2
    rw [a, b]
  · rw [f.a _ _ (fun q => by unfold mIs at q; omega)]; exact b1 i i0 i1
  · have he : e ∈ L := by rw [q1]; exact List.mem_append_right _ List.mem_cons_self
    have hm : anE db e ∈ AM db L := List.mem_map.mpr ⟨e, he, rfl⟩
    obtain ⟨p1, p2, p3, p4, p5, p6⟩ := hP (anE db e) hm (by show e.1 % 4 = 1; omega)
    have p5' : e.2.2.2.2.1 = 32 + (plen (anE db e) + 7) / 8 * 8 := p5
    have H2 := H1.fr (f.mono (fun f o' q => (Or.inl (Or.inl q) : mRpc f o'))) (fun _ _ q => mRpc_h q) k2
    refine sp_hread hc H2 he q3 (Or.inr rfl) (fun τ2 b2 a2 _ f2 k3 => ?_)
    have rg' : rowL 7 = 320 := rfl
    refine sp_rget a2 (by omega) (by omega) (by omega) (fun k4 _ _ y4 e4 => ?_)
    rw [show (0 : Int) + 24 + 4 = 28 by omega, rI4_row (P := (anE db e).2.2.2) (n := e.2.2.2.2.1) (fun i i0 i1' => b2 i i0 i1') (by omega) (by omega), iushr16 (by omega)] at e4
    have e4' : y4 = plen (anE db e) := e4
    rw [e4']
    refine ⟨⟨by omega, by omega, by omega⟩, fun σ24 e24 => ?_⟩
    have f24 : Fr (fun f o' => f = 77 ∧ o' = 0) τ2 σ24 := by rw [e24]; exact (Fr.rf _ _).sAr ⟨rfl, rfl⟩
    refine h1 σ24 (anE db e) hm q2.1 q2.2 (fun i i0 i1' => ?_) ((f1.mono (fun f o' q => Or.inr q)).tr (((f.mono (fun f o' q => Or.inl (Or.inl q))).tr (f2.mono (fun f o' q => Or.inl (Or.inr q)))).tr (f24.mono (fun f o' q => Or.inr q)))) ?_
    · rw [e24, gA_sAr1]
      unfold cpy
      by_cases w : (0 : Int) ≤ i ∧ i < 0 + plen (anE db e)
      · rw [if_pos w, show 32 + (i - 0) = 32 + i by omega]
        exact b2 (32 + i) (by omega) (by omega)
      · rw [if_neg w, f2.a _ _ (fun q => by unfold mRd2 mPg mRow at q; omega), f.a _ _ (fun q => by unfold mIs at q; omega), b1 i i0 i1', p6 i (by omega)]
    · rw [e24]
      refine k3.sAr (f := 77) (fun i => ?_)
      unfold cpy
      split
      · exact k3.2 512 7 _
      · exact k3.2 77 0 _
theorem sp_HattrOf {tv : Nat → Int} {cf : Cf} {σ : St} {dk : Int → Int} {db : Int → Int → Int} {L : List (Int × Int × Int × Int × Int × Int)} {x nm : Int} {Q : Int → St → Prop} (hc : CfOK cf) (h : RD tv cf σ dk db L) (hx : rI x) (hA : ∀ y, y ∈ AM db L → okA y)
    (h0 : ∀ τ, (∀ y, y ∈ AM db L → y.1 = 4 * x + 3 → y.2.1 ≠ rev nm ∨ x < 1) → Fr (mR0 0) σ τ → RK τ → Q 0 τ)
    (h1 : ∀ τ y, y ∈ AM db L → y.1 = 4 * x + 3 → y.2.1 = rev nm → 1 ≤ x → (∀ k, 24 ≤ k → k < 48 → gA τ 512 0 k = y.2.2.2 k) → gI τ 513 0 = 0 → Fr (mR0 0) σ τ → RK τ → Q 1 τ) : wp_House_attributeOf cf tv x nm Q σ := by
  have hx' := hx
  unfold rI at hx'
  unfold wp_House_attributeOf
  refine ⟨fun q => h0 σ (fun _ _ _ => Or.inr q) (Fr.rf _ _) h.rk, fun q => ?_⟩
  refine sp_keyOf hx ⟨by omega, by omega⟩ (fun _ _ => ?_)
  refine sp_rev (fun _ _ => ?_)
  refine sp_hfind h (by unfold rJ; omega) (rev_r _) (fun τ q1 f _ k2 => ⟨fun w => absurd rfl w, fun _ => h0 τ (fun y hy w1 => Or.inl (fun w2 => ?_)) (f.mono (fun f o' q => Or.inl q)) k2⟩) (fun τ A B e q1 q2 q3 f _ k2 => ⟨fun _ => ?_, fun w => absurd w (by decide)⟩)
  · obtain ⟨e, he, ey⟩ := List.mem_map.mp hy
    rw [← ey] at w1 w2
    refine q1 e he ?_
    show kap e.1 e.2.1 = _
    have a : e.1 = 4 * x + 3 := w1
    have b : e.2.1 = rev nm := w2
    rw [a, b]
  · have he : e ∈ L := by rw [q1]; exact List.mem_append_right _ List.mem_cons_self
    have hm : anE db e ∈ AM db L := List.mem_map.mpr ⟨e, he, rfl⟩
    have p := (hA (anE db e) hm (by show e.1 % 4 = 3; omega)).1
    have p' : e.2.2.2.2.1 = 48 := p
    have H2 := h.fr (f.mono (fun f o' q => (Or.inl q : mR0 0 f o'))) (fun _ _ q => mR0_h q) k2
    refine sp_hread hc H2 he q3 (Or.inl rfl) (fun τ2 b2 a2 _ f2 k3 => ?_)
    exact h1 τ2 (anE db e) hm q2.1 q2.2 (by omega) (fun k k0 k1 => b2 k k0 (by omega)) a2 ((f.mono (fun f o' q => Or.inl q)).tr (f2.mono (fun f o' q => Or.inr q))) k3
/-- handles -/
def opn (σ : St) (x : Int) : Prop := ∃ k, (0 ≤ k ∧ k < 8) ∧ gA σ 70 0 k = x
theorem sp_HisOpen {tv : Nat → Int} {cf : Cf} {σ : St} {x : Int} {Q : Int → St → Prop} (h1 : opn σ x → Q 1 σ) (h0 : ¬ opn σ x → Q 0 σ) : wp_House_isOpen cf tv x Q σ := by
  unfold wp_House_isOpen
  refine lQ1_rule (fun y τ => τ = σ ∧ (0 ≤ y ∧ y ≤ 8) ∧ ∀ k, 0 ≤ k → k < y → gA σ 70 0 k ≠ x) (fun y _ => (8 - y).toNat) ?_ 0 σ ⟨rfl, by omega, fun k k0 k1 => by omega⟩
  intro K y τ hI hK
  obtain ⟨et, hy, hn⟩ := hI
  subst et
  unfold wp_House_isOpen_L2
  refine ⟨fun q => h0 (fun ⟨k, k0, k1⟩ => hn k k0.1 (by omega) k1), fun q => ⟨by omega, fun w y2 e2 => ?_, fun w => h1 ⟨y, by omega, w⟩⟩⟩
  rw [w32_id (by unfold rI; omega)] at e2
  rw [e2]
  refine hK (y + 1) τ ⟨rfl, by omega, fun k k0 k1 => ?_⟩ (by omega)
  by_cases e : k = y
  · rw [e]; exact w
  · exact hn k k0 (by omega)
theorem sp_isIn {tv : Nat → Int} {cf : Cf} {σ : St} {x a b : Int} {Q : Int → St → Prop} (h1 : a ≤ x ∧ x ≤ b → Q 1 σ) (h0 : ¬ (a ≤ x ∧ x ≤ b) → Q 0 σ) : wp_House_isIn cf tv x a b Q σ := by
  unfold wp_House_isIn
  exact ⟨fun a => h0 (by omega), fun a => ⟨fun b => h0 (by omega), fun b => h1 (by omega)⟩⟩
theorem sp_HisHandle {tv : Nat → Int} {cf : Cf} {σ : St} {x : Int} {Q : Int → St → Prop} (hrk : RK σ) (h1 : (0 ≤ x ∧ x < 8) ∧ 0 < gA σ 70 0 x → Q 1 σ) (h0 : ¬ ((0 ≤ x ∧ x < 8) ∧ 0 < gA σ 70 0 x) → Q 0 σ) : wp_House_isHandle cf tv x Q σ := by
  unfold wp_House_isHandle
  refine sp_isIn (fun q _ _ => ⟨fun w => absurd w (by decide), fun _ => ⟨by omega, fun w => h0 (fun y => by omega), fun w => h1 ⟨by omega, by omega⟩⟩⟩) (fun q _ _ => ⟨fun _ => h0 (fun y => q (by omega)), fun w => absurd rfl w⟩)
