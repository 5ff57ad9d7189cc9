/-! sheets are made and written -/
/-- a sheet that is begun: type, two ints -/
def shB (g : Int → Int) (ty a b : Int) : Prop := rI4 g 4 = 64 ∧ g 16 = ty ∧ rI4 g 20 = 1414677829 ∧ rI4 g 24 = a ∧ rI4 g 28 = b
theorem sp_sheetOf {tv : Nat → Int} {cf : Cf} {σ : St} {o ty a b : Int} {Q : St → Prop} (ho : o = 0 ∨ o = 1) (hty : 0 ≤ ty ∧ ty < 128) (ha : rI a) (hb : rI b)
    (hQ : ∀ τ, shB (gA τ 512 (o + 4)) ty a b → gI τ 513 (o + 4) = 0 → Fr (mRow (o + 4)) σ τ → RK τ → Q τ) : wp_Store_sheetOf cf tv o ty a b Q σ := by
  have r4 : rowL (o + 4) = 128 := by unfold rowL; rw [if_neg (by omega), if_pos (by omega)]
  have al : aln cf 512 (o + 4) = 128 := r4
  unfold wp_Store_sheetOf
  refine sp_fill1 (by rw [al]; omega) (by rw [al]; omega) (fun k0 => ?_)
  generalize h0 : sAr σ 512 (o + 4) (fun i => if 0 ≤ i ∧ i < aln cf 512 (o + 4) then 0 else gA σ 512 (o + 4) i) = σ0 at k0 ⊢
  have f0 : Fr (mRow (o + 4)) σ σ0 := by rw [← h0]; exact (Fr.rf _ _).sAr ⟨Or.inl rfl, rfl⟩
  refine sp_rclear (fun τ1 c1 c2 c3 f1 k1 => ?_)
  refine sp_rbegin (a := 0) k1 c2 (by omega) (by omega) (by rw [r4]; omega) (fun τ2 d1 d2 d3 f2 k2 => ?_)
  refine sp_rput d1 (by omega) (by omega) (by rw [r4]; omega) (fun τ3 e3 f3 _ _ => ?_)
  have a3 : gI τ3 513 (o + 4) = 0 := by rw [f3.i _ _ (fun q => by unfold mRb at q; omega)]; exact d1
  refine sp_rput a3 (by omega) (by omega) (by rw [r4]; omega) (fun τ4 e4 f4 k4 _ => ?_)
  have a4 : gI τ4 513 (o + 4) = 0 := by rw [f4.i _ _ (fun q => by unfold mRb at q; omega)]; exact a3
  rw [e3, d3] at e4
  generalize hg : gA τ1 512 (o + 4) = g at e4
  have E : ∀ i, i < 24 → gA τ4 512 (o + 4) i = nBeg g 0 ty 64 i := fun i hi => by rw [e4, pI4_out (by omega), pI4_out (by omega)]
  refine hQ τ4 ⟨?_, ?_, ?_, ?_, ?_⟩ a4 ?_ k4
  · rw [rI4_ext (h := nBeg g 0 ty 64) (fun i i0 i1 => E i (by omega))]
    have : rI4 (nBeg g 0 ty 64) 4 = rI4 (pI4 (fun i => if 0 ≤ i ∧ i < 0 + 64 then 0 else g i) (0 + 4) 64) (0 + 4) := rI4_ext (fun i i0 i1 => by
      unfold nBeg upF
      rw [pI4_out (by omega), if_neg (by omega)])
    rw [this, rI4_p (by unfold rI; omega)]
  · rw [E 16 (by omega)]
    unfold nBeg upF
    rw [pI4_out (by omega), if_pos (by omega)]
    unfold b8; omega
  · rw [rI4_ext (h := nBeg g 0 ty 64) (fun i i0 i1 => E i (by omega))]
    show rI4 (pI4 _ (0 + 20) _) (0 + 20) = _
    rw [rI4_p (by unfold rI; omega)]
  · rw [e4, rI4_o (by omega)]
    show rI4 (pI4 _ (0 + 24 + 0) a) (0 + 24 + 0) = a
    rw [rI4_p ha]
  · rw [e4]
    show rI4 (pI4 _ (0 + 24 + 4) b) (0 + 24 + 4) = b
    rw [rI4_p hb]
  · refine (((f0.tr (f1.mono (fun f o' q => ⟨by omega, q.2⟩))).tr f2).tr (f3.mono ?_)).tr (f4.mono ?_)
    · intro f o' q; unfold mRb at q; exact ⟨Or.inl q.1, q.2⟩
    · intro f o' q; unfold mRb at q; exact ⟨Or.inl q.1, q.2⟩
theorem shB.put {g : Int → Int} {ty a b k v : Int} (h : shB g ty a b) (hk : 8 ≤ k) : shB (pI4 g (0 + 24 + k) v) ty a b := by
  obtain ⟨h1, h2, h3, h4, h5⟩ := h
  refine ⟨?_, ?_, ?_, ?_, ?_⟩
  · rw [rI4_o (by omega)]; exact h1
  · rw [pI4_out (by omega)]; exact h2
  · rw [rI4_o (by omega)]; exact h3
  · rw [rI4_o (by omega)]; exact h4
  · rw [rI4_o (by omega)]; exact h5
/-- the sheet is closed -/
theorem sp_shclose {tv : Nat → Int} {cf : Cf} {σ : St} {o s ty a b : Int} {Q : St → Prop} (ho : o = 0 ∨ o = 1) (hat : gI σ 513 (o + 4) = 0) (hg : shB (gA σ 512 (o + 4)) ty a b) (hs : gI σ 202 o = s) (hr : 0 ≤ s ∧ s < 4611686018427387904)
    (hQ : ∀ τ, shP tv (gA τ 512 (o + 4)) 0 ty (s + 1) a b → (∀ i, 18 ≤ i → gA τ 512 (o + 4) i = gA σ 512 (o + 4) i) → gI τ 202 o = s + 1 → gI τ 513 (o + 4) = 0 → Fr (fun f o' => mRb (o + 4) f o' ∨ (f = 202 ∧ o' = o)) σ τ → RK τ → Q τ) :
    wp_Store_serial cf tv o (fun r σ1 => rJ r → RK σ1 → wp_Row_close cf tv (o + 4) r 1 (fun σ2 => RK σ2 → Q σ2) σ1) σ := by
  have r4 : rowL (o + 4) = 128 := by unfold rowL; rw [if_neg (by omega), if_pos (by omega)]
  obtain ⟨g1, g2, g3, g4, g5⟩ := hg
  refine sp_serial hs hr (fun σ1 s1 f1 js k1 => ?_)
  have a1 : gI σ1 513 (o + 4) = 0 := by rw [f1.i _ _ (fun q => by omega)]; exact hat
  have b1 : gA σ1 512 (o + 4) = gA σ 512 (o + 4) := f1.a _ _ (fun q => by omega)
  refine sp_rclose (n := 64) a1 (by omega) (by rw [b1]; exact g1) (by omega) (by rw [r4]; omega) (fun σ2 b2 f2 k2 _ => ?_)
  rw [b1] at b2
  generalize hg : gA σ 512 (o + 4) = g at *
  have r : ∀ k, 20 ≤ k → rI4 (gA σ2 512 (o + 4)) k = rI4 g k := fun k k0 => rI4_ext (fun i i0 i1 => by rw [b2]; exact nCls_out (by omega))
  refine hQ σ2 ⟨?_, ?_, ?_, ?_, ?_⟩ (fun i hi => by rw [b2]; exact nCls_out (by omega)) ?_ ?_ ((f1.mono (fun f o' q => Or.inr q)).tr (f2.mono (fun f o' q => Or.inl q))) k2
  · rw [b2]; exact whN_cls ⟨by omega, by omega⟩ g1 g3
  · rw [b2]
    show nCls tv g 0 (s + 1) 1 64 (0 + 16) = ty
    rw [nCls_out (by omega)]; exact g2
  · show rL8 (gA σ2 512 (o + 4)) (0 + 8) = s + 1
    rw [b2]
    have : rL8 (nCls tv g 0 (s + 1) 1 64) (0 + 8) = rL8 (pL8 g (0 + 8) (s + 1)) (0 + 8) := rL8_ext (fun i i0 i1 => by
      unfold nCls nSer upF
      rw [pI4_out (by omega), if_neg (by omega)])
    rw [this, rL8_p js]
  · rw [r _ (by omega)]; exact g4
  · rw [r _ (by omega)]; exact g5
  · rw [f2.i _ _ (fun q => by unfold mRb at q; omega)]; exact s1
  · rw [f2.i _ _ (fun q => by unfold mRb at q; omega)]; exact a1
/-- the sheet becomes the next page of a number -/
theorem sp_shwrite {tv : Nat → Int} {cf : Cf} {σ : St} {o : Int} {dk : Int → Int} {db : Int → Int → Int} {Sp : Int → Int → (Int → Int → Int) → Prop} {B : Int} (hc : CfOK cf) (ho : o = 0 ∨ o = 1) (hrk : RK σ) {n k : Int} {Q : St → Prop} (h : DJ tv cf σ o dk db Sp B) (hn : 0 ≤ n ∧ n < cf.1 - 6) (hnr : ¬ (4 ≤ n ∧ n < 4 + cf.2.2)) (hk : k = max 0 (dk n)) (hkP : k < cf.2.1 - 2)
    (hQ : ∀ τ, DJ tv cf τ o (upF dk n (k + 1)) (putB db n (128 * k) 128 (gA σ 512 (o + 4))) Sp B → Fr (mBw o) σ τ → RK τ → Q τ) : wp_Blocks_write cf tv o n k 512 (o + 4) 0 Q σ := by
  have r4 : rowL (o + 4) = 128 := by unfold rowL; rw [if_neg (by omega), if_pos (by omega)]
  have H : DJ tv cf σ o dk (putB db n (128 * k) 128 (gA σ 512 (o + 4))) Sp B := h.x hc (fun m p m0 m1 p0 p1 => by
    unfold putB
    rw [if_neg (fun q => by rw [q.1] at p1; omega)])
  refine sp_jwrite hc hrk H hn hnr hk hkP (Or.inr (by decide)) (by decide) (by omega) (by rw [aln_row, r4]; omega) (fun q => by unfold mBw at q; omega) (fun i i0 i1 => ?_) hQ
  unfold putB
  rw [if_pos ⟨rfl, by omega, by omega⟩]
  congr 1
  omega
theorem shP.sh {tv : Nat → Int} {g h : Int → Int} {a b ty s x y : Int} (w : shP tv g a ty s x y) (e : ∀ k, 0 ≤ k → k < 64 → g (a + k) = h (b + k)) : shP tv h b ty s x y := by
  obtain ⟨w1, w2, w3, w4, w5⟩ := w
  have r : ∀ j, 0 ≤ j → j + 4 ≤ 64 → rI4 g (a + j) = rI4 h (b + j) := fun j j0 j1 => rI4_sh (fun i i0 i1 => by rw [show a + j + i = a + (j + i) by omega, show b + j + i = b + (j + i) by omega]; exact e _ (by omega) (by omega))
  refine ⟨w1.ext e, by rw [← e 16 (by omega) (by omega)]; exact w2, ?_, by rw [← r 24 (by omega) (by omega)]; exact w4, by rw [← r 28 (by omega) (by omega)]; exact w5⟩
  rw [← w3]
  exact (rL8_sh (fun i i0 i1 => by rw [show a + 8 + i = a + (8 + i) by omega, show b + 8 + i = b + (8 + i) by omega]; exact e _ (by omega) (by omega))).symm
def mLb (o : Int) (f : Nat) (o' : Int) : Prop := mBw o f o' ∨ mRow (o + 4) f o' ∨ ((f = 202 ∨ f = 209 ∨ f = 210 ∨ f = 211) ∧ o' = o)
/-- a bud is told in the log -/
theorem sp_logBud {tv : Nat → Int} {cf : Cf} {σ : St} {o : Int} {dk : Int → Int} {db : Int → Int → Int} {Sp : Int → Int → (Int → Int → Int) → Prop} {B : Int} (hc : CfOK cf) (ho : o = 0 ∨ o = 1) {lg k bc s n a : Int} {Q : St → Prop} (h : DJ tv cf σ o dk db Sp B) (hlg : gI σ 208 o = lg) (hlr : 0 ≤ lg ∧ lg < cf.1 - 6) (hnr : ¬ (4 ≤ lg ∧ lg < 4 + cf.2.2)) (hk : gI σ 209 o = k) (hk2 : k = max 0 (dk lg)) (hkP : k < cf.2.1 - 2) (hbc : gI σ 211 o = bc) (hbc2 : 0 ≤ bc ∧ bc < 8) (hs : gI σ 202 o = s) (hr : 0 ≤ s ∧ s < 4611686018427387904) (hn : rI n) (ha : rI a)
    (hQ : ∀ τ g, DJ tv cf τ o (upF dk lg (k + 1)) (putB db lg (128 * k) 128 g) Sp B → shP tv (putB db lg (128 * k) 128 g lg) (128 * k) 8 (s + 1) n a → gI τ 202 o = s + 1 → gI τ 209 o = k + 1 → gI τ 211 o = bc + 1 → gA τ 210 o = upF (gA σ 210 o) bc n → Fr (mLb o) σ τ → RK τ → Q τ) : wp_Store_logBud cf tv o n a Q σ := by
  have hP : 8 ≤ cf.2.1 ∧ cf.2.1 ≤ 32 := hc.2.1
  unfold wp_Store_logBud
  refine sp_sheetOf ho ⟨by omega, by omega⟩ hn ha (fun τ1 b1 a1 f1 k1 _ => ?_)
  refine sp_shclose ho a1 b1 (by rw [f1.i _ _ (fun q => by unfold mRow at q; omega)]; exact hs) hr (fun τ2 b2 _ s2 a2 f2 k2 => ?_)
  intro σ3 e3
  have st2 : ∀ f, (f = 208 ∨ f = 209 ∨ f = 211) → gI τ2 f o = gI σ f o := fun f hf => by rw [f2.i _ _ (fun q => by unfold mRb at q; omega), f1.i _ _ (fun q => by unfold mRow at q; omega)]
  rw [st2 _ (by omega), hk, w32_id (by unfold rI; omega)] at e3
  rw [st2 208 (by omega), st2 209 (by omega), hlg, hk]
  have f3 : Fr (fun f o' => f = 209 ∧ o' = o) τ2 σ3 := by rw [e3]; exact (Fr.rf _ _).sI ⟨rfl, rfl⟩
  have k3 : RK σ3 := by rw [e3]; exact k2.sI (by show rI _; unfold rI; omega)
  have g3 : gA σ3 512 (o + 4) = gA τ2 512 (o + 4) := f3.a _ _ (fun q => by omega)
  have D3 : DJ tv cf σ3 o dk db Sp B := ((h.fr f1 (fun f o' a q => by unfold rBI at a; unfold mRow at q; omega)).fr f2 (fun f o' a q => by unfold rBI at a; unfold mRb at q; omega)).fr f3 (fun f o' a q => by unfold rBI at a; omega)
  refine sp_shwrite hc ho k3 D3 hlr hnr hk2 hkP (fun τ4 D4 f4 k4 _ σ5 e5 => ?_)
  rw [g3] at D4
  have bc4 : gI τ4 211 o = bc := by rw [f4.i _ _ (fun q => by unfold mBw at q; omega), f3.i _ _ (fun q => by omega), st2 _ (by omega)]; exact hbc
  rw [bc4, w32_id (by unfold rI; omega)] at e5
  rw [bc4]
  refine ⟨hbc2, fun σ6 e6 => ?_⟩
  have f6 : Fr (fun f o' => (f = 210 ∨ f = 211) ∧ o' = o) τ4 σ6 := by rw [e6, e5]; exact ((Fr.rf _ _).sI ⟨Or.inr rfl, rfl⟩).sA ⟨Or.inl rfl, rfl⟩
  refine hQ σ6 (gA τ2 512 (o + 4)) (D4.fr f6 (fun f o' a q => by unfold rBI at a; omega)) (b2.sh (fun j j0 j1 => ?_)) ?_ ?_ ?_ ?_ ?_ ?_
  · unfold putB
    rw [if_pos ⟨rfl, by omega, by omega⟩]
    congr 1
    omega
  · rw [f6.i _ _ (fun q => by omega), f4.i _ _ (fun q => by unfold mBw at q; omega), f3.i _ _ (fun q => by omega)]; exact s2
  · rw [f6.i _ _ (fun q => by omega), f4.i _ _ (fun q => by unfold mBw at q; omega), e3, gI_sI1]
  · rw [e6]
    show gI σ5 _ _ = _
    rw [e5, gI_sI1]
  · rw [e6, sA_up, e5]
    show upF (gA τ4 210 o) bc n = _
    rw [f4.a 210 o (fun q => by unfold mBw at q; omega), f3.a 210 o (fun q => by omega), f2.a 210 o (fun q => by unfold mRb at q; omega), f1.a 210 o (fun q => by unfold mRow at q; omega)]
  · refine ((((f1.mono ?_).tr (f2.mono ?_)).tr (f3.mono ?_)).tr (f4.mono ?_)).tr (f6.mono ?_)
    · intro f o' q; exact Or.inr (Or.inl q)
    · intro f o' q
      rcases q with q | q
      · exact Or.inr (Or.inl ⟨Or.inl q.1, q.2⟩)
      · exact Or.inr (Or.inr ⟨Or.inl q.1, q.2⟩)
    · intro f o' q; exact Or.inr (Or.inr ⟨by omega, q.2⟩)
    · intro f o' q; exact Or.inl q
    · intro f o' q; exact Or.inr (Or.inr ⟨by omega, q.2⟩)
  · rw [e6, e5]
    exact (k4.sI (by show rI _; unfold rI; omega)).sA (by show rI _; exact hn)
