/-! nodes of a group are built -/
/-- a node that was built and closed -/
def nF (g0 g : Int → Int) (e ty n l : Int) : Prop := (∀ i, i < e → g i = g0 i) ∧ (n % 8 = 0 ∧ rI4 g (e + 4) = n ∧ rI4 g (e + 20) = 1414677829) ∧ g (e + 16) = ty ∧ g (e + 17) = (if l = 0 then 0 else 1)
theorem nBeg_lo {g : Int → Int} {a ty n i : Int} (h : i < a) (hn : 24 ≤ n) : nBeg g a ty n i = g i := by
  unfold nBeg
  rw [pI4_out (by omega)]
  unfold upF
  rw [if_neg (by omega), pI4_out (by omega), if_neg (by omega)]
theorem nBeg_z {g : Int → Int} {a ty n i : Int} (h : a + 24 ≤ i) (h2 : i < a + n) : nBeg g a ty n i = 0 := by
  unfold nBeg
  rw [pI4_out (by omega)]
  unfold upF
  rw [if_neg (by omega), pI4_out (by omega), if_pos (by omega)]
theorem nBeg_4 {g : Int → Int} {a ty n : Int} (hn : rI n) : rI4 (nBeg g a ty n) (a + 4) = n := by
  have e : rI4 (nBeg g a ty n) (a + 4) = rI4 (pI4 (fun i => if a ≤ i ∧ i < a + n then 0 else g i) (a + 4) n) (a + 4) := rI4_ext (fun i i0 i1 => by
    unfold nBeg
    rw [pI4_out (by omega)]
    unfold upF
    rw [if_neg (by omega)])
  rw [e]; exact rI4_p hn
theorem nBeg_20 {g : Int → Int} {a ty n : Int} : rI4 (nBeg g a ty n) (a + 20) = 1414677829 := by
  unfold nBeg
  exact rI4_p (by unfold rI; omega)
theorem nBeg_16 {g : Int → Int} {a ty n : Int} (h : 0 ≤ ty ∧ ty < 128) : nBeg g a ty n (a + 16) = ty := by
  unfold nBeg
  rw [pI4_out (by omega)]
  unfold upF
  rw [if_pos rfl, b8_id (by unfold rB; omega)]
theorem nF.mk {tv : Nat → Int} {g G : Int → Int} {e ty n l : Int} (hG : ∀ i, i < e + 24 → G i = nBeg g e ty n i) (hn : 24 ≤ n ∧ n < 1000) (h8 : n % 8 = 0) (hty : 0 ≤ ty ∧ ty < 128) : nF g (nCls tv G e 0 l n) e ty n l ∧ rI4 G (e + 4) = n ∧ (∀ k, 24 ≤ k → nCls tv G e 0 l n (e + k) = G (e + k)) := by
  have g4 : rI4 G (e + 4) = n := by
    rw [rI4_ext (h := nBeg g e ty n) (fun i i0 i1 => hG i (by omega))]
    exact nBeg_4 (by unfold rI; omega)
  refine ⟨⟨fun i hi => ?_, ⟨h8, ?_, ?_⟩, ?_, ?_⟩, g4, fun k hk => nCls_out (by omega)⟩
  · rw [nCls_out (by omega), hG i (by omega), nBeg_lo hi (by omega)]
  · rw [rI4_ext (h := G) (fun i i0 i1 => nCls_out (by omega))]; exact g4
  · rw [rI4_ext (h := nBeg g e ty n) (fun i i0 i1 => by rw [nCls_out (by omega)]; exact hG i (by omega))]; exact nBeg_20
  · rw [nCls_out (by omega), hG _ (by omega)]; exact nBeg_16 hty
  · unfold nCls nSer
    rw [pI4_out (by omega)]
    unfold upF
    rw [if_pos rfl]
    by_cases q : l = 0
    · rw [if_pos q]; rfl
    · rw [if_neg q]; rfl
theorem row6 : rowL 6 = 512 := by decide
theorem frb6 {f : Nat} {o' : Int} (h : mRb 6 f o') : mRow 6 f o' := ⟨Or.inl h.1, h.2⟩
/-- an entry's node -/
theorem sp_entN {tv : Nat → Int} {cf : Cf} {σ : St} {e d n x s l : Int} {Q : St → Prop} (hrk : RK σ) (he : gI σ 514 6 = e) (h0 : 0 ≤ e) (h1 : e + 48 ≤ 512) (hd : rI d) (hn : rI n) (hx : rJ x) (hs : rI s)
    (hQ : ∀ τ, nF (gA σ 512 6) (gA τ 512 6) e 2 48 l → rI4 (gA τ 512 6) (e + 24) = d → rI4 (gA τ 512 6) (e + 28) = n → rL8 (gA τ 512 6) (e + 32) = x → rI4 (gA τ 512 6) (e + 40) = s → gI τ 514 6 = e + 48 → gI τ 513 6 = e → Fr (mRow 6) σ τ → RK τ → Q τ) :
    wp_Row_begin cf tv 6 2 48 (fun σ_14 => RK σ_14 → wp_Row_put cf tv 6 0 d (fun σ_16 => RK σ_16 → wp_Row_put cf tv 6 4 n (fun σ_18 => RK σ_18 → wp_Row_putLongAt cf tv 6 8 x (fun σ_20 => RK σ_20 → wp_Row_put cf tv 6 16 s (fun σ_22 => RK σ_22 → wp_Row_close cf tv 6 0 l (fun σ_24 => RK σ_24 → Q σ_24) σ_22) σ_20) σ_18) σ_16) σ_14) σ := by
  have r6 := row6
  refine sp_rbegin hrk he h0 (by omega) (by omega) (fun τ1 a1 n1 b1 f1 k1 => ?_)
  refine sp_rput a1 h0 (by omega) (by omega) (fun τ2 b2 f2 _ k2 => ?_)
  refine sp_rput (a := e) (by rw [f2.i _ _ (fun q => by unfold mRb at q; omega)]; exact a1) h0 (by omega) (by omega) (fun τ3 b3 f3 _ k3 => ?_)
  refine sp_rputL (a := e) (by rw [f3.i _ _ (fun q => by unfold mRb at q; omega), f2.i _ _ (fun q => by unfold mRb at q; omega)]; exact a1) h0 (by omega) (by omega) (fun τ4 b4 f4 _ k4 => ?_)
  refine sp_rput (a := e) (by rw [f4.i _ _ (fun q => by unfold mRb at q; omega), f3.i _ _ (fun q => by unfold mRb at q; omega), f2.i _ _ (fun q => by unfold mRb at q; omega)]; exact a1) h0 (by omega) (by omega) (fun τ5 b5 f5 _ k5 => ?_)
  have F : Fr (mRb 6) τ1 τ5 := ((f2.tr f3).tr f4).tr f5
  have a5 : gI τ5 513 6 = e := by rw [F.i _ _ (fun q => by unfold mRb at q; omega)]; exact a1
  have n5 : gI τ5 514 6 = e + 48 := by rw [F.i _ _ (fun q => by unfold mRb at q; omega)]; exact n1
  rw [b4, b3, b2, b1] at b5
  rw [show e + 24 + 0 = e + 24 by omega, show e + 24 + 4 = e + 28 by omega, show e + 24 + 8 = e + 32 by omega, show e + 24 + 16 = e + 40 by omega] at b5
  have mk := nF.mk (tv := tv) (g := gA σ 512 6) (G := gA τ5 512 6) (e := e) (ty := 2) (n := 48) (l := l) (fun i hi => by
    rw [b5, pI4_out (by omega), pL8_out (by omega), pI4_out (by omega), pI4_out (by omega)]) (by omega) (by omega) (by omega)
  refine sp_rclose a5 h0 mk.2.1 (by omega) (by omega) (fun τ6 b6 f6 k6 => ?_)
  rw [← b6] at mk
  have r4 : ∀ k, 24 ≤ k → rI4 (gA τ6 512 6) (e + k) = rI4 (gA τ5 512 6) (e + k) := fun k k0 => rI4_ext (fun i i0 i1 => by
    have := mk.2.2 (i - e) (by omega)
    rw [show e + (i - e) = i by omega] at this
    exact this)
  have r8 : rL8 (gA τ6 512 6) (e + 32) = rL8 (gA τ5 512 6) (e + 32) := rL8_ext (fun i i0 i1 => by
    have := mk.2.2 (i - e) (by omega)
    rw [show e + (i - e) = i by omega] at this
    exact this)
  intro k6'
  refine hQ τ6 mk.1 ?_ ?_ ?_ ?_ (by rw [f6.i _ _ (fun q => by unfold mRb at q; omega)]; exact n5) (by rw [f6.i _ _ (fun q => by unfold mRb at q; omega)]; exact a5) (f1.tr ((F.tr f6).mono (fun f o' q => frb6 q))) k6
  · rw [r4 24 (by omega), b5, rI4_o (by omega), rI4_o8 (by omega), rI4_o (by omega)]; exact rI4_p hd
  · rw [r4 28 (by omega), b5, rI4_o (by omega), rI4_o8 (by omega)]; exact rI4_p hn
  · rw [r8, b5, rL8_o (by omega)]; exact rL8_p hx
  · rw [r4 40 (by omega), b5]; exact rI4_p hs
/-- an attribute's node -/
theorem sp_attN {tv : Nat → Int} {cf : Cf} {σ : St} {e l : Int} {d n x s : St → Int} {D N X V : Int} {Q : St → Prop} (hrk : RK σ) (he : gI σ 514 6 = e) (h0 : 0 ≤ e) (h1 : e + 48 ≤ 512) (hd : rI D) (hn : rI N) (hx : rJ X) (hs : rJ V) (ed : ∀ τ, Fr (mRow 6) σ τ → d τ = D) (en : ∀ τ, Fr (mRow 6) σ τ → n τ = N) (ex : ∀ τ, Fr (mRow 6) σ τ → x τ = X) (es : ∀ τ, Fr (mRow 6) σ τ → s τ = V)
    (hQ : ∀ τ, nF (gA σ 512 6) (gA τ 512 6) e 9 48 l → rI4 (gA τ 512 6) (e + 24) = D → rI4 (gA τ 512 6) (e + 28) = N → rL8 (gA τ 512 6) (e + 32) = X → rL8 (gA τ 512 6) (e + 40) = V → gI τ 514 6 = e + 48 → gI τ 513 6 = e → Fr (mRow 6) σ τ → RK τ → Q τ) :
    wp_Row_begin cf tv 6 9 48 (fun σ_22 => RK σ_22 → wp_Row_put cf tv 6 0 (d σ_22) (fun σ_24 => RK σ_24 → wp_Row_put cf tv 6 4 (n σ_24) (fun σ_26 => RK σ_26 → wp_Row_putLongAt cf tv 6 8 (x σ_26) (fun σ_28 => RK σ_28 → wp_Row_putLongAt cf tv 6 16 (s σ_28) (fun σ_30 => RK σ_30 → wp_Row_close cf tv 6 0 l (fun σ_32 => RK σ_32 → Q σ_32) σ_30) σ_28) σ_26) σ_24) σ_22) σ := by
  have r6 := row6
  refine sp_rbegin hrk he h0 (by omega) (by omega) (fun τ1 a1 n1 b1 f1 k1 => ?_)
  rw [ed τ1 f1]
  refine sp_rput a1 h0 (by omega) (by omega) (fun τ2 b2 f2 _ k2 => ?_)
  rw [en τ2 (f1.tr (f2.mono (fun f o' q => frb6 q)))]
  refine sp_rput (a := e) (by rw [f2.i _ _ (fun q => by unfold mRb at q; omega)]; exact a1) h0 (by omega) (by omega) (fun τ3 b3 f3 _ k3 => ?_)
  rw [ex τ3 (f1.tr ((f2.tr f3).mono (fun f o' q => frb6 q)))]
  refine sp_rputL (a := e) (by rw [f3.i _ _ (fun q => by unfold mRb at q; omega), f2.i _ _ (fun q => by unfold mRb at q; omega)]; exact a1) h0 (by omega) (by omega) (fun τ4 b4 f4 _ k4 => ?_)
  rw [es τ4 (f1.tr (((f2.tr f3).tr f4).mono (fun f o' q => frb6 q)))]
  refine sp_rputL (a := e) (by rw [f4.i _ _ (fun q => by unfold mRb at q; omega), f3.i _ _ (fun q => by unfold mRb at q; omega), f2.i _ _ (fun q => by unfold mRb at q; omega)]; exact a1) h0 (by omega) (by omega) (fun τ5 b5 f5 _ k5 => ?_)
  have F : Fr (mRb 6) τ1 τ5 := ((f2.tr f3).tr f4).tr f5
  have a5 : gI τ5 513 6 = e := by rw [F.i _ _ (fun q => by unfold mRb at q; omega)]; exact a1
  have n5 : gI τ5 514 6 = e + 48 := by rw [F.i _ _ (fun q => by unfold mRb at q; omega)]; exact n1
  rw [b4, b3, b2, b1] at b5
  rw [show e + 24 + 0 = e + 24 by omega, show e + 24 + 4 = e + 28 by omega, show e + 24 + 8 = e + 32 by omega, show e + 24 + 16 = e + 40 by omega] at b5
  have mk := nF.mk (tv := tv) (g := gA σ 512 6) (G := gA τ5 512 6) (e := e) (ty := 9) (n := 48) (l := l) (fun i hi => by
    rw [b5, pL8_out (by omega), pL8_out (by omega), pI4_out (by omega), pI4_out (by omega)]) (by omega) (by omega) (by omega)
  refine sp_rclose a5 h0 mk.2.1 (by omega) (by omega) (fun τ6 b6 f6 k6 => ?_)
  rw [← b6] at mk
  have r4 : ∀ k, 24 ≤ k → rI4 (gA τ6 512 6) (e + k) = rI4 (gA τ5 512 6) (e + k) := fun k k0 => rI4_ext (fun i i0 i1 => by
    have := mk.2.2 (i - e) (by omega)
    rw [show e + (i - e) = i by omega] at this
    exact this)
  have r8 : ∀ k, 24 ≤ k → rL8 (gA τ6 512 6) (e + k) = rL8 (gA τ5 512 6) (e + k) := fun k k0 => rL8_ext (fun i i0 i1 => by
    have := mk.2.2 (i - e) (by omega)
    rw [show e + (i - e) = i by omega] at this
    exact this)
  intro k6'
  refine hQ τ6 mk.1 ?_ ?_ ?_ ?_ (by rw [f6.i _ _ (fun q => by unfold mRb at q; omega)]; exact n5) (by rw [f6.i _ _ (fun q => by unfold mRb at q; omega)]; exact a5) (f1.tr ((F.tr f6).mono (fun f o' q => frb6 q))) k6
  · rw [r4 24 (by omega), b5, rI4_o8 (by omega), rI4_o8 (by omega), rI4_o (by omega)]; exact rI4_p hd
  · rw [r4 28 (by omega), b5, rI4_o8 (by omega), rI4_o8 (by omega)]; exact rI4_p hn
  · rw [r8 32 (by omega), b5, rL8_o8 (by omega)]; exact rL8_p hx
  · rw [r8 40 (by omega), b5]; exact rL8_p hs
/-- the node that makes a file shorter -/
theorem sp_shoN {tv : Nat → Int} {cf : Cf} {σ : St} {e d n l : Int} {Q : St → Prop} (hrk : RK σ) (he : gI σ 514 6 = e) (h0 : 0 ≤ e) (h1 : e + 40 ≤ 512) (hd : rI d) (hn : rI n)
    (hQ : ∀ τ, nF (gA σ 512 6) (gA τ 512 6) e 4 40 l → rI4 (gA τ 512 6) (e + 24) = d → rI4 (gA τ 512 6) (e + 28) = n → gI τ 514 6 = e + 40 → gI τ 513 6 = e → Fr (mRow 6) σ τ → RK τ → Q τ) :
    wp_Row_begin cf tv 6 4 40 (fun σ_14 => RK σ_14 → wp_Row_put cf tv 6 0 d (fun σ_16 => RK σ_16 → wp_Row_put cf tv 6 4 n (fun σ_18 => RK σ_18 → wp_Row_close cf tv 6 0 l (fun σ_24 => RK σ_24 → Q σ_24) σ_18) σ_16) σ_14) σ := by
  have r6 := row6
  refine sp_rbegin hrk he h0 (by omega) (by omega) (fun τ1 a1 n1 b1 f1 k1 => ?_)
  refine sp_rput a1 h0 (by omega) (by omega) (fun τ2 b2 f2 _ k2 => ?_)
  refine sp_rput (a := e) (by rw [f2.i _ _ (fun q => by unfold mRb at q; omega)]; exact a1) h0 (by omega) (by omega) (fun τ5 b5 f5 _ k5 => ?_)
  have F : Fr (mRb 6) τ1 τ5 := f2.tr f5
  have a5 : gI τ5 513 6 = e := by rw [F.i _ _ (fun q => by unfold mRb at q; omega)]; exact a1
  have n5 : gI τ5 514 6 = e + 40 := by rw [F.i _ _ (fun q => by unfold mRb at q; omega)]; exact n1
  rw [b2, b1] at b5
  rw [show e + 24 + 0 = e + 24 by omega, show e + 24 + 4 = e + 28 by omega] at b5
  have mk := nF.mk (tv := tv) (g := gA σ 512 6) (G := gA τ5 512 6) (e := e) (ty := 4) (n := 40) (l := l) (fun i hi => by
    rw [b5, pI4_out (by omega), pI4_out (by omega)]) (by omega) (by omega) (by omega)
  refine sp_rclose a5 h0 mk.2.1 (by omega) (by omega) (fun τ6 b6 f6 k6 => ?_)
  rw [← b6] at mk
  have r4 : ∀ k, 24 ≤ k → rI4 (gA τ6 512 6) (e + k) = rI4 (gA τ5 512 6) (e + k) := fun k k0 => rI4_ext (fun i i0 i1 => by
    have := mk.2.2 (i - e) (by omega)
    rw [show e + (i - e) = i by omega] at this
    exact this)
  intro k6'
  refine hQ τ6 mk.1 ?_ ?_ (by rw [f6.i _ _ (fun q => by unfold mRb at q; omega)]; exact n5) (by rw [f6.i _ _ (fun q => by unfold mRb at q; omega)]; exact a5) (f1.tr ((F.tr f6).mono (fun f o' q => frb6 q))) k6
  · rw [r4 24 (by omega), b5, rI4_o (by omega)]; exact rI4_p hd
  · rw [r4 28 (by omega), b5]; exact rI4_p hn
/-- a thing's node -/
theorem sp_inoN {tv : Nat → Int} {cf : Cf} {σ : St} {e i l : Int} {Q : St → Prop} (hrk : RK σ) (he : gI σ 514 6 = e) (h0 : 0 ≤ e) (h1 : e + 48 ≤ 512)
    (hQ : ∀ τ, nF (gA σ 512 6) (gA τ 512 6) e 1 48 l → rI4 (gA τ 512 6) (e + 24) = gI σ 640 i → rI4 (gA τ 512 6) (e + 28) = gI σ 641 i → rI4 (gA τ 512 6) (e + 32) = gI σ 642 i → rI4 (gA τ 512 6) (e + 36) = gI σ 643 i → rI4 (gA τ 512 6) (e + 40) = gI σ 644 i → rI4 (gA τ 512 6) (e + 44) = gI σ 645 i → gI τ 514 6 = e + 48 → gI τ 513 6 = e → Fr (mRow 6) σ τ → RK τ → Q τ) : wp_House_addInode cf tv i l Q σ := by
  have r6 := row6
  unfold wp_House_addInode
  refine sp_rbegin hrk he h0 (by omega) (by omega) (fun τ1 a1 n1 b1 f1 k1 => ?_)
  have iv : ∀ {τ : St} {f : Nat}, Fr (mRow 6) σ τ → 640 ≤ f → gI τ f i = gI σ f i := fun fr hf => fr.i _ _ (fun q => by unfold mRow at q; omega)
  refine sp_rput a1 h0 (by omega) (by omega) (fun τ2 b2 f2 _ k2 => ?_)
  have F2 : Fr (mRb 6) τ1 τ2 := f2
  refine sp_rput (a := e) (by rw [F2.i _ _ (fun q => by unfold mRb at q; omega)]; exact a1) h0 (by omega) (by omega) (fun τ3 b3 f3 _ k3 => ?_)
  have F3 : Fr (mRb 6) τ1 τ3 := F2.tr f3
  refine sp_rput (a := e) (by rw [F3.i _ _ (fun q => by unfold mRb at q; omega)]; exact a1) h0 (by omega) (by omega) (fun τ4 b4 f4 _ k4 => ?_)
  have F4 : Fr (mRb 6) τ1 τ4 := F3.tr f4
  refine sp_rput (a := e) (by rw [F4.i _ _ (fun q => by unfold mRb at q; omega)]; exact a1) h0 (by omega) (by omega) (fun τ5 b5 f5 _ k5 => ?_)
  have F5 : Fr (mRb 6) τ1 τ5 := F4.tr f5
  refine sp_rput (a := e) (by rw [F5.i _ _ (fun q => by unfold mRb at q; omega)]; exact a1) h0 (by omega) (by omega) (fun τ6 b6 f6 _ k6 => ?_)
  have F6 : Fr (mRb 6) τ1 τ6 := F5.tr f6
  refine sp_rput (a := e) (by rw [F6.i _ _ (fun q => by unfold mRb at q; omega)]; exact a1) h0 (by omega) (by omega) (fun τ7 b7 f7 _ k7 => ?_)
  have F7 : Fr (mRb 6) τ1 τ7 := F6.tr f7
  have a7 : gI τ7 513 6 = e := by rw [F7.i _ _ (fun q => by unfold mRb at q; omega)]; exact a1
  have n7 : gI τ7 514 6 = e + 48 := by rw [F7.i _ _ (fun q => by unfold mRb at q; omega)]; exact n1
  have up : ∀ {τ : St}, Fr (mRb 6) τ1 τ → Fr (mRow 6) σ τ := fun fr => f1.tr (fr.mono (fun f o' q => frb6 q))
  rw [b6, b5, b4, b3, b2, b1, iv f1 (by decide), iv (up F2) (by decide), iv (up F3) (by decide), iv (up F4) (by decide), iv (up F5) (by decide), iv (up F6) (by decide)] at b7
  rw [show e + 24 + 0 = e + 24 by omega, show e + 24 + 4 = e + 28 by omega, show e + 24 + 8 = e + 32 by omega, show e + 24 + 12 = e + 36 by omega, show e + 24 + 16 = e + 40 by omega, show e + 24 + 20 = e + 44 by omega] at b7
  have mk := nF.mk (tv := tv) (g := gA σ 512 6) (G := gA τ7 512 6) (e := e) (ty := 1) (n := 48) (l := l) (fun j hj => by
    rw [b7, pI4_out (by omega), pI4_out (by omega), pI4_out (by omega), pI4_out (by omega), pI4_out (by omega), pI4_out (by omega)]) (by omega) (by omega) (by omega)
  refine sp_rclose a7 h0 mk.2.1 (by omega) (by omega) (fun τ8 b8' f8 k8 => ?_)
  rw [← b8'] at mk
  have r4 : ∀ k, 24 ≤ k → rI4 (gA τ8 512 6) (e + k) = rI4 (gA τ7 512 6) (e + k) := fun k k0 => rI4_ext (fun j j0 j1 => by
    have := mk.2.2 (j - e) (by omega)
    rw [show e + (j - e) = j by omega] at this
    exact this)
  have ri : ∀ f, ft f = 0 → rI (gI σ f i) := fun f hf => hrk.i _ _ hf
  intro k8'
  refine hQ τ8 mk.1 ?_ ?_ ?_ ?_ ?_ ?_ (by rw [f8.i _ _ (fun q => by unfold mRb at q; omega)]; exact n7) (by rw [f8.i _ _ (fun q => by unfold mRb at q; omega)]; exact a7) (up (F7.tr f8)) k8
  · rw [r4 24 (by omega), b7, rI4_o (by omega), rI4_o (by omega), rI4_o (by omega), rI4_o (by omega), rI4_o (by omega)]; exact rI4_p (ri _ (by decide))
  · rw [r4 28 (by omega), b7, rI4_o (by omega), rI4_o (by omega), rI4_o (by omega), rI4_o (by omega)]; exact rI4_p (ri _ (by decide))
  · rw [r4 32 (by omega), b7, rI4_o (by omega), rI4_o (by omega), rI4_o (by omega)]; exact rI4_p (ri _ (by decide))
  · rw [r4 36 (by omega), b7, rI4_o (by omega), rI4_o (by omega)]; exact rI4_p (ri _ (by decide))
  · rw [r4 40 (by omega), b7, rI4_o (by omega)]; exact rI4_p (ri _ (by decide))
  · rw [r4 44 (by omega), b7]; exact rI4_p (ri _ (by decide))
/-- a piece's node -/
theorem sp_pieN {tv : Nat → Int} {cf : Cf} {σ : St} {e x k n : Int} {Q : St → Prop} (hrk : RK σ) (he : gI σ 514 6 = e) (h0 : 0 ≤ e) (h1 : e + (32 + (n + 7) / 8 * 8) ≤ 512) (hx : rI x) (hk : 0 ≤ k ∧ k < 256) (hn : 1 ≤ n ∧ n ≤ 64)
    (hQ : ∀ τ, nF (gA σ 512 6) (gA τ 512 6) e 3 (32 + (n + 7) / 8 * 8) 0 → rI4 (gA τ 512 6) (e + 24) = x → rI4 (gA τ 512 6) (e + 28) = k + 65536 * n → (∀ i, 0 ≤ i → i < n → gA τ 512 6 (e + 32 + i) = gA σ 77 0 i) → (∀ i, n ≤ i → i < (n + 7) / 8 * 8 → gA τ 512 6 (e + 32 + i) = 0) → gI τ 514 6 = e + (32 + (n + 7) / 8 * 8) → gI τ 513 6 = e → Fr (mRow 6) σ τ → RK τ → Q τ) : wp_House_addPiece cf tv x k n Q σ := by
  have r6 := row6
  generalize hN : 32 + (n + 7) / 8 * 8 = N at *
  unfold wp_House_addPiece wp_House_eights
  rw [iand_m8 (by omega) (by omega)]
  intro _ _
  rw [show 32 + (n + 7) / 8 * 8 = N from hN, w32_id (by unfold rI; omega)]
  refine sp_rbegin hrk he h0 (by omega) (by omega) (fun τ1 a1 n1 b1 f1 k1 => ?_)
  refine sp_rput a1 h0 (by omega) (by omega) (fun τ2 b2 f2 _ k2 => ?_)
  rw [ior_kl (by omega) (by omega)]
  refine sp_rput (a := e) (by rw [f2.i _ _ (fun q => by unfold mRb at q; omega)]; exact a1) h0 (by omega) (by omega) (fun τ3 b3 f3 _ k3 => ?_)
  have F3 : Fr (mRb 6) τ1 τ3 := f2.tr f3
  have a3 : gI τ3 513 6 = e := by rw [F3.i _ _ (fun q => by unfold mRb at q; omega)]; exact a1
  rw [a3, w32_id (x := e + 32) (by unfold rI; omega)]
  refine ⟨⟨by omega, by omega, by omega⟩, fun τ4 e4 => ?_⟩
  have by3 : gA τ3 77 0 = gA σ 77 0 := by rw [F3.a _ _ (fun q => by unfold mRb at q; omega), f1.a _ _ (fun q => by unfold mRow at q; omega)]
  have b4 : gA τ4 512 6 = cpy (gA σ 77 0) (gA τ3 512 6) 0 (e + 32) n := by rw [e4, gA_sAr1, by3]
  have F4 : Fr (mRb 6) τ1 τ4 := F3.tr (by rw [e4]; exact fr_rb)
  have a4 : gI τ4 513 6 = e := by rw [F4.i _ _ (fun q => by unfold mRb at q; omega)]; exact a1
  have n4 : gI τ4 514 6 = e + N := by rw [F4.i _ _ (fun q => by unfold mRb at q; omega)]; exact n1
  rw [b2, b1] at b3
  rw [show e + 24 + 0 = e + 24 by omega, show e + 24 + 4 = e + 28 by omega] at b3
  have lo : ∀ i, i < e + 32 → gA τ4 512 6 i = gA τ3 512 6 i := fun i hi => by
    rw [b4]; unfold cpy; rw [if_neg (by omega)]
  have mk := nF.mk (tv := tv) (g := gA σ 512 6) (G := gA τ4 512 6) (e := e) (ty := 3) (n := N) (l := 0) (fun i hi => by
    rw [lo i (by omega), b3, pI4_out (by omega), pI4_out (by omega)]) (by omega) (by omega) (by omega)
  refine sp_rclose a4 h0 mk.2.1 (by omega) (by omega) (fun τ5 b5 f5 k5 => ?_)
  rw [← b5] at mk
  have r4 : ∀ k, 24 ≤ k → k < 29 → rI4 (gA τ5 512 6) (e + k) = rI4 (gA τ3 512 6) (e + k) := fun k k0 k1 => rI4_ext (fun i i0 i1 => by
    have := mk.2.2 (i - e) (by omega)
    rw [show e + (i - e) = i by omega] at this
    rw [this, lo i (by omega)])
  intro k5'
  refine hQ τ5 mk.1 ?_ ?_ (fun i i0 i1 => ?_) (fun i i0 i1 => ?_) (by rw [f5.i _ _ (fun q => by unfold mRb at q; omega)]; exact n4) (by rw [f5.i _ _ (fun q => by unfold mRb at q; omega)]; exact a4) (f1.tr ((F4.tr f5).mono (fun f o' q => frb6 q))) k5
  · rw [r4 24 (by omega) (by omega), b3, rI4_o (by omega)]; exact rI4_p hx
  · rw [r4 28 (by omega) (by omega), b3]; exact rI4_p (by unfold rI; omega)
  · have := mk.2.2 (32 + i) (by omega)
    rw [show e + (32 + i) = e + 32 + i by omega] at this
    rw [this, b4]
    unfold cpy
    rw [if_pos (by omega), show 0 + (e + 32 + i - (e + 32)) = i by omega]
  · have := mk.2.2 (32 + i) (by omega)
    rw [show e + (32 + i) = e + 32 + i by omega] at this
    rw [this, b4]
    unfold cpy
    rw [if_neg (by omega), b3, pI4_out (by omega), pI4_out (by omega)]
    exact nBeg_z (by omega) (by omega)
