/-! numbers as rows of bytes -/
def pgs (db : Int → Int → Int) : Int → Int → Int → Int := fun n k i => db n (128 * k + i)
/-- dk n: how many pages of number n are written (-1: it is not carried); db n p: its byte p -/
def DI (tv : Nat → Int) (cf : Cf) (σ : St) (o : Int) (dk : Int → Int) (db : Int → Int → Int) (Sp : Int → Int → (Int → Int → Int) → Prop) (T : Int) : Prop := ∃ lp, BI tv cf σ o lp dk (pgs db) Sp T NoE
def putB (db : Int → Int → Int) (n a len : Int) (src : Int → Int) : Int → Int → Int := fun n' p => if n' = n ∧ a ≤ p ∧ p < a + len then src (p - a) else db n' p
theorem DI.x {tv : Nat → Int} {cf : Cf} {σ : St} {o : Int} {dk : Int → Int} {db : Int → Int → Int} {Sp : Int → Int → (Int → Int → Int) → Prop} {T : Int} {db' : Int → Int → Int} (h : DI tv cf σ o dk db Sp T) (e : ∀ n p, 0 ≤ n → n < cf.1 - 6 → 0 ≤ p → p < 128 * dk n → db' n p = db n p) : DI tv cf σ o dk db' Sp T := by
  obtain ⟨lp, H⟩ := h
  exact ⟨lp, H.vpx (fun n n0 n1 k k0 k1 i i0 i1 => e n _ n0 n1 (by omega) (by omega))⟩
theorem DI.fr {tv : Nat → Int} {cf : Cf} {σ : St} {o : Int} {dk : Int → Int} {db : Int → Int → Int} {Sp : Int → Int → (Int → Int → Int) → Prop} {T : Int} {τ : St} {M : Nat → Int → Prop} (h : DI tv cf σ o dk db Sp T) (f : Fr M σ τ) (n : ∀ f o', rBI o f o' → ¬ M f o') : DI tv cf τ o dk db Sp T := by
  obtain ⟨lp, H⟩ := h
  exact ⟨lp, H.fr f n⟩
theorem DI.t {tv : Nat → Int} {cf : Cf} {σ : St} {o : Int} {dk : Int → Int} {db : Int → Int → Int} {Sp : Int → Int → (Int → Int → Int) → Prop} {T : Int} {T' : Int} (h : DI tv cf σ o dk db Sp T) (hT : T ≤ T') (hT' : T' < 1073741824) : DI tv cf σ o dk db Sp T' := by
  obtain ⟨lp, H⟩ := h
  exact ⟨lp, H.ex (fun _ q => q) hT hT'⟩
theorem DI.k {tv : Nat → Int} {cf : Cf} {σ : St} {o : Int} {dk : Int → Int} {db : Int → Int → Int} {Sp : Int → Int → (Int → Int → Int) → Prop} {T : Int} (hc : CfOK cf) (h : DI tv cf σ o dk db Sp T) {n : Int} (hn : 0 ≤ n ∧ n < cf.1 - 6) : -1 ≤ dk n ∧ dk n ≤ cf.2.1 - 2 := by
  obtain ⟨lp, h1, h2, h3, h4, h5, h6, h7, h8, h9, h10⟩ := h
  have v := h8 n hn.1 hn.2
  by_cases q : gA σ 258 o n = -1
  · have hP : 8 ≤ cf.2.1 ∧ cf.2.1 ≤ 32 := hc.2.1
    rw [v.1 q]; omega
  · have w := (v.2 q).1
    rcases h4 n hn.1 hn.2 with z | ⟨z1, z2⟩
    · exact absurd z q
    · have hP := (h1 _ z1.1 z1.2).1
      have := ((h3 _ z1.1 z1.2 (fun z => z)).2.2.2.2 (by omega)).2.2.1
      omega
theorem sp_dwrite {tv : Nat → Int} {cf : Cf} {σ : St} {o : Int} {dk : Int → Int} {db : Int → Int → Int} {Sp : Int → Int → (Int → Int → Int) → Prop} {T : Int} (hc : CfOK cf) (hrk : RK σ) {n k a q : Int} {f : Nat} {Q : St → Prop} (h : DI tv cf σ o dk db Sp T) (hn : 0 ≤ n ∧ n < cf.1 - 6) (hk : k = max 0 (dk n)) (hkP : k < cf.2.1 - 2) (hf : f < 130 ∨ 136 < f) (hty : aty f = 1) (ha : 0 ≤ a) (hl : a + 128 ≤ aln cf f q) (hfm : ¬ mBw o f q) (hT : T + 12 < 1073741824) (hs : ∀ i, 0 ≤ i → i < 128 → gA σ f q (a + i) = db n (128 * k + i))
    (hQ : ∀ τ, DI tv cf τ o (upF dk n (k + 1)) db Sp (T + 12) → Fr (mBw o) σ τ → RK τ → Q τ) : wp_Blocks_write cf tv o n k f q a Q σ := by
  obtain ⟨lp, H⟩ := h
  refine sp_bwrite hc hrk H hn hk (by omega) hf hty ha hl hfm hT (fun τ lp' H' f' k' => hQ τ ⟨lp', H'.vpx ?_⟩ f' k')
  intro m m0 m1 j j0 j1 i i0 i1
  unfold upV upP pgs upF at *
  by_cases e : m = n
  · rw [if_pos e]
    by_cases e2 : j = k
    · rw [if_pos e2, hs i i0 i1, e, e2]
    · rw [if_neg e2, e]
  · rw [if_neg e]
theorem sp_ddrop {tv : Nat → Int} {cf : Cf} {σ : St} {o : Int} {dk : Int → Int} {db : Int → Int → Int} {Sp : Int → Int → (Int → Int → Int) → Prop} {T : Int} (hc : CfOK cf) (hrk : RK σ) {n : Int} {Q : St → Prop} (h : DI tv cf σ o dk db Sp T) (hn : 0 ≤ n ∧ n < cf.1 - 6) (hS : ∀ w, 0 ≤ w → w ≤ dk n → Sp n w (pgs db n))
    (hQ : ∀ τ, DI tv cf τ o (upF dk n (-1)) db Sp T → Fr (mMv o) σ τ → RK τ → Q τ) : wp_Blocks_drop cf tv o n Q σ := by
  obtain ⟨lp, H⟩ := h
  exact sp_drop hc hrk H hn hS (fun τ H' f k => hQ τ ⟨lp, H'⟩ f k)
theorem sp_dwritten {tv : Nat → Int} {cf : Cf} {σ : St} {o : Int} {dk : Int → Int} {db : Int → Int → Int} {Sp : Int → Int → (Int → Int → Int) → Prop} {T : Int} (hc : CfOK cf) {n : Int} {Q : Int → St → Prop} (h : DI tv cf σ o dk db Sp T) (hn : 0 ≤ n ∧ n < cf.1 - 6) (hQ : Q (max 0 (dk n)) σ) : wp_Blocks_written cf tv o n Q σ := by
  obtain ⟨lp, H⟩ := h
  exact sp_written H hc hn hQ
theorem sp_dread {tv : Nat → Int} {cf : Cf} {σ : St} {o : Int} {dk : Int → Int} {db : Int → Int → Int} {Sp : Int → Int → (Int → Int → Int) → Prop} {T : Int} {n k a q : Int} {f : Nat} {Q : St → Prop} (hc : CfOK cf) (h : DI tv cf σ o dk db Sp T) (hn : 0 ≤ n ∧ n < cf.1 - 6) (hk : 0 ≤ k) (hf : f < 130 ∨ 136 < f) (ha : 0 ≤ a) (hl : a + 128 ≤ aln cf f q) (hla : a + 128 < 2147483647)
    (hQ : ∀ τ, gA τ f q = (fun i => if a ≤ i ∧ i < a + 128 then (if k < dk n then db n (128 * k + (i - a)) else -1) else gA σ f q i) → Fr (fun f' o' => (f' = 135 ∧ o' = 0) ∨ (f' = f ∧ o' = q)) σ τ → RK τ → Q τ) : wp_Blocks_read cf tv o n k f q a Q σ := by
  obtain ⟨lp, H⟩ := h
  exact sp_bread hc H hn hk hf ha hl hla hQ
/-! heads that write -/
/-- writer w: what it holds, and what waits in its buffer -/
def WrI (cf : Cf) (σ : St) (dk : Int → Int) (db : Int → Int → Int) (w : Int) : Prop := gI σ 451 w = -1 ∨ ((4 + cf.2.2 ≤ gI σ 451 w ∧ gI σ 451 w < cf.1 - 6) ∧ (0 ≤ gI σ 452 w ∧ gI σ 452 w ≤ (cf.2.1 - 2) * 128) ∧ max 0 (dk (gI σ 451 w)) = gI σ 452 w / 128 ∧ ∀ p, gI σ 452 w / 128 * 128 ≤ p → p < gI σ 452 w → gA σ 450 w (p % 128) = db (gI σ 451 w) p)
def mWr (w : Int) (f : Nat) (o' : Int) : Prop := mBw (w % 2) f o' ∨ ((f = 450 ∨ f = 452) ∧ o' = w)
/-- one byte into the buffer; a full page is written -/
theorem sp_wbyte {tv : Nat → Int} {cf : Cf} {σ : St} {dk : Int → Int} {db : Int → Int → Int} {Sp : Int → Int → (Int → Int → Int) → Prop} {T w n pl v : Int} (hc : CfOK cf) (hrk : RK σ) {K : St → Prop} (h : DI tv cf σ (w % 2) dk db Sp T) (hw : WrI cf σ dk db w) (hn : gI σ 451 w = n) (hn1 : n ≠ -1) (hpl : gI σ 452 w = pl) (hS : pl < (cf.2.1 - 2) * 128) (hv : v = db n pl) (hb : rB v) (hT : T + 12 < 1073741824)
    (hK : ∀ τ dk', DI tv cf τ (w % 2) dk' db Sp (T + 12) → (∀ m, m ≠ n → dk' m = dk m) → (dk' n = dk n ∨ dk' n = (pl + 1) / 128) → gI τ 451 w = n → gI τ 452 w = pl + 1 → WrI cf τ dk' db w → Fr (mWr w) σ τ → RK τ → K τ) :
    ((0 : Int) ≤ jrm pl 128 ∧ jrm pl 128 < 128) ∧ ∀ σ20, σ20 = sA σ 450 w (jrm pl 128) v → ∀ σ21, σ21 = sI σ20 452 w (w32 ((gI σ20 452 w) + 1)) → ((¬ (jrm (gI σ21 452 w) 128) = 0 → K σ21) ∧ ((jrm (gI σ21 452 w) 128) = 0 → wp_Blocks_write cf tv (w % 2) (gI σ21 451 w) (w32 ((jdv (gI σ21 452 w) 128) - 1)) 450 w 0 (fun σ' => RK σ' → K σ') σ21)) := by
  have hP : 8 ≤ cf.2.1 ∧ cf.2.1 ≤ 32 := hc.2.1
  have hB : 24 ≤ cf.1 ∧ cf.1 ≤ 64 := hc.1
  have hR : 0 ≤ cf.2.2 := hc.2.2.1
  rcases hw with q | ⟨w1, w2, w3, w4⟩
  · omega
  rw [hn] at w1 w3 w4
  rw [hpl] at w2 w3 w4
  rw [jrm_nn (by omega) (by omega) (by omega)]
  refine ⟨by omega, fun σ20 e20 σ21 e21 => ?_⟩
  have p20 : gI σ20 452 w = pl := by rw [e20]; exact hpl
  rw [p20, w32_id (by unfold rI; omega)] at e21
  have p21 : gI σ21 452 w = pl + 1 := by rw [e21, gI_sI, if_pos ⟨rfl, rfl⟩]
  have n21 : gI σ21 451 w = n := by rw [e21, gI_sI, if_neg (fun q => absurd q.1 (by decide)), e20]; exact hn
  have b21 : ∀ i, gA σ21 450 w i = if i = pl % 128 then v else gA σ 450 w i := fun i => by rw [e21, gA_sI, e20, sA_if]
  have k21 : RK σ21 := by rw [e21, e20]; exact (hrk.sA (f := 450) (by show rB v; exact hb)).sI (by show rI _; unfold rI; omega)
  have f21 : Fr (fun f o' => (f = 450 ∨ f = 452) ∧ o' = w) σ σ21 := by rw [e21, e20]; exact ((Fr.rf _ _).sA ⟨by omega, rfl⟩).sI ⟨by omega, rfl⟩
  have nb : ∀ f o', rBI (w % 2) f o' → ¬ ((f = 450 ∨ f = 452) ∧ o' = w) := fun f o' a q => by unfold rBI at a; omega
  have H21 := h.fr f21 nb
  clear e20 e21
  rw [p21, jrm_nn (by omega) (by omega) (by omega), n21]
  have bx : ∀ p, (pl + 1 - 1) / 128 * 128 ≤ p → p < pl + 1 → gA σ21 450 w (p % 128) = db n p := by
    intro p p0 p1
    rw [b21]
    by_cases e : p = pl
    · rw [e, if_pos rfl, hv]
    · rw [if_neg (by omega)]; exact w4 p (by omega) (by omega)
  refine ⟨fun q => ?_, fun q => ?_⟩
  · refine hK σ21 dk (H21.t (by omega) hT) (fun _ _ => rfl) (Or.inl rfl) n21 p21 (Or.inr ?_) (f21.mono (fun f o' q => Or.inr q)) k21
    rw [n21, p21]
    exact ⟨w1, by omega, by omega, fun p p0 p1 => bx p (by omega) p1⟩
  · rw [jdv_nn (by omega) (by omega) (by omega), w32_id (by unfold rI; omega)]
    refine sp_dwrite hc k21 H21 (by omega) (by omega) (by omega) (Or.inr (by decide)) (by decide) (by omega) (by show (0 : Int) + 128 ≤ 128; omega) (fun q => by unfold mBw at q; omega) hT ?_ (fun τ Hd fd kd _ => ?_)
    · intro i i0 i1
      have := bx (128 * ((pl + 1) / 128 - 1) + i) (by omega) (by omega)
      rw [show (128 * ((pl + 1) / 128 - 1) + i) % 128 = 0 + i by omega] at this
      exact this
    · have nw : ∀ f, (450 ≤ f ∧ f ≤ 452) → ¬ mBw (w % 2) f w := fun f a q => by unfold mBw at q; omega
      have nτ : gI τ 451 w = n := by rw [fd.i _ _ (nw _ (by decide))]; exact n21
      have pτ : gI τ 452 w = pl + 1 := by rw [fd.i _ _ (nw _ (by decide))]; exact p21
      have dn : upF dk n ((pl + 1) / 128 - 1 + 1) n = (pl + 1) / 128 := by unfold upF; rw [if_pos rfl]; omega
      refine hK τ _ Hd (fun m e => by unfold upF; rw [if_neg e]) (Or.inr dn) nτ pτ (Or.inr ?_) ((f21.mono (fun f o' q => Or.inr q)).tr (fd.mono (fun f o' q => Or.inl q))) kd
      rw [nτ, pτ, dn]
      exact ⟨w1, by omega, by omega, fun p p0 p1 => by omega⟩
theorem WrI.x {cf : Cf} {σ : St} {dk dk' : Int → Int} {db db' : Int → Int → Int} {w : Int} (h : WrI cf σ dk db w) (h1 : gI σ 451 w ≠ -1 → dk' (gI σ 451 w) = dk (gI σ 451 w)) (h2 : gI σ 451 w ≠ -1 → ∀ p, 0 ≤ p → p < gI σ 452 w → db' (gI σ 451 w) p = db (gI σ 451 w) p) : WrI cf σ dk' db' w := by
  rcases h with q | ⟨w1, w2, w3, w4⟩
  · exact Or.inl q
  · by_cases q : gI σ 451 w = -1
    · exact Or.inl q
    · refine Or.inr ⟨w1, w2, by rw [h1 q]; exact w3, fun p p0 p1 => ?_⟩
      rw [h2 q p (by omega) p1]; exact w4 p p0 p1
theorem WrI.fr {cf : Cf} {σ τ : St} {dk : Int → Int} {db : Int → Int → Int} {w : Int} {M : Nat → Int → Prop} (h : WrI cf σ dk db w) (f : Fr M σ τ) (n : ∀ f, 450 ≤ f → f ≤ 452 → ¬ M f w) : WrI cf τ dk db w := by
  unfold WrI at *
  rw [f.i 451 w (n _ (by decide) (by decide)), f.i 452 w (n _ (by decide) (by decide)), f.a 450 w (n _ (by decide) (by decide))]
  exact h
theorem sp_wput {tv : Nat → Int} {cf : Cf} {σ : St} {dk : Int → Int} {db : Int → Int → Int} {Sp : Int → Int → (Int → Int → Int) → Prop} {T w n pl a len q : Int} {f : Nat} (hc : CfOK cf) (hrk : RK σ) {Q : Int → St → Prop} (h : DI tv cf σ (w % 2) dk db Sp T) (hw : WrI cf σ dk db w) (hn : gI σ 451 w = n) (hn1 : n ≠ -1) (hpl : gI σ 452 w = pl) (hlen : 0 ≤ len) (hS : pl + len ≤ (cf.2.1 - 2) * 128) (hty : aty f = 1) (ha : 0 ≤ a) (hl : a + len ≤ aln cf f q) (hla : a + len < 2147483647) (hfm : ¬ mWr w f q) (hT : T + 12 * len < 1073741824)
    (hQ : ∀ τ dk', DI tv cf τ (w % 2) dk' (putB db n pl len (fun i => gA σ f q (a + i))) Sp (T + 12 * len) → (∀ m, m ≠ n → dk' m = dk m) → (dk' n = dk n ∨ dk' n = (pl + len) / 128) → gI τ 451 w = n → gI τ 452 w = pl + len → WrI cf τ dk' (putB db n pl len (fun i => gA σ f q (a + i))) w → Fr (mWr w) σ τ → RK τ → Q pl τ) : wp_Writer_put cf tv w f q a len Q σ := by
  have hP : 8 ≤ cf.2.1 ∧ cf.2.1 ≤ 32 := hc.2.1
  generalize hdb : putB db n pl len (fun i => gA σ f q (a + i)) = db' at hQ
  have hpl0 : 0 ≤ pl ∧ max 0 (dk n) = pl / 128 := by
    rcases hw with z | ⟨w1, w2, w3, w4⟩
    · omega
    · rw [hn] at w3; rw [hpl] at w2 w3; exact ⟨w2.1, w3⟩
  have hd0 : ∀ m p, (m ≠ n ∨ p < pl) → db' m p = db m p := by
    intro m p e
    rw [← hdb]; unfold putB
    rw [if_neg (fun z => by rcases e with e | e
                            · exact e z.1
                            · omega)]
  have hd1 : ∀ i, 0 ≤ i → i < len → db' n (pl + i) = gA σ f q (a + i) := by
    intro i i0 i1
    rw [← hdb]; unfold putB
    rw [if_pos ⟨rfl, by omega, by omega⟩, show pl + i - pl = i by omega]
  have H0 : DI tv cf σ (w % 2) dk db' Sp T := h.x (fun m p m0 m1 p0 p1 => hd0 m p (by
    by_cases e : m = n
    · right; rw [e] at p1; omega
    · exact Or.inl e))
  have W0 : WrI cf σ dk db' w := hw.x (fun _ => rfl) (fun _ p _ p1 => hd0 _ p (Or.inr (by omega)))
  unfold wp_Writer_put
  intro y4 e4
  rw [e4, hpl]
  refine lQ2_rule (fun z4 z5 τ => z4 = pl ∧ (0 ≤ z5 ∧ z5 ≤ len) ∧ ∃ dk', DI tv cf τ (w % 2) dk' db' Sp (T + 12 * z5) ∧ (∀ m, m ≠ n → dk' m = dk m) ∧ (dk' n = dk n ∨ dk' n = (pl + z5) / 128) ∧ gI τ 451 w = n ∧ gI τ 452 w = pl + z5 ∧ WrI cf τ dk' db' w ∧ Fr (mWr w) σ τ ∧ RK τ) (fun _ z5 _ => (len - z5).toNat) ?_ pl 0 σ ⟨rfl, by omega, dk, by rw [show T + 12 * 0 = T by omega]; exact H0, fun _ _ => rfl, Or.inl rfl, hn, by omega, W0, Fr.rf _ _, hrk⟩
  intro K z4 z5 τ hI hK
  obtain ⟨e4', hz, dk', Hd, d1, d2, nn, pp, ww, fr, rk⟩ := hI
  unfold wp_Writer_put_L9
  refine ⟨fun z => ?_, fun z => ?_⟩
  · have e : z5 = len := by omega
    rw [e] at Hd d2 pp
    rw [e4']
    exact hQ τ dk' Hd d1 d2 nn pp ww fr rk
  · have ev : gA τ f q (w32 (a + z5)) = db' n (pl + z5) := by
      rw [w32_id (by unfold rI; omega), fr.a f q hfm, hd1 z5 hz.1 (by omega)]
    rw [pp]
    refine ⟨by rw [w32_id (by unfold rI; omega)]; omega, ?_⟩
    refine sp_wbyte hc rk Hd ww nn hn1 pp (by omega) ev (rk.ab _ _ _ hty) (by omega) (fun τ' dk2 H2 g1 g2 g3 g4 g5 g6 g7 => ?_)
    unfold wp_Writer_put_b81
    intro y ey
    rw [w32_id (by unfold rI; omega)] at ey
    rw [ey]
    refine hK _ _ _ ⟨e4', by omega, dk2, by rw [show T + 12 * (z5 + 1) = T + 12 * z5 + 12 by omega]; exact H2, fun m e => (g1 m e).trans (d1 m e), ?_, g3, by omega, g5, fr.tr g6, g7⟩ (by omega)
    rcases g2 with g | g
    · rcases d2 with d | d
      · left; omega
      · rcases g5 with g5 | ⟨_, _, g5, _⟩
        · omega
        · rw [g3, g4] at g5; omega
    · right; rw [g]; congr 1; omega
theorem sp_wflush {tv : Nat → Int} {cf : Cf} {σ : St} {dk : Int → Int} {db : Int → Int → Int} {Sp : Int → Int → (Int → Int → Int) → Prop} {T w n pl pl' : Int} (hc : CfOK cf) (hrk : RK σ) {Q : St → Prop} (h : DI tv cf σ (w % 2) dk db Sp T) (hw : WrI cf σ dk db w) (hn : gI σ 451 w = n) (hn1 : n ≠ -1) (hpl : gI σ 452 w = pl) (hpl' : pl' = (pl + 127) / 128 * 128) (hT : T + 1536 < 1073741824)
    (hQ : ∀ τ dk', DI tv cf τ (w % 2) dk' (putB db n pl (pl' - pl) (fun _ => 0)) Sp (T + 1536) → (∀ m, m ≠ n → dk' m = dk m) → (dk' n = dk n ∨ dk' n = pl' / 128) → gI τ 451 w = n → gI τ 452 w = pl' → WrI cf τ dk' (putB db n pl (pl' - pl) (fun _ => 0)) w → Fr (mWr w) σ τ → RK τ → Q τ) : wp_Writer_flush cf tv w Q σ := by
  have hP : 8 ≤ cf.2.1 ∧ cf.2.1 ≤ 32 := hc.2.1
  generalize hdb : putB db n pl (pl' - pl) (fun _ => 0) = db' at hQ
  have hpl0 : (0 ≤ pl ∧ pl ≤ (cf.2.1 - 2) * 128) ∧ max 0 (dk n) = pl / 128 := by
    rcases hw with z | ⟨w1, w2, w3, w4⟩
    · omega
    · rw [hn] at w3; rw [hpl] at w2 w3; exact ⟨w2, w3⟩
  have hd0 : ∀ m p, (m ≠ n ∨ p < pl) → db' m p = db m p := by
    intro m p e
    rw [← hdb]; unfold putB
    rw [if_neg (fun z => by rcases e with e | e
                            · exact e z.1
                            · omega)]
  have hd1 : ∀ i, pl ≤ i → i < pl' → db' n i = 0 := by
    intro i i0 i1
    rw [← hdb]; unfold putB
    rw [if_pos ⟨rfl, by omega, by omega⟩]
  have H0 : DI tv cf σ (w % 2) dk db' Sp T := h.x (fun m p m0 m1 p0 p1 => hd0 m p (by
    by_cases e : m = n
    · right; rw [e] at p1; omega
    · exact Or.inl e))
  have W0 : WrI cf σ dk db' w := hw.x (fun _ => rfl) (fun _ p _ p1 => hd0 _ p (Or.inr (by omega)))
  unfold wp_Writer_flush
  refine ⟨fun _ => ?_, fun z => by omega⟩
  refine lQ0_rule (fun τ => ∃ j dk', (0 ≤ j ∧ pl + j ≤ pl') ∧ DI tv cf τ (w % 2) dk' db' Sp (T + 12 * j) ∧ (∀ m, m ≠ n → dk' m = dk m) ∧ (dk' n = dk n ∨ dk' n = (pl + j) / 128) ∧ gI τ 451 w = n ∧ gI τ 452 w = pl + j ∧ WrI cf τ dk' db' w ∧ Fr (mWr w) σ τ ∧ RK τ) (fun τ => (pl' - gI τ 452 w).toNat) ?_ σ ⟨0, dk, by omega, by rw [show T + 12 * 0 = T by omega]; exact H0, fun _ _ => rfl, Or.inl rfl, hn, by omega, W0, Fr.rf _ _, hrk⟩
  intro K τ hI hK
  obtain ⟨j, dk', hj, Hd, d1, d2, nn, pp, ww, fr, rk⟩ := hI
  unfold wp_Writer_flush_L9
  rw [pp, jrm_nn (by omega) (by omega) (by omega)]
  refine ⟨fun z => ?_, fun z => ?_⟩
  · have e : pl + j = pl' := by omega
    rw [e] at d2 pp
    exact hQ τ dk' (Hd.t (by omega) hT) d1 d2 nn pp ww fr rk
  · rw [← jrm_nn (k := 128) (by omega : 0 ≤ pl + j) (by omega) (by omega)]
    refine sp_wbyte hc rk Hd ww nn hn1 pp (by omega) (hd1 (pl + j) (by omega) (by omega)).symm (by unfold rB; omega) (by omega) (fun τ' dk2 H2 g1 g2 g3 g4 g5 g6 g7 => ?_)
    refine hK τ' ⟨j + 1, dk2, by omega, by rw [show T + 12 * (j + 1) = T + 12 * j + 12 by omega]; exact H2, fun m e => (g1 m e).trans (d1 m e), ?_, g3, by omega, g5, fr.tr g6, g7⟩ (by rw [pp, g4]; omega)
    rcases g2 with g | g
    · rcases d2 with d | d
      · left; omega
      · rcases g5 with g5 | ⟨_, _, g5, _⟩
        · omega
        · rw [g3, g4] at g5; omega
    · right; rw [g]; congr 1; omega
