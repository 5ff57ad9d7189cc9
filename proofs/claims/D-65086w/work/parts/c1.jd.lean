/-! the disk, with what it may still cost -/
theorem cnt_dec {p q : Int → Prop} [DecidablePred p] [DecidablePred q] {k : Int} : ∀ n : Nat, (∀ i : Int, 0 ≤ i → i < n → i ≠ k → (p i ↔ q i)) → p k → ¬ q k → 0 ≤ k → k < n → cnt p n = cnt q n + 1
  | 0, _, _, _, h0, h1 => by omega
  | n + 1, h, hp, hq, h0, h1 => by
    show cnt p n + _ = cnt q n + _ + 1
    by_cases e : (n : Int) = k
    · rw [cnt_eq (p := p) (q := q) n (fun i a b => h i a (by omega) (by omega)), e, if_pos hp, if_neg hq]
    · rw [cnt_dec n (fun i a b => h i a (by omega)) hp hq h0 (by omega)]
      have z := h n (by omega) (by omega) e
      by_cases w : p n
      · rw [if_pos w, if_pos (z.mp w)]
      · rw [if_neg w, if_neg (fun y => w (z.mpr y))]
/-- how many numbers are not carried -/
def unc (cf : Cf) (dk : Int → Int) : Int := (cnt (fun n => dk n = -1) (cf.1 - 6).toNat : Nat)
/-- what is told of raw numbers: r n of their stale blocks, r (-n) of what they hold -/
abbrev RT := Int → Int → (Int → Int → Int) → Prop
/-- raw numbers: Sp (-n) tells what they hold; one that is not carried has no stale block -/
def RW (cf : Cf) (dk : Int → Int) (db : Int → Int → Int) (Sp : Int → Int → (Int → Int → Int) → Prop) : Prop := ∀ n, 4 ≤ n → n < 4 + cf.2.2 → (∃ pg : Int → Int → Int, (∀ k, 0 ≤ k → k < dk n → ∀ i, 0 ≤ i → i < 128 → pg k i = db n (128 * k + i)) ∧ Sp (-n) (dk n) pg) ∧ (dk n = -1 → ∀ w pg, 0 ≤ w → ¬ Sp n w pg)
theorem RW.x {cf : Cf} {dk dk' : Int → Int} {db db' : Int → Int → Int} {Sp : Int → Int → (Int → Int → Int) → Prop} (h : RW cf dk db Sp) (e : ∀ n, 4 ≤ n → n < 4 + cf.2.2 → dk' n = dk n ∧ ∀ p, 0 ≤ p → p < 128 * dk n → db' n p = db n p) : RW cf dk' db' Sp := by
  intro n n0 n1
  obtain ⟨⟨pg, a, b⟩, c⟩ := h n n0 n1
  obtain ⟨e1, e2⟩ := e n n0 n1
  rw [e1]
  exact ⟨⟨pg, fun k k0 k1 i i0 i1 => by rw [e2 _ (by omega) (by omega)]; exact a k k0 k1 i i0 i1, b⟩, c⟩
def DJ (tv : Nat → Int) (cf : Cf) (σ : St) (o : Int) (dk : Int → Int) (db : Int → Int → Int) (Sp : Int → Int → (Int → Int → Int) → Prop) (B : Int) : Prop := ∃ T, (DI tv cf σ o dk db Sp T ∧ RW cf dk db Sp) ∧ T + pnd σ + 6 * unc cf dk ≤ B ∧ B < 1073741000
theorem DJ.x {tv : Nat → Int} {cf : Cf} {σ : St} {o : Int} {dk : Int → Int} {db : Int → Int → Int} {Sp : Int → Int → (Int → Int → Int) → Prop} {B : Int} {db' : Int → Int → Int} (hc : CfOK cf) (h : DJ tv cf σ o dk db Sp B) (e : ∀ n p, 0 ≤ n → n < cf.1 - 6 → 0 ≤ p → p < 128 * dk n → db' n p = db n p) : DJ tv cf σ o dk db' Sp B := by
  obtain ⟨T, ⟨a, w⟩, b⟩ := h
  exact ⟨T, ⟨a.x e, w.x (fun n n0 n1 => ⟨rfl, fun p p0 p1 => by
    by_cases z : n < cf.1 - 6
    · exact e n p (by omega) z p0 p1
    · have := hc.2.2.2; have := hc.1; omega⟩)⟩, b⟩
theorem DJ.fr {tv : Nat → Int} {cf : Cf} {σ : St} {o : Int} {dk : Int → Int} {db : Int → Int → Int} {Sp : Int → Int → (Int → Int → Int) → Prop} {B : Int} {τ : St} {M : Nat → Int → Prop} (h : DJ tv cf σ o dk db Sp B) (f : Fr M σ τ) (n : ∀ f o', rBI o f o' → ¬ M f o') : DJ tv cf τ o dk db Sp B := by
  obtain ⟨T, ⟨a, w⟩, b, c⟩ := h
  refine ⟨T, ⟨a.fr f n, w⟩, ?_, c⟩
  unfold pnd at b ⊢
  rw [f.i 136 0 (n _ _ (by unfold rBI; omega))]
  exact b
theorem DJ.le {tv : Nat → Int} {cf : Cf} {σ : St} {o : Int} {dk : Int → Int} {db : Int → Int → Int} {Sp : Int → Int → (Int → Int → Int) → Prop} {B : Int} {B' : Int} (h : DJ tv cf σ o dk db Sp B) (hB : B ≤ B') (hB' : B' < 1073741000) : DJ tv cf σ o dk db Sp B' := by
  obtain ⟨T, a, b, c⟩ := h
  exact ⟨T, a, by omega, hB'⟩
theorem DJ.k {tv : Nat → Int} {cf : Cf} {σ : St} {o : Int} {dk : Int → Int} {db : Int → Int → Int} {Sp : Int → Int → (Int → Int → Int) → Prop} {B : Int} (hc : CfOK cf) (h : DJ tv cf σ o dk db Sp B) {n : Int} (hn : 0 ≤ n ∧ n < cf.1 - 6) : -1 ≤ dk n ∧ dk n ≤ cf.2.1 - 2 := by
  obtain ⟨T, ⟨a, w⟩, b, c⟩ := h
  exact a.k hc hn
theorem DJ.sp {tv : Nat → Int} {cf : Cf} {σ : St} {o : Int} {dk : Int → Int} {db : Int → Int → Int} {Sp : Int → Int → (Int → Int → Int) → Prop} {B : Int} {Sp' : Int → Int → (Int → Int → Int) → Prop} (h : DJ tv cf σ o dk db Sp B) (hS : ∀ n w pg, 0 ≤ n → n < cf.1 - 6 → 0 ≤ w → w ≤ cf.2.1 - 2 → Sp n w pg → Sp' n w pg) (hR : ∀ n w pg, 4 ≤ n → n < 4 + cf.2.2 → (Sp' n w pg → Sp n w pg) ∧ (Sp (-n) w pg → Sp' (-n) w pg)) : DJ tv cf σ o dk db Sp' B := by
  obtain ⟨T, ⟨⟨lp, a⟩, r⟩, b⟩ := h
  refine ⟨T, ⟨⟨lp, a.sp hS⟩, fun n n0 n1 => ?_⟩, b⟩
  obtain ⟨⟨pg, r1, r2⟩, r3⟩ := r n n0 n1
  exact ⟨⟨pg, r1, (hR n _ _ n0 n1).2 r2⟩, fun e w p w0 q => r3 e w p w0 ((hR n _ _ n0 n1).1 q)⟩
theorem pnd_r (σ : St) : 0 ≤ pnd σ ∧ pnd σ ≤ 6 := by unfold pnd; split <;> omega
theorem unc_r (cf : Cf) (dk : Int → Int) : 0 ≤ unc cf dk := by unfold unc; omega
theorem DI.T0 {tv : Nat → Int} {cf : Cf} {σ : St} {o : Int} {dk : Int → Int} {db : Int → Int → Int} {Sp : Int → Int → (Int → Int → Int) → Prop} {T : Int} (h : DI tv cf σ o dk db Sp T) : 0 ≤ T ∧ T < 1073741824 := by
  obtain ⟨lp, H⟩ := h
  have b := H.2.2.2.2.2.2.2.2.2
  unfold BT at b
  omega
theorem unc_up {cf : Cf} {dk : Int → Int} {n v : Int} (hn : 0 ≤ n ∧ n < cf.1 - 6) (hv : v ≠ -1) : unc cf (upF dk n v) + (if dk n = -1 then 1 else 0) = unc cf dk := by
  unfold unc
  by_cases e : dk n = -1
  · rw [if_pos e, cnt_dec (p := fun m => dk m = -1) (q := fun m => upF dk n v m = -1) (k := n) (cf.1 - 6).toNat (fun i a b ne => by show _ ↔ upF dk n v i = -1; unfold upF; rw [if_neg ne]) e (by show ¬ upF dk n v n = -1; unfold upF; rw [if_pos rfl]; exact hv) hn.1 (by omega)]
    omega
  · rw [if_neg e, cnt_eq (p := fun m => upF dk n v m = -1) (q := fun m => dk m = -1) (cf.1 - 6).toNat (fun i a b => by
      show upF dk n v i = -1 ↔ dk i = -1
      unfold upF
      by_cases z : i = n
      · rw [if_pos z, z]; exact ⟨fun y => absurd y hv, fun y => absurd y e⟩
      · rw [if_neg z])]
    omega
theorem unc_dn {cf : Cf} {dk : Int → Int} {n : Int} : unc cf (upF dk n (-1)) ≤ unc cf dk + 1 := by
  unfold unc
  have := cnt_one (p := fun m => upF dk n (-1) m = -1) (q := fun m => dk m = -1) (k := n) (cf.1 - 6).toNat (fun i a b ne z => by
    have z' : upF dk n (-1) i = -1 := z
    unfold upF at z'; rw [if_neg ne] at z'; exact z')
  omega
theorem sp_jwrite {tv : Nat → Int} {cf : Cf} {σ : St} {o : Int} {dk : Int → Int} {db : Int → Int → Int} {Sp : Int → Int → (Int → Int → Int) → Prop} {B : Int} (hc : CfOK cf) (hrk : RK σ) {n k a q : Int} {f : Nat} {Q : St → Prop} (h : DJ tv cf σ o dk db Sp B) (hn : 0 ≤ n ∧ n < cf.1 - 6) (hnr : ¬ (4 ≤ n ∧ n < 4 + cf.2.2)) (hk : k = max 0 (dk n)) (hkP : k < cf.2.1 - 2) (hf : f < 130 ∨ 136 < f) (hty : aty f = 1) (ha : 0 ≤ a) (hl : a + 128 ≤ aln cf f q) (hfm : ¬ mBw o f q) (hs : ∀ i, 0 ≤ i → i < 128 → gA σ f q (a + i) = db n (128 * k + i))
    (hQ : ∀ τ, DJ tv cf τ o (upF dk n (k + 1)) db Sp B → Fr (mBw o) σ τ → RK τ → Q τ) : wp_Blocks_write cf tv o n k f q a Q σ := by
  obtain ⟨T, ⟨hD, hw⟩, b1, b2⟩ := h
  have t0 := hD.T0
  have u0 := unc_r cf dk
  have p0 := pnd_r σ
  obtain ⟨lp, H⟩ := hD
  have uu := unc_up (dk := dk) (v := k + 1) hn (by omega)
  refine sp_bwrite2 hc hrk H hn hk (by omega) hf hty ha hl hfm (by omega) (fun τ lp' T' H' hT' f' k' => hQ τ ⟨T', ⟨⟨lp', H'.vpx ?_⟩, hw.x (fun m m0 m1 => ⟨by unfold upF; rw [if_neg (fun q => hnr ⟨by omega, by omega⟩)], fun p _ _ => rfl⟩)⟩, ?_, b2⟩ f' k')
  · intro m m0 m1 j j0 j1 i i0 i1
    unfold upV upP pgs upF at *
    by_cases e : m = n
    · rw [if_pos e]
      by_cases e2 : j = k
      · rw [if_pos e2, hs i i0 i1, e, e2]
      · rw [if_neg e2, e]
    · rw [if_neg e]
  · by_cases e : dk n = -1
    · rw [if_pos e] at uu hT'; omega
    · rw [if_neg e] at uu hT'; omega
theorem sp_jdrop {tv : Nat → Int} {cf : Cf} {σ : St} {o : Int} {dk : Int → Int} {db : Int → Int → Int} {Sp : Int → Int → (Int → Int → Int) → Prop} {B : Int} (hc : CfOK cf) (hrk : RK σ) {n : Int} {Q : St → Prop} (h : DJ tv cf σ o dk db Sp B) (hn : 0 ≤ n ∧ n < cf.1 - 6) (hnr : ¬ (4 ≤ n ∧ n < 4 + cf.2.2)) (hS : ∀ w, 0 ≤ w → w ≤ dk n → Sp n w (pgs db n)) (hB : B + 6 < 1073741000)
    (hQ : ∀ τ, DJ tv cf τ o (upF dk n (-1)) db Sp (B + 6) → (dk n = -1 → DJ tv cf τ o dk db Sp B) → Fr (mMv o) σ τ → RK τ → Q τ) : wp_Blocks_drop cf tv o n Q σ := by
  obtain ⟨T, ⟨hD, hw⟩, b1, b2⟩ := h
  refine sp_ddrop hc hrk hD hn hS (fun τ H f k => ?_)
  have pe : pnd τ = pnd σ := by unfold pnd; rw [f.i 136 0 (fun q => by unfold mMv at q; omega)]
  have u := unc_dn (cf := cf) (dk := dk) (n := n)
  refine hQ τ ⟨T, ⟨H, hw.x (fun m m0 m1 => ⟨by unfold upF; rw [if_neg (fun q => hnr ⟨by omega, by omega⟩)], fun p _ _ => rfl⟩)⟩, by rw [pe]; omega, hB⟩ (fun e => ⟨T, ⟨?_, hw⟩, by rw [pe]; exact b1, b2⟩) f k
  have : upF dk n (-1) = dk := by
    funext i; unfold upF
    by_cases z : i = n
    · rw [if_pos z, z, e]
    · rw [if_neg z]
  rw [this] at H; exact H
theorem sp_jwritten {tv : Nat → Int} {cf : Cf} {σ : St} {o : Int} {dk : Int → Int} {db : Int → Int → Int} {Sp : Int → Int → (Int → Int → Int) → Prop} {B : Int} (hc : CfOK cf) {n : Int} {Q : Int → St → Prop} (h : DJ tv cf σ o dk db Sp B) (hn : 0 ≤ n ∧ n < cf.1 - 6) (hQ : Q (max 0 (dk n)) σ) : wp_Blocks_written cf tv o n Q σ := by
  obtain ⟨T, ⟨hD, hw⟩, b⟩ := h
  exact sp_dwritten hc hD hn hQ
theorem sp_jread {tv : Nat → Int} {cf : Cf} {σ : St} {o : Int} {dk : Int → Int} {db : Int → Int → Int} {Sp : Int → Int → (Int → Int → Int) → Prop} {B : Int} {n k a q : Int} {f : Nat} {Q : St → Prop} (hc : CfOK cf) (h : DJ tv cf σ o dk db Sp B) (hn : 0 ≤ n ∧ n < cf.1 - 6) (hk : 0 ≤ k) (hf : f < 130 ∨ 136 < f) (ha : 0 ≤ a) (hl : a + 128 ≤ aln cf f q) (hla : a + 128 < 2147483647)
    (hQ : ∀ τ, gA τ f q = (fun i => if a ≤ i ∧ i < a + 128 then (if k < dk n then db n (128 * k + (i - a)) else -1) else gA σ f q i) → Fr (fun f' o' => (f' = 135 ∧ o' = 0) ∨ (f' = f ∧ o' = q)) σ τ → RK τ → Q τ) : wp_Blocks_read cf tv o n k f q a Q σ := by
  obtain ⟨T, ⟨hD, hw⟩, b⟩ := h
  exact sp_dread hc hD hn hk hf ha hl hla hQ
/-- one byte into the buffer; a full page is written -/
theorem sp_jbyte {tv : Nat → Int} {cf : Cf} {σ : St} {dk : Int → Int} {db : Int → Int → Int} {Sp : Int → Int → (Int → Int → Int) → Prop} {B w n pl v : Int} (hc : CfOK cf) (hrk : RK σ) {K : St → Prop} (h : DJ tv cf σ (w % 2) dk db Sp B) (hw : WrI cf σ dk db w) (hn : gI σ 451 w = n) (hn1 : n ≠ -1) (hpl : gI σ 452 w = pl) (hS : pl < (cf.2.1 - 2) * 128) (hv : v = db n pl) (hb : rB v)
    (hK : ∀ τ dk', DJ tv cf τ (w % 2) dk' db Sp B → (∀ m, m ≠ n → dk' m = dk m) → (dk' n = dk n ∨ dk' n = (pl + 1) / 128) → gI τ 451 w = n → gI τ 452 w = pl + 1 → WrI cf τ dk' db w → Fr (mWr w) σ τ → RK τ → K τ) :
    ((0 : Int) ≤ jrm pl 128 ∧ jrm pl 128 < 128) ∧ ∀ σ20, σ20 = sA σ 450 w (jrm pl 128) v → ∀ σ21, σ21 = sI σ20 452 w (w32 ((gI σ20 452 w) + 1)) → ((¬ (jrm (gI σ21 452 w) 128) = 0 → K σ21) ∧ ((jrm (gI σ21 452 w) 128) = 0 → wp_Blocks_write cf tv (w % 2) (gI σ21 451 w) (w32 ((jdv (gI σ21 452 w) 128) - 1)) 450 w 0 (fun σ' => RK σ' → K σ') σ21)) := by
  have hP : 8 ≤ cf.2.1 ∧ cf.2.1 ≤ 32 := hc.2.1
  have hB : 24 ≤ cf.1 ∧ cf.1 ≤ 64 := hc.1
  have hR : 0 ≤ cf.2.2 := hc.2.2.1
  rcases hw with q | ⟨w1, w2, w3, w4⟩
  · omega
  rw [hn] at w1 w3 w4
  rw [hpl] at w2 w3 w4
  rw [jrm_nn (by omega) (by omega) (by omega)]
  refine ⟨by omega, fun σ20 e20 σ21 e21 => ?_⟩
  have p20 : gI σ20 452 w = pl := by rw [e20]; exact hpl
  rw [p20, w32_id (by unfold rI; omega)] at e21
  have p21 : gI σ21 452 w = pl + 1 := by rw [e21, gI_sI, if_pos ⟨rfl, rfl⟩]
  have n21 : gI σ21 451 w = n := by rw [e21, gI_sI, if_neg (fun q => absurd q.1 (by decide)), e20]; exact hn
  have b21 : ∀ i, gA σ21 450 w i = if i = pl % 128 then v else gA σ 450 w i := fun i => by rw [e21, gA_sI, e20, sA_if]
  have k21 : RK σ21 := by rw [e21, e20]; exact (hrk.sA (f := 450) (by show rB v; exact hb)).sI (by show rI _; unfold rI; omega)
  have f21 : Fr (fun f o' => (f = 450 ∨ f = 452) ∧ o' = w) σ σ21 := by rw [e21, e20]; exact ((Fr.rf _ _).sA ⟨by omega, rfl⟩).sI ⟨by omega, rfl⟩
  have nb : ∀ f o', rBI (w % 2) f o' → ¬ ((f = 450 ∨ f = 452) ∧ o' = w) := fun f o' a q => by unfold rBI at a; omega
  have H21 := h.fr f21 nb
  clear e20 e21
  rw [p21, jrm_nn (by omega) (by omega) (by omega), n21]
  have bx : ∀ p, (pl + 1 - 1) / 128 * 128 ≤ p → p < pl + 1 → gA σ21 450 w (p % 128) = db n p := by
    intro p p0 p1
    rw [b21]
    by_cases e : p = pl
    · rw [e, if_pos rfl, hv]
    · rw [if_neg (by omega)]; exact w4 p (by omega) (by omega)
  refine ⟨fun q => ?_, fun q => ?_⟩
  · refine hK σ21 dk H21 (fun _ _ => rfl) (Or.inl rfl) n21 p21 (Or.inr ?_) (f21.mono (fun f o' q => Or.inr q)) k21
    rw [n21, p21]
    exact ⟨w1, by omega, by omega, fun p p0 p1 => bx p (by omega) p1⟩
  · rw [jdv_nn (by omega) (by omega) (by omega), w32_id (by unfold rI; omega)]
    refine sp_jwrite hc k21 H21 (by omega) (by omega) (by omega) (by omega) (Or.inr (by decide)) (by decide) (by omega) (by show (0 : Int) + 128 ≤ 128; omega) (fun q => by unfold mBw at q; omega) ?_ (fun τ Hd fd kd _ => ?_)
    · intro i i0 i1
      have := bx (128 * ((pl + 1) / 128 - 1) + i) (by omega) (by omega)
      rw [show (128 * ((pl + 1) / 128 - 1) + i) % 128 = 0 + i by omega] at this
      exact this
    · have nw : ∀ f, (450 ≤ f ∧ f ≤ 452) → ¬ mBw (w % 2) f w := fun f a q => by unfold mBw at q; omega
      have nτ : gI τ 451 w = n := by rw [fd.i _ _ (nw _ (by decide))]; exact n21
      have pτ : gI τ 452 w = pl + 1 := by rw [fd.i _ _ (nw _ (by decide))]; exact p21
      have dn : upF dk n ((pl + 1) / 128 - 1 + 1) n = (pl + 1) / 128 := by unfold upF; rw [if_pos rfl]; omega
      refine hK τ _ Hd (fun m e => by unfold upF; rw [if_neg e]) (Or.inr dn) nτ pτ (Or.inr ?_) ((f21.mono (fun f o' q => Or.inr q)).tr (fd.mono (fun f o' q => Or.inl q))) kd
      rw [nτ, pτ, dn]
      exact ⟨w1, by omega, by omega, fun p p0 p1 => by omega⟩
theorem sp_jput {tv : Nat → Int} {cf : Cf} {σ : St} {dk : Int → Int} {db : Int → Int → Int} {Sp : Int → Int → (Int → Int → Int) → Prop} {B w n pl a len q : Int} {f : Nat} (hc : CfOK cf) (hrk : RK σ) {Q : Int → St → Prop} (h : DJ tv cf σ (w % 2) dk db Sp B) (hw : WrI cf σ dk db w) (hn : gI σ 451 w = n) (hn1 : n ≠ -1) (hpl : gI σ 452 w = pl) (hlen : 0 ≤ len) (hS : pl + len ≤ (cf.2.1 - 2) * 128) (hty : aty f = 1) (ha : 0 ≤ a) (hl : a + len ≤ aln cf f q) (hla : a + len < 2147483647) (hfm : ¬ mWr w f q)
    (hQ : ∀ τ dk', DJ tv cf τ (w % 2) dk' (putB db n pl len (fun i => gA σ f q (a + i))) Sp B → (∀ m, m ≠ n → dk' m = dk m) → (dk' n = dk n ∨ dk' n = (pl + len) / 128) → gI τ 451 w = n → gI τ 452 w = pl + len → WrI cf τ dk' (putB db n pl len (fun i => gA σ f q (a + i))) w → Fr (mWr w) σ τ → RK τ → Q pl τ) : wp_Writer_put cf tv w f q a len Q σ := by
  have hP : 8 ≤ cf.2.1 ∧ cf.2.1 ≤ 32 := hc.2.1
  generalize hdb : putB db n pl len (fun i => gA σ f q (a + i)) = db' at hQ
  have hpl0 : 0 ≤ pl ∧ max 0 (dk n) = pl / 128 := by
    rcases hw with z | ⟨w1, w2, w3, w4⟩
    · omega
    · rw [hn] at w3; rw [hpl] at w2 w3; exact ⟨w2.1, w3⟩
  have hd0 : ∀ m p, (m ≠ n ∨ p < pl) → db' m p = db m p := by
    intro m p e
    rw [← hdb]; unfold putB
    rw [if_neg (fun z => by rcases e with e | e
                            · exact e z.1
                            · omega)]
  have hd1 : ∀ i, 0 ≤ i → i < len → db' n (pl + i) = gA σ f q (a + i) := by
    intro i i0 i1
    rw [← hdb]; unfold putB
    rw [if_pos ⟨rfl, by omega, by omega⟩, show pl + i - pl = i by omega]
  have H0 : DJ tv cf σ (w % 2) dk db' Sp B := h.x hc (fun m p m0 m1 p0 p1 => hd0 m p (by
    by_cases e : m = n
    · right; rw [e] at p1; omega
    · exact Or.inl e))
  have W0 : WrI cf σ dk db' w := hw.x (fun _ => rfl) (fun _ p _ p1 => hd0 _ p (Or.inr (by omega)))
  unfold wp_Writer_put
  intro y4 e4
  rw [e4, hpl]
  refine lQ2_rule (fun z4 z5 τ => z4 = pl ∧ (0 ≤ z5 ∧ z5 ≤ len) ∧ ∃ dk', DJ tv cf τ (w % 2) dk' db' Sp B ∧ (∀ m, m ≠ n → dk' m = dk m) ∧ (dk' n = dk n ∨ dk' n = (pl + z5) / 128) ∧ gI τ 451 w = n ∧ gI τ 452 w = pl + z5 ∧ WrI cf τ dk' db' w ∧ Fr (mWr w) σ τ ∧ RK τ) (fun _ z5 _ => (len - z5).toNat) ?_ pl 0 σ ⟨rfl, by omega, dk, H0, fun _ _ => rfl, Or.inl rfl, hn, by omega, W0, Fr.rf _ _, hrk⟩
  intro K z4 z5 τ hI hK
  obtain ⟨e4', hz, dk', Hd, d1, d2, nn, pp, ww, fr, rk⟩ := hI
  unfold wp_Writer_put_L9
  refine ⟨fun z => ?_, fun z => ?_⟩
  · have e : z5 = len := by omega
    rw [e] at d2 pp
    rw [e4']
    exact hQ τ dk' Hd d1 d2 nn pp ww fr rk
  · have ev : gA τ f q (w32 (a + z5)) = db' n (pl + z5) := by
      rw [w32_id (by unfold rI; omega), fr.a f q hfm, hd1 z5 hz.1 (by omega)]
    rw [pp]
    refine ⟨by rw [w32_id (by unfold rI; omega)]; omega, ?_⟩
    refine sp_jbyte hc rk Hd ww nn hn1 pp (by omega) ev (rk.ab _ _ _ hty) (fun τ' dk2 H2 g1 g2 g3 g4 g5 g6 g7 => ?_)
    unfold wp_Writer_put_b81
    intro y ey
    rw [w32_id (by unfold rI; omega)] at ey
    rw [ey]
    refine hK _ _ _ ⟨e4', by omega, dk2, H2, fun m e => (g1 m e).trans (d1 m e), ?_, g3, by omega, g5, fr.tr g6, g7⟩ (by omega)
    rcases g2 with g | g
    · rcases d2 with d | d
      · left; omega
      · rcases g5 with g5 | ⟨_, _, g5, _⟩
        · omega
        · rw [g3, g4] at g5; omega
    · right; rw [g]; congr 1; omega
theorem sp_jflush {tv : Nat → Int} {cf : Cf} {σ : St} {dk : Int → Int} {db : Int → Int → Int} {Sp : Int → Int → (Int → Int → Int) → Prop} {B w n pl pl' : Int} (hc : CfOK cf) (hrk : RK σ) {Q : St → Prop} (h : DJ tv cf σ (w % 2) dk db Sp B) (hw : WrI cf σ dk db w) (hn : gI σ 451 w = n) (hn1 : n ≠ -1) (hpl : gI σ 452 w = pl) (hpl' : pl' = (pl + 127) / 128 * 128)
    (hQ : ∀ τ dk', DJ tv cf τ (w % 2) dk' (putB db n pl (pl' - pl) (fun _ => 0)) Sp B → (∀ m, m ≠ n → dk' m = dk m) → (dk' n = dk n ∨ dk' n = pl' / 128) → gI τ 451 w = n → gI τ 452 w = pl' → WrI cf τ dk' (putB db n pl (pl' - pl) (fun _ => 0)) w → Fr (mWr w) σ τ → RK τ → Q τ) : wp_Writer_flush cf tv w Q σ := by
  have hP : 8 ≤ cf.2.1 ∧ cf.2.1 ≤ 32 := hc.2.1
  generalize hdb : putB db n pl (pl' - pl) (fun _ => 0) = db' at hQ
  have hpl0 : (0 ≤ pl ∧ pl ≤ (cf.2.1 - 2) * 128) ∧ max 0 (dk n) = pl / 128 := by
    rcases hw with z | ⟨w1, w2, w3, w4⟩
    · omega
    · rw [hn] at w3; rw [hpl] at w2 w3; exact ⟨w2, w3⟩
  have hd0 : ∀ m p, (m ≠ n ∨ p < pl) → db' m p = db m p := by
    intro m p e
    rw [← hdb]; unfold putB
    rw [if_neg (fun z => by rcases e with e | e
                            · exact e z.1
                            · omega)]
  have hd1 : ∀ i, pl ≤ i → i < pl' → db' n i = 0 := by
    intro i i0 i1
    rw [← hdb]; unfold putB
    rw [if_pos ⟨rfl, by omega, by omega⟩]
  have H0 : DJ tv cf σ (w % 2) dk db' Sp B := h.x hc (fun m p m0 m1 p0 p1 => hd0 m p (by
    by_cases e : m = n
    · right; rw [e] at p1; omega
    · exact Or.inl e))
  have W0 : WrI cf σ dk db' w := hw.x (fun _ => rfl) (fun _ p _ p1 => hd0 _ p (Or.inr (by omega)))
  unfold wp_Writer_flush
  refine ⟨fun _ => ?_, fun z => by omega⟩
  refine lQ0_rule (fun τ => ∃ j dk', (0 ≤ j ∧ pl + j ≤ pl') ∧ DJ tv cf τ (w % 2) dk' db' Sp B ∧ (∀ m, m ≠ n → dk' m = dk m) ∧ (dk' n = dk n ∨ dk' n = (pl + j) / 128) ∧ gI τ 451 w = n ∧ gI τ 452 w = pl + j ∧ WrI cf τ dk' db' w ∧ Fr (mWr w) σ τ ∧ RK τ) (fun τ => (pl' - gI τ 452 w).toNat) ?_ σ ⟨0, dk, by omega, H0, fun _ _ => rfl, Or.inl rfl, hn, by omega, W0, Fr.rf _ _, hrk⟩
  intro K τ hI hK
  obtain ⟨j, dk', hj, Hd, d1, d2, nn, pp, ww, fr, rk⟩ := hI
  unfold wp_Writer_flush_L9
  rw [pp, jrm_nn (by omega) (by omega) (by omega)]
  refine ⟨fun z => ?_, fun z => ?_⟩
  · have e : pl + j = pl' := by omega
    rw [e] at d2 pp
    exact hQ τ dk' Hd d1 d2 nn pp ww fr rk
  · rw [← jrm_nn (k := 128) (by omega : 0 ≤ pl + j) (by omega) (by omega)]
    refine sp_jbyte hc rk Hd ww nn hn1 pp (by omega) (hd1 (pl + j) (by omega) (by omega)).symm (by unfold rB; omega) (fun τ' dk2 H2 g1 g2 g3 g4 g5 g6 g7 => ?_)
    refine hK τ' ⟨j + 1, dk2, by omega, H2, fun m e => (g1 m e).trans (d1 m e), ?_, g3, by omega, g5, fr.tr g6, g7⟩ (by rw [pp, g4]; omega)
    rcases g2 with g | g
    · rcases d2 with d | d
      · left; omega
      · rcases g5 with g5 | ⟨_, _, g5, _⟩
        · omega
        · rw [g3, g4] at g5; omega
    · right; rw [g]; congr 1; omega
