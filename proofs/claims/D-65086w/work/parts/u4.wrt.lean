/-! write, fill -/
def wrOk (H : Int → Int) (h a n lim : Int) : Prop := ((0 ≤ h ∧ h < 8) ∧ H h ≠ 0) ∧ (1 ≤ n ∧ n ≤ lim) ∧ (0 ≤ a ∧ a ≤ 16384 - n)
def byW (v : Int) : Int → Int := fun i => b8 (bt v i)
def byF (v : Int) : Int → Int := fun i => b8 (w32 (w64 (v + w64 (7 * i))))
theorem HH.pos {cf : Cf} {S : List (Int × Int × Int × (Int → Int)) × Int} {H : Int → Int} {h : Int} (hh : HH H (nds S.1)) (wf : WF cf S) (h0 : 0 ≤ h ∧ h < 8) (nz : H h ≠ 0) : 0 < H h ∧ ∃ s, (H h, 2, s) ∈ nds S.1 := by
  obtain ⟨s, q⟩ := (hh h h0.1 h0.2).resolve_left nz
  have : 1 ≤ H h := (wf.wr.1.1 _ q).1.1
  exact ⟨by omega, s, q⟩
theorem sp_Hwrite {tv : Nat → Int} {cf : Cf} {σ : St} {S S' : List (Int × Int × Int × (Int → Int)) × Int} {W : List (Int × (List (Int × Int × Int × (Int → Int)) × Int))} {r : RT} {B : Int} {h a v n : Int} {Q : Int → St → Prop} (hc : CfOK cf) (hp : HP tv cf σ S S' W r B) (hC : HC σ S) (hrk : RK σ) (hB : B + 1642476 < 1073741000) (hh : HH (gA σ 70 0) (nds S.1)) (ha : rI a) (hn : rI n)
    (h0 : ¬ wrOk (gA σ 70 0) h a n 8 → Q (-3) σ)
    (h1 : ∀ τ w s d Sn Sn' Wn pn Bn, wrOk (gA σ 70 0) h a n 8 → gA σ 70 0 h = w → (w, 2, s) ∈ nds S.1 → WTr cf w a n (byW v) 0 S S' W (plH cf σ) d Sn Sn' Wn pn → HP tv cf τ Sn Sn' Wn r Bn → Bn ≤ B + 1642476 → HC τ Sn → plH cf τ = pn → Fr mHo σ τ → RK τ → Q (if d = 0 then -10 else d) τ) : wp_House_write cf tv h a v n Q σ := by
  have on : gI σ 69 0 = 1 := hC.2.2
  unfold rI at ha hn
  unfold wp_House_write
  refine ⟨fun _ => ?_, fun w => by have w : gI σ 69 0 = 0 := w; omega⟩
  refine sp_HisHandle hrk (fun hd _ _ => ⟨fun w => absurd w (by decide), fun _ => ?_⟩) (fun hd _ _ => ⟨fun _ => h0 (fun q => hd ⟨q.1.1, (hh.pos hp.wf q.1.1 q.1.2).1⟩), fun w => absurd rfl w⟩)
  refine sp_isIn (fun q1 _ _ => ⟨fun w => absurd w (by decide), fun _ => ?_⟩) (fun q1 _ _ => ⟨fun _ => h0 (fun q => q1 q.2.1), fun w => absurd rfl w⟩)
  rw [w32_id (by unfold rI; omega)]
  refine sp_isIn (fun q2 _ _ => ⟨fun _ => ⟨hd.1, ?_⟩, fun w => absurd w (by decide)⟩) (fun q2 _ _ => ⟨fun w => absurd rfl w, fun _ => h0 (fun q => q2 q.2.2)⟩)
  obtain ⟨hw, s, row⟩ := hh.pos hp.wf hd.1 (by omega)
  have row : (gA σ 70 0 h, 2, s) ∈ nds S.1 := row
  refine sp_Hput (by' := byW v) hc hp hC hrk hB row q2.1 (by omega) (by omega) (fun τ i Q' i0 i1 _ kτ k => ?_) (fun τ d Sn Sn' Wn pn Bn t1 t2 t3 t4 t5 t6 t7 _ _ => h1 τ _ s d Sn Sn' Wn pn Bn ⟨⟨hd.1, by omega⟩, q1, q2⟩ rfl row t1 t2 t3 t4 t5 t6 t7)
  unfold wp_House_byteOf
  refine ⟨fun w => absurd rfl w, fun _ => ?_⟩
  rw [bt_b (by omega)]
  exact fun rb _ => k rb
theorem sp_Hfill {tv : Nat → Int} {cf : Cf} {σ : St} {S S' : List (Int × Int × Int × (Int → Int)) × Int} {W : List (Int × (List (Int × Int × Int × (Int → Int)) × Int))} {r : RT} {B : Int} {h a v n : Int} {Q : Int → St → Prop} (hc : CfOK cf) (hp : HP tv cf σ S S' W r B) (hC : HC σ S) (hrk : RK σ) (hB : B + 1642476 < 1073741000) (hh : HH (gA σ 70 0) (nds S.1)) (ha : rI a) (hn : rI n)
    (h0 : ¬ wrOk (gA σ 70 0) h a n 2048 → Q (-3) σ)
    (h1 : ∀ τ w s d Sn Sn' Wn pn Bn, wrOk (gA σ 70 0) h a n 2048 → gA σ 70 0 h = w → (w, 2, s) ∈ nds S.1 → WTr cf w a n (byF v) 0 S S' W (plH cf σ) d Sn Sn' Wn pn → HP tv cf τ Sn Sn' Wn r Bn → Bn ≤ B + 1642476 → HC τ Sn → plH cf τ = pn → Fr mHo σ τ → RK τ → Q (if d = 0 then -10 else d) τ) : wp_House_fill cf tv h a n v Q σ := by
  have on : gI σ 69 0 = 1 := hC.2.2
  unfold rI at ha hn
  unfold wp_House_fill
  refine ⟨fun _ => ?_, fun w => by have w : gI σ 69 0 = 0 := w; omega⟩
  refine sp_HisHandle hrk (fun hd _ _ => ⟨fun w => absurd w (by decide), fun _ => ?_⟩) (fun hd _ _ => ⟨fun _ => h0 (fun q => hd ⟨q.1.1, (hh.pos hp.wf q.1.1 q.1.2).1⟩), fun w => absurd rfl w⟩)
  refine sp_isIn (fun q1 _ _ => ⟨fun w => absurd w (by decide), fun _ => ?_⟩) (fun q1 _ _ => ⟨fun _ => h0 (fun q => q1 q.2.1), fun w => absurd rfl w⟩)
  rw [w32_id (by unfold rI; omega)]
  refine sp_isIn (fun q2 _ _ => ⟨fun _ => ⟨hd.1, ?_⟩, fun w => absurd w (by decide)⟩) (fun q2 _ _ => ⟨fun w => absurd rfl w, fun _ => h0 (fun q => q2 q.2.2)⟩)
  obtain ⟨hw, s, row⟩ := hh.pos hp.wf hd.1 (by omega)
  have row : (gA σ 70 0 h, 2, s) ∈ nds S.1 := row
  refine sp_Hput (by' := byF v) hc hp hC hrk hB row q2.1 (by omega) (by omega) (fun τ i Q' i0 i1 _ kτ k => ?_) (fun τ d Sn Sn' Wn pn Bn t1 t2 t3 t4 t5 t6 t7 _ _ => h1 τ _ s d Sn Sn' Wn pn Bn ⟨⟨hd.1, by omega⟩, q1, q2⟩ rfl row t1 t2 t3 t4 t5 t6 t7)
  unfold wp_House_byteOf
  exact ⟨fun _ => ⟨fun w => absurd rfl w, fun _ rb _ => k rb⟩, fun w => absurd w (by decide)⟩
theorem sp_Mwrite {tv : Nat → Int} {cf : Cf} {σ : St} {S S' : List (Int × Int × Int × (Int → Int)) × Int} {W : List (Int × (List (Int × Int × Int × (Int → Int)) × Int))} {p : Int} {h a v n : Int} {Q : Int → St → Prop} (hc : CfOK cf) (hrk : RK σ) (m : MP cf σ S S' W p) (ha : rI a) (hn : rI n) (hv : rJ v)
    (h0 : ¬ wrOk (gA σ 711 0) h a n 8 → Q (-3) σ)
    (h1 : wrOk (gA σ 711 0) h a n 8 → ∃ s d Sn Sn' Wn pn, (gA σ 711 0 h, 2, s) ∈ nds S.1 ∧ WTr cf (gA σ 711 0 h) a n (byW v) 0 S S' W p d Sn Sn' Wn pn ∧ ∀ τ, MP cf τ Sn Sn' Wn pn → Fr mMw σ τ → RK τ → Q (if d = 0 then -10 else d) τ) : wp_Model_write cf tv h a v n Q σ := by
  have m' := m
  obtain ⟨-, -, -, l, on, q, q'⟩ := m'
  unfold rI at ha hn
  unfold wp_Model_write
  refine ⟨fun _ => ?_, fun w => by have w : gI σ 706 0 = 0 := w; omega⟩
  refine sp_MisHandle (fun hd _ _ => ⟨fun w => absurd w (by decide), fun _ => ?_⟩) (fun hd _ _ => ⟨fun _ => h0 (fun q => hd q.1), fun w => absurd rfl w⟩)
  refine ⟨fun w => h0 (fun q => by have := q.2.1.1; omega), fun w1 => ⟨fun w => h0 (fun q => by have := q.2.1.2; omega), fun w2 => ⟨fun w => h0 (fun q => by have := q.2.2.1; omega), fun w3 => ?_⟩⟩⟩
  rw [w32_id (by unfold rI; omega)]
  refine ⟨fun w4 => ?_, fun w4 => h0 (fun q => w4 q.2.2.2)⟩
  obtain ⟨s, d, Sn, Sn', Wn, pn, row, tr, hQ⟩ := h1 ⟨hd, by omega, by omega⟩
  exact sp_MwrA (by' := byW v) hc hrk m hd.1 rfl row (by omega) (by omega) (by omega) (fun i => b8_r _) (fun i i0 i1 => ⟨fun g => absurd g (by decide), fun g => absurd g (by decide), fun _ _ => bt_mb hv (by omega)⟩) tr (fun τ M f k _ _ => hQ τ M f k)
theorem sp_Mfill {tv : Nat → Int} {cf : Cf} {σ : St} {S S' : List (Int × Int × Int × (Int → Int)) × Int} {W : List (Int × (List (Int × Int × Int × (Int → Int)) × Int))} {p : Int} {h a v n : Int} {Q : Int → St → Prop} (hc : CfOK cf) (hrk : RK σ) (m : MP cf σ S S' W p) (ha : rI a) (hn : rI n)
    (h0 : ¬ wrOk (gA σ 711 0) h a n 2048 → Q (-3) σ)
    (h1 : wrOk (gA σ 711 0) h a n 2048 → ∃ s d Sn Sn' Wn pn, (gA σ 711 0 h, 2, s) ∈ nds S.1 ∧ WTr cf (gA σ 711 0 h) a n (byF v) 0 S S' W p d Sn Sn' Wn pn ∧ ∀ τ, MP cf τ Sn Sn' Wn pn → Fr mMw σ τ → RK τ → Q (if d = 0 then -10 else d) τ) : wp_Model_fill cf tv h a n v Q σ := by
  have m' := m
  obtain ⟨-, -, -, l, on, q, q'⟩ := m'
  unfold rI at ha hn
  unfold wp_Model_fill
  refine ⟨fun _ => ?_, fun w => by have w : gI σ 706 0 = 0 := w; omega⟩
  refine sp_MisHandle (fun hd _ _ => ⟨fun w => absurd w (by decide), fun _ => ?_⟩) (fun hd _ _ => ⟨fun _ => h0 (fun q => hd q.1), fun w => absurd rfl w⟩)
  refine ⟨fun w => h0 (fun q => by have := q.2.1.1; omega), fun w1 => ⟨fun w => h0 (fun q => by have := q.2.1.2; omega), fun w2 => ⟨fun w => h0 (fun q => by have := q.2.2.1; omega), fun w3 => ?_⟩⟩⟩
  rw [w32_id (by unfold rI; omega)]
  refine ⟨fun w4 => ?_, fun w4 => h0 (fun q => w4 q.2.2.2)⟩
  obtain ⟨s, d, Sn, Sn', Wn, pn, row, tr, hQ⟩ := h1 ⟨hd, by omega, by omega⟩
  exact sp_MwrA (by' := byF v) hc hrk m hd.1 rfl row (by omega) (by omega) (by omega) (fun i => b8_r _) (fun i i0 i1 => ⟨fun g => absurd g (by decide), fun _ => rfl, fun g => absurd rfl g⟩) tr (fun τ M f k _ _ => hQ τ M f k)
