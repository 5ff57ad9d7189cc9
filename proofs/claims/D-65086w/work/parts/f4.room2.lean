/-! a head takes so many bytes, in a number that it has or in a new one -/
theorem sp_takes {tv : Nat → Int} {cf : Cf} {σ : St} {w x : Int} {Q : Int → St → Prop} (hp : gI σ 451 w ≠ -1 → 0 ≤ gI σ 452 w ∧ gI σ 452 w ≤ 4096) (hx : 0 ≤ x ∧ x ≤ 4096)
    (h1 : gI σ 451 w ≠ -1 → gI σ 452 w + x ≤ (cf.2.1 - 2) * 128 → Q 1 σ) (h0 : (gI σ 451 w = -1 ∨ (cf.2.1 - 2) * 128 < gI σ 452 w + x) → Q 0 σ) : wp_Writer_takes cf tv w x Q σ := by
  unfold wp_Writer_takes
  refine ⟨fun e => h0 (Or.inl e), fun e => ?_⟩
  have p := hp e
  rw [w32_id (by unfold rI; omega)]
  exact ⟨fun q => h0 (Or.inr q), fun q => h1 e (by omega)⟩
theorem emp_up {cf : Cf} {u : Int → Int} {n v : Int} (h : u n ≠ 0) (hv : v ≠ 0) : emp cf (upF u n v) = emp cf u := by
  unfold emp
  rw [cnt_eq (p := fun k => 4 + cf.2.2 ≤ k ∧ upF u n v k = 0) (q := fun k => 4 + cf.2.2 ≤ k ∧ u k = 0) (cf.1 - 6).toNat (fun i i0 i1 => by
    show (4 + cf.2.2 ≤ i ∧ upF u n v i = 0) ↔ (4 + cf.2.2 ≤ i ∧ u i = 0)
    unfold upF
    by_cases e : i = n
    · rw [if_pos e, e]; exact ⟨fun q => absurd q.2 hv, fun q => absurd q.2 h⟩
    · rw [if_neg e])]
/-- a head with nothing gets an empty number -/
theorem WW.opn {cf : Cf} {σ τ : St} {o w k : Int} {dk : Int → Int} {db : Int → Int → Int} (hc : CfOK cf) (hw : isW o w) (h : WW cf σ o dk db) (hk : 4 + cf.2.2 ≤ k ∧ k < cf.1 - 6) (hd : dk k = -1) (hne : ∀ v, isW o v → gI σ 451 v ≠ k) (hn : gI τ 451 w = k) (hp : gI τ 452 w = 0) (fr : Fr (fun f o' => (f = 451 ∨ f = 452) ∧ o' = w) σ τ) : WW cf τ o dk db ∧ eE τ o dk k = 0 ∧ ∀ m, 0 ≤ m → m ≠ k → gI σ 451 w ≠ m → eE τ o dk m = eE σ o dk m := by
  have hR := hc.2.2.1
  have hP : 8 ≤ cf.2.1 ∧ cf.2.1 ≤ 32 := hc.2.1
  obtain ⟨a1, a2⟩ := h.all
  have nv : ∀ v, v ≠ w → gI τ 451 v = gI σ 451 v := fun v ne => fr.i _ _ (fun q => by omega)
  have pv : ∀ v, v ≠ w → gI τ 452 v = gI σ 452 v := fun v ne => fr.i _ _ (fun q => by omega)
  have W : WW cf τ o dk db := by
    refine WW.of (fun v hv => ?_) (fun v u hv hu ne nn => ?_)
    · by_cases e : v = w
      · right
        rw [e, hn, hp, hd]
        exact ⟨hk, by omega, by omega, fun p p0 p1 => by omega⟩
      · have := a1 v hv
        unfold WrI at this ⊢
        rw [nv v e, pv v e, fr.a 450 v (fun q => by omega)]
        exact this
    · by_cases e : v = w
      · rw [e, hn, nv u (by omega)]; exact fun q => hne u hu q.symm
      · rw [nv v e] at nn ⊢
        by_cases e2 : u = w
        · rw [e2, hn]; exact hne v hv
        · rw [nv u e2]; exact a2 v u hv hu ne nn
  refine ⟨W, by rw [eE_at W hw hn (by omega)]; exact hp, fun m m0 mk mw => ?_⟩
  by_cases q : ∃ v, isW o v ∧ gI σ 451 v = m
  · obtain ⟨v, v1, v2⟩ := q
    have vw : v ≠ w := fun e => mw (by rw [← e]; exact v2)
    rw [eE_at W v1 (by rw [nv v vw]; exact v2) (by omega), eE_at h v1 v2 (by omega)]
    exact pv v vw
  · have q1 : ∀ v, isW o v → gI σ 451 v ≠ m := fun v hv e => q ⟨v, hv, e⟩
    rw [eE_no q1, eE_no (fun v hv => by
      by_cases e : v = w
      · rw [e, hn]; exact fun z => mk z.symm
      · rw [nv v e]; exact q1 v hv)]
def mRm (o w : Int) (f : Nat) (o' : Int) : Prop := mWc o w f o' ∨ mSf o f o' ∨ (f = 452 ∧ o' = w)
/-- what a new number for a head means: n is what it had (-1), k what it has -/
def NEo (cf : Cf) (σ τ : St) (o w : Int) (dk dk' : Int → Int) (db db' : Int → Int → Int) (n k : Int) : Prop := (4 + cf.2.2 ≤ k ∧ k < cf.1 - 6) ∧ gA σ 323 o k = 0 ∧ k ≠ n ∧ gI τ 451 w = k ∧ gI τ 452 w = 0 ∧ (∀ m, 0 ≤ m → gA τ 323 o m = if m = k then 2 else if m = n then 1 else gA σ 323 o m) ∧ gA τ 324 o = upF (gA σ 324 o) k 0 ∧ gA τ 325 o = upF (gA σ 325 o) k (if w = o + 4 then 1 else 0) ∧ (∀ m, m ≠ n → dk' m = dk m) ∧ dk' k = -1 ∧ (∀ m, 0 ≤ m → m ≠ n → m ≠ k → eE τ o dk' m = eE σ o dk m) ∧ eE τ o dk' k = 0 ∧ (∀ m p, 0 ≤ m → m < cf.1 - 6 → p < eE σ o dk m → db' m p = db m p) ∧ (n ≠ -1 → eE σ o dk n = gI σ 452 w ∧ eE τ o dk' n = (gI σ 452 w + 127) / 128 * 128 ∧ lmF dk' n = (gI σ 452 w + 127) / 128 * 128 ∧ ∀ p, gI σ 452 w ≤ p → p < (gI σ 452 w + 127) / 128 * 128 → db' n p = 0)
theorem sp_room {tv : Nat → Int} {cf : Cf} {σ : St} {o : Int} {dk : Int → Int} {db : Int → Int → Int} {Sp : Int → Int → (Int → Int → Int) → Prop} {B : Int} (hc : CfOK cf) (ho : o = 0 ∨ o = 1) (hrk : RK σ) {w n len : Int} {Q : St → Prop} (hw : isW o w) (h : DJ tv cf σ o dk db Sp B) (hW : WW cf σ o dk db) (hn : gI σ 451 w = n) (hlen : 0 ≤ len ∧ len ≤ 512) (hE : (n = -1 ∨ (cf.2.1 - 2) * 128 < gI σ 452 w + len) → 1 ≤ emp cf (gA σ 323 o)) (hu : n ≠ -1 → gA σ 323 o n ≠ 0) (hd : ∀ k, 4 + cf.2.2 ≤ k → k < cf.1 - 6 → gA σ 323 o k = 0 → dk k = -1 ∧ ∀ v, isW o v → gI σ 451 v ≠ k)
    (hT : n ≠ -1 → gI σ 452 w + len ≤ (cf.2.1 - 2) * 128 → Q σ)
    (hN : (n = -1 ∨ (cf.2.1 - 2) * 128 < gI σ 452 w + len) → ∀ τ dk' db' k, DJ tv cf τ o dk' db' Sp B → WW cf τ o dk' db' → NEo cf σ τ o w dk dk' db db' n k → Fr (mRm o w) σ τ → RK τ → Q τ) : wp_Store_room cf tv o w len Q σ := by
  have hP : 8 ≤ cf.2.1 ∧ cf.2.1 ≤ 32 := hc.2.1
  have hR : 0 ≤ cf.2.2 ∧ cf.2.2 ≤ 4 := hc.2.2
  have hB : 24 ≤ cf.1 ∧ cf.1 ≤ 64 := hc.1
  have wi := hW.all.1 w hw
  have pr : gI σ 451 w ≠ -1 → 0 ≤ gI σ 452 w ∧ gI σ 452 w ≤ 4096 := fun q => by
    rcases wi with z | z
    · exact absurd z q
    · have := z.2.1; omega
  -- from a head that has nothing on
  have rest : ∀ τ0 dk0 db0, DJ tv cf τ0 o dk0 db0 Sp B → WW cf τ0 o dk0 db0 → gI τ0 451 w = -1 → RK τ0 → (∀ m, gA τ0 323 o m = if n ≠ -1 ∧ m = n then 1 else gA σ 323 o m) → gA τ0 324 o = gA σ 324 o → gA τ0 325 o = gA σ 325 o → (∀ m, m ≠ n → dk0 m = dk m) → (∀ v, isW o v → v ≠ w → gI τ0 451 v = gI σ 451 v) → (∀ m, 0 ≤ m → m ≠ n → eE τ0 o dk0 m = eE σ o dk m) → (∀ m p, 0 ≤ m → m < cf.1 - 6 → p < eE σ o dk m → db0 m p = db m p) → (n ≠ -1 → eE σ o dk n = gI σ 452 w ∧ eE τ0 o dk0 n = (gI σ 452 w + 127) / 128 * 128 ∧ lmF dk0 n = (gI σ 452 w + 127) / 128 * 128 ∧ ∀ p, gI σ 452 w ≤ p → p < (gI σ 452 w + 127) / 128 * 128 → db0 n p = 0) → Fr (mRm o w) σ τ0 → (n = -1 ∨ (cf.2.1 - 2) * 128 < gI σ 452 w + len) → wp_Space_fetch cf tv o (fun r_15 σ_16 => rI r_15 → RK σ_16 → wp_Writer_open cf tv w r_15 (fun σ_18 => RK σ_18 → (¬ w = (o + 4) → wp_Store_room_b48 cf tv o w len Q 0 (gI σ_18 451 w) σ_18) ∧ (w = (o + 4) → wp_Store_room_b48 cf tv o w len Q 1 (gI σ_18 451 w) σ_18)) σ_16) τ0 := by
    intro τ0 dk0 db0 H0 W0 nw0 k0 u0 l0 x0 d0 nv0 e0 b0 z0 f0 hno
    have useE : emp cf (gA τ0 323 o) = emp cf (gA σ 323 o) := by
      by_cases q : n = -1
      · congr 1
        funext m
        rw [u0 m, if_neg (fun z => z.1 q)]
      · rw [← emp_up (cf := cf) (hu q) (show (1 : Int) ≠ 0 by omega)]
        congr 1
        funext m
        rw [u0 m]
        unfold upF
        by_cases e : m = n
        · rw [if_pos ⟨q, e⟩, if_pos e]
        · rw [if_neg (fun z => e z.2), if_neg e]
    refine sp_sfetch hc k0 H0 (by rw [useE]; exact hE hno) (fun k ka kb kc => ?_) (fun k τ1 ka kc H1 u1 l1 x1 f1 k1 _ _ => ?_)
    · rw [u0 k] at kc
      by_cases q : n ≠ -1 ∧ k = n
      · rw [if_pos q] at kc; omega
      · rw [if_neg q] at kc
        have dd := hd k ka kb kc
        rw [d0 k (fun e => q ⟨by omega, e⟩)]; exact dd.1
    have kn : ¬ (n ≠ -1 ∧ k = n) := fun q => by rw [u0 k, if_pos q] at kc; omega
    rw [u0 k, if_neg kn] at kc
    have kne : k ≠ n := fun e => kn ⟨by omega, e⟩
    have dd := hd k ka.1 ka.2 kc
    unfold wp_Writer_open
    intro σ3 e3 σ4 e4 _
    have f4 : Fr (fun f o' => (f = 451 ∨ f = 452) ∧ o' = w) τ1 σ4 := by rw [e4, e3]; exact ((Fr.rf _ _).sI ⟨Or.inl rfl, rfl⟩).sI ⟨Or.inr rfl, rfl⟩
    have n4 : gI σ4 451 w = k := by rw [e4, gI_sI, if_neg (fun q => absurd q.1 (by decide)), e3, gI_sI1]
    have p4 : gI σ4 452 w = 0 := by rw [e4, gI_sI1]
    have k4 : RK σ4 := by rw [e4, e3]; exact (k1.sI (by show rI k; unfold rI; omega)).sI (by show rI 0; unfold rI; omega)
    have nm1 : ∀ v, gI τ1 451 v = gI τ0 451 v := fun v => f1.i _ _ (fun q => by unfold mSf mMv at q; omega)
    have W1 : WW cf τ1 o dk0 db0 := W0.fr f1 (fun f v _ a b q => by unfold mSf mMv at q; omega)
    have ne1 : ∀ v, isW o v → gI τ1 451 v ≠ k := by
      intro v hv q
      rw [nm1 v] at q
      by_cases e : v = w
      · rw [e, nw0] at q; omega
      · rw [nv0 v hv e] at q; exact dd.2 v hv q
    have dk0k : dk0 k = -1 := by rw [d0 k kne]; exact dd.1
    obtain ⟨W4, ek, em⟩ := W1.opn hc hw ka dk0k ne1 n4 p4 f4
    rw [n4]
    have fin : ∀ t : Int, (t = if w = o + 4 then 1 else 0) → wp_Store_room_b48 cf tv o w len Q t k σ4 := by
      intro t ht
      unfold wp_Store_room_b48
      refine ⟨⟨by omega, ka.2⟩, fun σ5 e5 => ?_⟩
      have f5 : Fr (fun f o' => f = 325 ∧ o' = o) σ4 σ5 := by rw [e5]; exact (Fr.rf _ _).sA ⟨rfl, rfl⟩
      have wf : ∀ f v, (v = o ∨ v = o + 2 ∨ v = o + 4) → 450 ≤ f → f ≤ 452 → ¬ (f = 325 ∧ v = o) := fun f v _ a b q => by omega
      refine hN hno σ5 dk0 db0 k (((H1.fr f4 (fun f o' a q => by unfold rBI at a; omega))).fr f5 (fun f o' a q => by unfold rBI at a; omega)) (W4.fr f5 wf) ⟨ka, kc, kne, ?_, ?_, ?_, ?_, ?_, d0, dk0k, ?_, ?_, b0, ?_⟩ ?_ ?_
      · rw [f5.i _ _ (fun q => by omega)]; exact n4
      · rw [f5.i _ _ (fun q => by omega)]; exact p4
      · intro m m0
        rw [f5.a 323 o (fun q => by omega), f4.a 323 o (fun q => by omega), u1]
        unfold upF
        by_cases e : m = k
        · rw [if_pos e, if_pos e]
        · rw [if_neg e, if_neg e, u0 m]
          by_cases e2 : m = n
          · rw [if_pos e2]
            rw [if_pos ⟨by omega, e2⟩]
          · rw [if_neg e2, if_neg (fun z => e2 z.2)]
      · rw [f5.a 324 o (fun q => by omega), f4.a 324 o (fun q => by omega), l1, l0]
      · rw [e5, sA_up, f4.a 325 o (fun q => by omega), x1, x0, ht]
        funext m
        unfold upF
        by_cases e : m = k
        · rw [if_pos e, if_pos e]
        · rw [if_neg e, if_neg e, if_neg e]
      · intro m m0 mn mk
        rw [eE_fr f5 wf, em m m0 mk (by rw [nm1, nw0]; omega), eE_fr f1 (fun f v _ a b q => by unfold mSf mMv at q; omega)]
        exact e0 m m0 mn
      · rw [eE_fr f5 wf]; exact ek
      · intro q
        obtain ⟨q1, q2, q3, q4⟩ := z0 q
        have nr : 0 ≤ n := by
          rcases wi with y | y
          · omega
          · rw [hn] at y; omega
        refine ⟨q1, ?_, q3, q4⟩
        rw [eE_fr f5 wf, em n nr (fun e => kne e.symm) (by rw [nm1, nw0]; omega), eE_fr f1 (fun f v _ a b q => by unfold mSf mMv at q; omega)]
        exact q2
      · refine ((f0.tr (f1.mono ?_)).tr (f4.mono ?_)).tr (f5.mono ?_)
        · intro f o' q; exact Or.inr (Or.inl q)
        · intro f o' q
          rcases q.1 with e | e
          · exact Or.inl (Or.inr (Or.inl ⟨e, q.2⟩))
          · exact Or.inr (Or.inr ⟨e, q.2⟩)
        · intro f o' q; exact Or.inr (Or.inl (Or.inr ⟨by omega, q.2⟩))
      · rw [e5]; exact k4.sA (by show rZ t; rw [ht]; unfold rZ; split <;> omega)
    exact ⟨fun e => fin 0 (by rw [if_neg e]), fun e => fin 1 (by rw [if_pos e])⟩
  unfold wp_Store_room
  refine sp_takes pr ⟨hlen.1, by omega⟩ (fun q1 q2 _ _ => ⟨fun z => absurd z (by omega), fun _ => hT (by rw [← hn]; exact q1) q2⟩) (fun q _ _ => ⟨fun _ => ?_, fun z => absurd rfl z⟩)
  rw [hn] at q
  by_cases e : n = -1
  · unfold wp_Writer_close
    rw [hn]
    refine ⟨fun z => absurd e z, fun _ _ => ?_⟩
    exact rest σ dk db h hW (by rw [hn]; exact e) hrk (fun m => by rw [if_neg (fun z => z.1 e)]) rfl rfl (fun _ _ => rfl) (fun _ _ _ => rfl) (fun _ _ _ => rfl) (fun _ _ _ _ _ => rfl) (fun z => absurd e z) (Fr.rf _ _) (Or.inl e)
  · refine sp_close3 hc ho hrk hw h hW hn e rfl rfl (fun τ0 dk0 H0 W0 G0 g1 g2 g3 g4 f0 k0 _ => ?_)
    have es := eE_at hW hw hn e
    refine rest τ0 dk0 _ H0 W0 g1 k0 (fun m => ?_) ?_ ?_ (fun m ne => (G0.1 m ne).1) (fun v hv ne => ?_) (fun m m0 ne => (G0.1 m ne).2 m0) G0.2.2 (fun _ => ⟨es, g2, g3, fun p p0 p1 => ?_⟩) (f0.mono (fun f o' q => Or.inl q)) q
    · rw [g4]
      unfold upF
      by_cases w2 : m = n
      · rw [if_pos w2, if_pos ⟨e, w2⟩]
      · rw [if_neg w2, if_neg (fun z => w2 z.2)]
    · exact f0.a _ _ (fun q => by unfold mWc mWr mBw at q; omega)
    · exact f0.a _ _ (fun q => by unfold mWc mWr mBw at q; omega)
    · exact f0.i _ _ (fun q => by unfold mWc mWr mBw at q; omega)
    · unfold putB
      rw [if_pos ⟨rfl, p0, by omega⟩]
