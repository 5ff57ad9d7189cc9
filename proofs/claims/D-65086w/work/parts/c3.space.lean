/-! what numbers are used for -/
theorem cnt_none {p : Int → Prop} [DecidablePred p] : ∀ n : Nat, (∀ i : Int, 0 ≤ i → i < n → ¬ p i) → cnt p n = 0
  | 0, _ => rfl
  | n + 1, h => by
    show cnt p n + _ = _
    rw [cnt_none n (fun i a b => h i a (by omega)), if_neg (h n (by omega) (by omega))]
theorem cnt_lt {p : Int → Prop} [DecidablePred p] : ∀ n : Nat, cnt p n ≤ n
  | 0 => Nat.le_refl _
  | n + 1 => by
    show cnt p n + _ ≤ _
    have := cnt_lt (p := p) n
    split <;> omega
theorem cnt_pos {p : Int → Prop} [DecidablePred p] : ∀ n : Nat, 1 ≤ cnt p n → ∃ i : Int, 0 ≤ i ∧ i < n ∧ p i
  | 0, h => by have : (1 : Nat) ≤ 0 := h; omega
  | n + 1, h => by
    have h' : 1 ≤ cnt p n + (if p n then 1 else 0) := h
    by_cases e : p n
    · exact ⟨n, by omega, by omega, e⟩
    · rw [if_neg e] at h'
      obtain ⟨i, a, b, c⟩ := cnt_pos n h'
      exact ⟨i, a, by omega, c⟩
def emp (cf : Cf) (u : Int → Int) : Int := (cnt (fun k => 4 + cf.2.2 ≤ k ∧ u k = 0) (cf.1 - 6).toNat : Nat)
def rmy (cf : Cf) (u x : Int → Int) : Int := (cnt (fun k => 4 + cf.2.2 ≤ k ∧ (u k = 0 ∨ x k ≠ 0)) (cf.1 - 6).toNat : Nat)
theorem sp_empty {tv : Nat → Int} {cf : Cf} {σ : St} {o : Int} {Q : Int → St → Prop} (hc : CfOK cf) (hQ : Q (emp cf (gA σ 323 o)) σ) : wp_Space_empty cf tv o Q σ := by
  have hB : 24 ≤ cf.1 ∧ cf.1 ≤ 64 := hc.1
  have hR : 0 ≤ cf.2.2 ∧ cf.2.2 ≤ 4 := hc.2.2
  unfold wp_Space_empty
  intro y2 e2
  rw [e2]
  refine lQ2_rule (fun z1 z2 τ => τ = σ ∧ (4 + cf.2.2 ≤ z2 ∧ z2 ≤ cf.1 - 6) ∧ z1 = (cnt (fun k => 4 + cf.2.2 ≤ k ∧ gA σ 323 o k = 0) z2.toNat : Nat)) (fun _ z2 _ => (cf.1 - 6 - z2).toNat) ?_ 0 _ σ ⟨rfl, by omega, by rw [cnt_none]; rfl; intro i a b; omega⟩
  intro K z1 z2 τ hI hK
  obtain ⟨e, h1, h2⟩ := hI
  rw [e]
  have lt := cnt_lt (p := fun k => 4 + cf.2.2 ≤ k ∧ gA σ 323 o k = 0) z2.toNat
  unfold wp_Space_empty_L7
  refine ⟨fun z => ?_, fun z => ⟨by omega, fun y1 e1 y2 e2 => ?_⟩⟩
  · have : z2 = cf.1 - 6 := by omega
    rw [h2, this]; exact hQ
  · rw [w32_id (by unfold rI; split <;> omega)] at e1
    rw [w32_id (by unfold rI; omega)] at e2
    rw [e1, e2]
    refine hK _ _ _ ⟨rfl, by omega, ?_⟩ (by omega)
    rw [show (z2 + 1).toNat = z2.toNat + 1 by omega]
    show _ = ((cnt _ z2.toNat + (if 4 + cf.2.2 ≤ (z2.toNat : Int) ∧ gA σ 323 o (z2.toNat : Int) = 0 then 1 else 0) : Nat) : Int)
    rw [show (z2.toNat : Int) = z2 by omega, h2]
    by_cases q : gA σ 323 o z2 = 0
    · rw [if_pos q, if_pos ⟨h1.1, q⟩]; rfl
    · rw [if_neg q, if_neg (fun y => q y.2)]; rfl
theorem sp_roomy {tv : Nat → Int} {cf : Cf} {σ : St} {o : Int} {Q : Int → St → Prop} (hc : CfOK cf) (hQ : Q (rmy cf (gA σ 323 o) (gA σ 325 o)) σ) : wp_Space_roomy cf tv o Q σ := by
  have hB : 24 ≤ cf.1 ∧ cf.1 ≤ 64 := hc.1
  have hR : 0 ≤ cf.2.2 ∧ cf.2.2 ≤ 4 := hc.2.2
  unfold wp_Space_roomy
  intro y2 e2
  rw [e2]
  refine lQ2_rule (fun z1 z2 τ => τ = σ ∧ (4 + cf.2.2 ≤ z2 ∧ z2 ≤ cf.1 - 6) ∧ z1 = (cnt (fun k => 4 + cf.2.2 ≤ k ∧ (gA σ 323 o k = 0 ∨ gA σ 325 o k ≠ 0)) z2.toNat : Nat)) (fun _ z2 _ => (cf.1 - 6 - z2).toNat) ?_ 0 _ σ ⟨rfl, by omega, by rw [cnt_none]; rfl; intro i a b; omega⟩
  intro K z1 z2 τ hI hK
  obtain ⟨e, h1, h2⟩ := hI
  rw [e]
  have lt := cnt_lt (p := fun k => 4 + cf.2.2 ≤ k ∧ (gA σ 323 o k = 0 ∨ gA σ 325 o k ≠ 0)) z2.toNat
  have st : ∀ t : Int, (t = if gA σ 323 o z2 = 0 ∨ gA σ 325 o z2 ≠ 0 then 1 else 0) → ∀ y1, y1 = w32 (z1 + t) → ∀ y2, y2 = w32 (z2 + 1) → K y1 y2 σ ∨ cf.1 - 6 ≤ z2 := by
    intro t ht y1 e1 y2 e2
    by_cases z : cf.1 - 6 ≤ z2
    · exact Or.inr z
    left
    rw [w32_id (by unfold rI; rw [ht]; split <;> omega)] at e1
    rw [w32_id (by unfold rI; omega)] at e2
    rw [e1, e2]
    refine hK _ _ _ ⟨rfl, by omega, ?_⟩ (by omega)
    rw [show (z2 + 1).toNat = z2.toNat + 1 by omega]
    show _ = ((cnt _ z2.toNat + (if 4 + cf.2.2 ≤ (z2.toNat : Int) ∧ (gA σ 323 o (z2.toNat : Int) = 0 ∨ gA σ 325 o (z2.toNat : Int) ≠ 0) then 1 else 0) : Nat) : Int)
    rw [show (z2.toNat : Int) = z2 by omega, h2, ht]
    by_cases q : gA σ 323 o z2 = 0 ∨ gA σ 325 o z2 ≠ 0
    · rw [if_pos q, if_pos ⟨h1.1, q⟩]; rfl
    · rw [if_neg q, if_neg (fun y => q y.2)]; rfl
  unfold wp_Space_roomy_L7 wp_Space_roomy_b35 wp_Space_roomy_b40
  refine ⟨fun z => ?_, fun z => ⟨by omega, fun q y1 e1 y2 e2 => ?_, fun q => ⟨by omega, fun q2 y1 e1 y2 e2 => ?_, fun q2 y1 e1 y2 e2 => ?_⟩⟩⟩
  · have : z2 = cf.1 - 6 := by omega
    rw [h2, this]; exact hQ
  · exact (st 1 (by rw [if_pos (Or.inl q)]) y1 e1 y2 e2).resolve_right z
  · exact (st 0 (by rw [if_neg (fun y => y.elim q (fun y => y q2))]) y1 e1 y2 e2).resolve_right z
  · exact (st 1 (by rw [if_pos (Or.inr q2)]) y1 e1 y2 e2).resolve_right z
def mSf (o : Int) (f : Nat) (o' : Int) : Prop := mMv o f o' ∨ ((f = 323 ∨ f = 324 ∨ f = 325) ∧ o' = o)
theorem sA_up (σ : St) (f : Nat) (o i v : Int) : gA (sA σ f o i v) f o = upF (gA σ f o) i v := by
  rw [sA_sAr, gA_sAr1]
theorem sp_jdrop0 {tv : Nat → Int} {cf : Cf} {σ : St} {o : Int} {dk : Int → Int} {db : Int → Int → Int} {Sp : Int → Int → (Int → Int → Int) → Prop} {B : Int} (hc : CfOK cf) (hrk : RK σ) {n : Int} {Q : St → Prop} (h : DJ tv cf σ o dk db Sp B) (hn : 0 ≤ n ∧ n < cf.1 - 6) (hd : dk n = -1)
    (hQ : ∀ τ, DJ tv cf τ o dk db Sp B → Fr (mMv o) σ τ → RK τ → Q τ) : wp_Blocks_drop cf tv o n Q σ := by
  obtain ⟨T, ⟨hD, hw⟩, b1, b2⟩ := h
  refine sp_ddrop hc hrk hD hn (fun w a b => by omega) (fun τ H f k => ?_)
  have pe : pnd τ = pnd σ := by unfold pnd; rw [f.i 136 0 (fun q => by unfold mMv at q; omega)]
  have : upF dk n (-1) = dk := by
    funext i; unfold upF
    by_cases z : i = n
    · rw [if_pos z, z, hd]
    · rw [if_neg z]
  rw [this] at H
  exact hQ τ ⟨T, ⟨H, hw⟩, by rw [pe]; exact b1, b2⟩ f k
theorem sp_sfetch {tv : Nat → Int} {cf : Cf} {σ : St} {o : Int} {dk : Int → Int} {db : Int → Int → Int} {Sp : Int → Int → (Int → Int → Int) → Prop} {B : Int} (hc : CfOK cf) (hrk : RK σ) {Q : Int → St → Prop} (h : DJ tv cf σ o dk db Sp B) (hE : 1 ≤ emp cf (gA σ 323 o)) (hd : ∀ k, 4 + cf.2.2 ≤ k → k < cf.1 - 6 → gA σ 323 o k = 0 → dk k = -1)
    (hQ : ∀ k τ, (4 + cf.2.2 ≤ k ∧ k < cf.1 - 6) → gA σ 323 o k = 0 → DJ tv cf τ o dk db Sp B → gA τ 323 o = upF (gA σ 323 o) k 2 → gA τ 324 o = upF (gA σ 324 o) k 0 → gA τ 325 o = upF (gA σ 325 o) k 0 → Fr (mSf o) σ τ → RK τ → Q k τ) : wp_Space_fetch cf tv o Q σ := by
  have hB : 24 ≤ cf.1 ∧ cf.1 ≤ 64 := hc.1
  have hR : 0 ≤ cf.2.2 ∧ cf.2.2 ≤ 4 := hc.2.2
  have hE' : 1 ≤ cnt (fun k => 4 + cf.2.2 ≤ k ∧ gA σ 323 o k = 0) (cf.1 - 6).toNat := by unfold emp at hE; omega
  obtain ⟨i, i0, i1, i2, i3⟩ := cnt_pos _ hE'
  unfold wp_Space_fetch
  intro y1 e1
  rw [e1]
  refine lQ1_rule (fun z τ => τ = σ ∧ (4 + cf.2.2 ≤ z ∧ z ≤ i)) (fun z _ => (i - z).toNat) ?_ _ σ ⟨rfl, by omega⟩
  intro K z τ hI hK
  obtain ⟨e, h1⟩ := hI
  rw [e]
  unfold wp_Space_fetch_L5
  refine ⟨fun q => by omega, fun _ => ⟨by omega, fun q y ey => ?_, fun q => ?_⟩⟩
  · rw [w32_id (by unfold rI; omega)] at ey
    rw [ey]
    have : z ≠ i := fun w => q (by rw [w]; exact i3)
    exact hK _ _ ⟨rfl, by omega⟩ (by omega)
  · refine sp_jdrop0 hc hrk h ⟨by omega, by omega⟩ (hd z h1.1 (by omega) q) (fun σ10 H f k10 _ => ⟨by omega, fun σ11 e11 => ⟨by omega, fun σ12 e12 => ⟨by omega, fun σ13 e13 => ?_⟩⟩⟩)
    have nm : ∀ f, (f = 323 ∨ f = 324 ∨ f = 325) → ¬ mMv o f o := fun f a q => by unfold mMv at q; omega
    have f3 : Fr (fun f o' => (f = 323 ∨ f = 324 ∨ f = 325) ∧ o' = o) σ10 σ13 := by
      rw [e13, e12, e11]
      exact (((Fr.rf _ _).sA ⟨by omega, rfl⟩).sA ⟨by omega, rfl⟩).sA ⟨by omega, rfl⟩
    refine hQ z σ13 ⟨h1.1, by omega⟩ q (H.fr f3 (fun f o' a q => by unfold rBI at a; omega)) ?_ ?_ ?_ ((f.mono (fun f o' q => Or.inl q)).tr (f3.mono (fun f o' q => Or.inr q))) ?_
    · rw [← f.a 323 o (nm _ (by omega)), e13, e12]
      funext j
      rw [sA_of (by decide), sA_of (by decide), e11, sA_up]
    · rw [← f.a 324 o (nm _ (by omega)), e13]
      funext j
      rw [sA_of (by decide), e12, sA_up, e11]
      unfold upF
      rw [sA_of (by decide)]
    · rw [← f.a 325 o (nm _ (by omega)), e13, sA_up, e12, e11]
      funext j
      unfold upF
      rw [sA_of (by decide), sA_of (by decide)]
    · rw [e13, e12, e11]
      exact ((k10.sA (by show rI 2; unfold rI; omega)).sA (by show rI 0; unfold rI; omega)).sA (by show rZ 0; unfold rZ; omega)
/-- numbers below y that a sweep makes empty -/
def swp (cf : Cf) (u v : Int → Int) (y k : Int) : Prop := (4 + cf.2.2 ≤ k ∧ k < y) ∧ u k = 1 ∧ v k = 0
theorem sp_sweep {tv : Nat → Int} {cf : Cf} {σ : St} {o : Int} {dk : Int → Int} {db : Int → Int → Int} {Sp : Int → Int → (Int → Int → Int) → Prop} {B : Int} (hc : CfOK cf) (hrk : RK σ) {Q : St → Prop} (h : DJ tv cf σ o dk db Sp B) (hB2 : B + 384 < 1073741000) (hS : ∀ k, 4 + cf.2.2 ≤ k → k < cf.1 - 6 → gA σ 323 o k = 1 → gA σ 324 o k = 0 → ∀ w, 0 ≤ w → w ≤ dk k → Sp k w (pgs db k))
    (hQ : ∀ τ dk', DJ tv cf τ o dk' db Sp (B + 384) → (∀ k, swp cf (gA σ 323 o) (gA σ 324 o) (cf.1 - 6) k → dk' k = -1 ∧ gA τ 323 o k = 0) → (∀ k, ¬ swp cf (gA σ 323 o) (gA σ 324 o) (cf.1 - 6) k → dk' k = dk k ∧ gA τ 323 o k = gA σ 323 o k) → Fr (fun f o' => mMv o f o' ∨ (f = 323 ∧ o' = o)) σ τ → RK τ → Q τ) : wp_Space_sweep cf tv o Q σ := by
  have hB : 24 ≤ cf.1 ∧ cf.1 ≤ 64 := hc.1
  have hR : 0 ≤ cf.2.2 ∧ cf.2.2 ≤ 4 := hc.2.2
  unfold wp_Space_sweep
  intro y1 e1
  rw [e1]
  refine lQ1_rule (fun z τ => (4 + cf.2.2 ≤ z ∧ z ≤ cf.1 - 6) ∧ ∃ dk', DJ tv cf τ o dk' db Sp (B + 6 * z) ∧ (∀ k, swp cf (gA σ 323 o) (gA σ 324 o) z k → dk' k = -1 ∧ gA τ 323 o k = 0) ∧ (∀ k, ¬ swp cf (gA σ 323 o) (gA σ 324 o) z k → dk' k = dk k ∧ gA τ 323 o k = gA σ 323 o k) ∧ Fr (fun f o' => mMv o f o' ∨ (f = 323 ∧ o' = o)) σ τ ∧ RK τ) (fun z _ => (cf.1 - 6 - z).toNat) ?_ _ σ ⟨by omega, dk, h.le (by omega) (by omega), fun k q => by unfold swp at q; omega, fun k _ => ⟨rfl, rfl⟩, Fr.rf _ _, hrk⟩
  intro K z τ hI hK
  obtain ⟨h1, dk', H, g1, g2, fr, rk⟩ := hI
  have nz := g2 z (fun q => by unfold swp at q; omega)
  have lv : gA τ 324 o = gA σ 324 o := fr.a _ _ (fun q => by unfold mMv at q; omega)
  have go : ∀ τ', K (z + 1) τ' → wp_Space_sweep_b48 cf tv o Q K z τ' := by
    intro τ' k y ey
    rw [w32_id (by unfold rI; omega)] at ey
    rw [ey]; exact k
  have keep : (¬ swp cf (gA σ 323 o) (gA σ 324 o) (z + 1) z) → z < cf.1 - 6 → K (z + 1) τ := by
    intro ns lt
    have e : ∀ k, swp cf (gA σ 323 o) (gA σ 324 o) (z + 1) k ↔ swp cf (gA σ 323 o) (gA σ 324 o) z k := by
      intro k
      by_cases w : k = z
      · rw [w]; exact ⟨fun y => absurd y ns, fun y => absurd y.1.2 (by omega)⟩
      · unfold swp; exact ⟨fun y => ⟨by omega, y.2⟩, fun y => ⟨by omega, y.2⟩⟩
    exact hK _ _ ⟨by omega, dk', H.le (by omega) (by omega), fun k q => g1 k ((e k).mp q), fun k q => g2 k (fun y => q ((e k).mpr y)), fr, rk⟩ (by omega)
  unfold wp_Space_sweep_L5
  refine ⟨fun q => ?_, fun q => ⟨by omega, fun q1 => go _ (keep (fun y => q1 (by rw [nz.2]; exact y.2.1)) (by omega)), fun q1 => ⟨by omega, fun q2 => go _ (keep (fun y => q2 (by rw [lv]; exact y.2.2)) (by omega)), fun q2 => ?_⟩⟩⟩
  · have : z = cf.1 - 6 := by omega
    rw [this] at H g1 g2
    exact hQ τ dk' (H.le (by omega) hB2) g1 g2 fr rk
  · rw [nz.2] at q1
    rw [lv] at q2
    have hS' : ∀ w, 0 ≤ w → w ≤ dk' z → Sp z w (pgs db z) := fun w a b => hS z h1.1 (by omega) q1 q2 w a (by rw [← nz.1]; exact b)
    refine sp_jdrop hc rk H ⟨by omega, by omega⟩ (by omega) hS' (by omega) (fun σ8 H8 _ f8 k8 _ => ⟨by omega, fun σ9 e9 => go _ ?_⟩)
    have sz : swp cf (gA σ 323 o) (gA σ 324 o) (z + 1) z := ⟨by omega, q1, q2⟩
    have u8 : gA σ8 323 o = gA τ 323 o := f8.a _ _ (fun q => by unfold mMv at q; omega)
    have f9 : Fr (fun f o' => f = 323 ∧ o' = o) σ8 σ9 := by rw [e9]; exact (Fr.rf _ _).sA ⟨rfl, rfl⟩
    have u9 : ∀ k, gA σ9 323 o k = if k = z then 0 else gA τ 323 o k := by
      intro k; rw [e9, sA_if, u8]
    refine hK _ _ ⟨by omega, upF dk' z (-1), (H8.fr f9 (fun f o' a q => by unfold rBI at a; omega)).le (by omega) (by omega), ?_, ?_, (fr.tr (f8.mono (fun f o' q => Or.inl q))).tr (f9.mono (fun f o' q => Or.inr q)), ?_⟩ (by omega)
    · intro k y
      rw [u9]; unfold upF
      by_cases w : k = z
      · rw [if_pos w, if_pos w]; exact ⟨rfl, rfl⟩
      · rw [if_neg w, if_neg w]
        exact g1 k ⟨by have := y.1; omega, y.2⟩
    · intro k y
      have w : k ≠ z := fun e => y (by rw [e]; exact sz)
      rw [u9]; unfold upF
      rw [if_neg w, if_neg w]
      exact g2 k (fun v => y ⟨by have := v.1; omega, v.2⟩)
    · rw [e9]; exact k8.sA (by show rI 0; unfold rI; omega)
theorem sp_spclear {tv : Nat → Int} {cf : Cf} {σ : St} {o : Int} {Q : St → Prop} (hc : CfOK cf) (hQ : ∀ τ, (∀ k, 0 ≤ k → k < cf.1 - 6 → gA τ 323 o k = 0 ∧ gA τ 324 o k = 0 ∧ gA τ 325 o k = 0) → Fr (fun f o' => (f = 323 ∨ f = 324 ∨ f = 325) ∧ o' = o) σ τ → Q τ) : wp_Space_clear cf tv o Q σ := by
  have hB : 24 ≤ cf.1 ∧ cf.1 ≤ 64 := hc.1
  have a1 : aln cf 323 o = cf.1 - 6 := rfl
  have a2 : aln cf 324 o = cf.1 - 6 := rfl
  have a3 : aln cf 325 o = cf.1 - 6 := rfl
  unfold wp_Space_clear
  rw [fill2_1, fill6_1]
  refine sp_fill1 (by rw [a1]; omega) (by rw [a1]; omega) (fun _ => ?_)
  refine sp_fill1 (by rw [a2]; omega) (by rw [a2]; omega) (fun _ => ?_)
  refine sp_fill1 (by rw [a3]; omega) (by rw [a3]; omega) (fun _ => ?_)
  refine hQ _ ?_ ((((Fr.rf _ _).sAr ⟨by omega, rfl⟩).sAr ⟨by omega, rfl⟩).sAr ⟨by omega, rfl⟩)
  intro k k0 k1
  rw [a1, a2, a3]
  refine ⟨?_, ?_, ?_⟩
  · rw [gA_sAr, if_neg (fun q => absurd q.1 (by decide)), gA_sAr, if_neg (fun q => absurd q.1 (by decide)), gA_sAr1, if_pos ⟨k0, k1⟩]
  · rw [gA_sAr, if_neg (fun q => absurd q.1 (by decide)), gA_sAr1, if_pos ⟨k0, k1⟩]
  · rw [gA_sAr1, if_pos ⟨k0, k1⟩]
