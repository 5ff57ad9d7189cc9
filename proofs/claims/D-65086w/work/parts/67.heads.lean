/-! heads of blocks -/
/-- a first page: it tells how often the block was erased -/
def erH (tv : Nat → Int) (g : Int → Int) (e : Int) : Prop := rI4 g 0 = 1263288881 ∧ rI4 g 4 = e ∧ rI4 g 8 = ckf tv g 8 0 (-1)
def hdV (tv : Nat → Int) (g : Int → Int) : Prop := rI4 g 0 = 1263289138 ∧ rI4 g 28 = ckf tv g 28 0 (-1)
def hNum (g : Int → Int) : Int := rI4 g 4
def hSer (g : Int → Int) : Int := rL8 g 8
def hCop (g : Int → Int) : Int := rI4 g 16
def hPgs (g : Int → Int) : Int := rI4 g 20
def hChk (g : Int → Int) : Int := rI4 g 24
theorem erH_ext {tv : Nat → Int} {g h : Int → Int} {e : Int} (hx : ∀ i, 0 ≤ i → i < 128 → g i = h i) (H : erH tv g e) : erH tv h e := by
  obtain ⟨h1, h2, h3⟩ := H
  refine ⟨?_, ?_, ?_⟩
  · rw [← h1]; exact rI4_ext (fun i a b => (hx i (by omega) (by omega)).symm)
  · rw [← h2]; exact rI4_ext (fun i a b => (hx i (by omega) (by omega)).symm)
  · rw [rI4_ext (g := h) (h := g) (fun i a b => (hx i (by omega) (by omega)).symm), h3]
    exact ckf_ext 8 0 0 _ (fun i a b => hx _ (by omega) (by omega))
theorem hd_ext {tv : Nat → Int} {g h : Int → Int} (hx : ∀ i, 0 ≤ i → i < 128 → g i = h i) : (hdV tv g ↔ hdV tv h) ∧ hNum g = hNum h ∧ hSer g = hSer h ∧ hCop g = hCop h ∧ hPgs g = hPgs h ∧ hChk g = hChk h := by
  have e : ∀ a, 0 ≤ a → a + 4 ≤ 128 → rI4 g a = rI4 h a := fun a h0 h1 => rI4_ext (fun i p q => hx i (by omega) (by omega))
  refine ⟨?_, e 4 (by omega) (by omega), rL8_ext (fun i p q => hx i (by omega) (by omega)), e 16 (by omega) (by omega), e 20 (by omega) (by omega), e 24 (by omega) (by omega)⟩
  unfold hdV
  rw [e 0 (by omega) (by omega), e 28 (by omega) (by omega), ckf_ext 28 0 0 (-1) (fun i a b => hx _ (by omega) (by omega))]
theorem al128 (cf : Cf) (o : Int) : aln cf 262 o = 128 ∧ aln cf 263 o = 128 ∧ aln cf 264 o = 128 := ⟨rfl, rfl, rfl⟩
def mBp (o : Int) (f : Nat) (o' : Int) : Prop := mFw f o' ∨ (f = 262 ∧ o' = o)
theorem sp_writeErased {cf : Cf} {tv : Nat → Int} (hc : CfOK cf) {σ : St} {lp : Int → Int → Int} (hF : FlI cf σ lp) {o b : Int} {Q : Int → St → Prop} (hb : 0 ≤ b ∧ b < cf.1) (hw : gA σ 133 0 b = 0) (he : rI (gA σ 260 o b))
    (hQ : ∀ r τ x, rZ r → FlI cf τ (upP lp (b * cf.2.1 + 0) x) → gA τ 133 0 = upF (gA σ 133 0) b 1 → (r = 0 → 0 ≤ gI σ 136 0 ∧ gI τ 136 0 < 0) → (r = 1 → (0 ≤ gI τ 136 0 ↔ 0 ≤ gI σ 136 0)) → (r = 1 → erH tv x (gA σ 260 o b)) → Fr (mBp o) σ τ → Q r τ) : wp_Blocks_writeErased cf tv o b Q σ := by
  have hP : 8 ≤ cf.2.1 ∧ cf.2.1 ≤ 32 := hc.2.1
  unfold wp_Blocks_writeErased
  refine sp_fill1 (by rw [(al128 cf o).1]; omega) (by rw [(al128 cf o).1]; omega) (fun _ => ?_)
  refine sp_putInt (by omega) (by rw [(al128 cf o).1]; omega) (by omega) (fun _ => ?_)
  rw [sAr_sAr, gA_sAr1]
  refine ⟨hb, ?_⟩
  rw [gA_sAr, if_neg (fun q => absurd q.1 (by decide))]
  refine sp_putInt (by omega) (by rw [(al128 cf o).1]; omega) (by omega) (fun _ => ?_)
  rw [sAr_sAr, gA_sAr1]
  refine sp_check (by omega) (by omega) (by rw [(al128 cf o).1]; omega) (by omega) (fun hr1 _ => ?_)
  rw [gA_sAr1] at hr1 ⊢
  refine sp_putInt (by omega) (by rw [(al128 cf o).1]; omega) (by omega) (fun hRK => ?_)
  rw [sAr_sAr, gA_sAr1] at hRK ⊢
  generalize hg : pI4 (pI4 (fun i => if 0 ≤ i ∧ i < aln cf 262 o then 0 else gA σ 262 o i) 0 1263288881) 4 (gA σ 260 o b) = g2 at *
  have fr1 : Fr (mBp o) σ (sAr σ 262 o (pI4 g2 8 (ckf tv g2 (Int.toNat 8) 0 (-1)))) := (Fr.rf _ σ).sAr (Or.inr ⟨rfl, rfl⟩)
  generalize hσ : sAr σ 262 o (pI4 g2 8 (ckf tv g2 (Int.toNat 8) 0 (-1))) = σ1 at *
  have w1 : gA σ1 133 0 = gA σ 133 0 := by rw [← hσ]; funext i; rw [gA_sAr, if_neg (fun q => absurd q.1 (by decide))]
  have f1 : gI σ1 136 0 = gI σ 136 0 := by rw [← hσ]; rfl
  have p1 : gA σ1 262 o = pI4 g2 8 (ckf tv g2 (Int.toNat 8) 0 (-1)) := by rw [← hσ, gA_sAr1]
  have F1 : FlI cf σ1 lp := by
    rw [← hσ]
    exact hF.fr (M := fun f o' => f = 262 ∧ o' = o) ((Fr.rf _ σ).sAr ⟨rfl, rfl⟩) (fun f h1 h2 q => by omega)
  refine sp_flash_write hc F1 hRK hb (by rw [w1, hw]) (by omega) (Or.inr (by decide)) rfl (by omega) (by rw [(al128 cf o).1]; omega) (fun r τ x rz hF2 hw2 hf0 hf1 hx hfr => ?_)
  intro _ _
  refine hQ r τ x rz hF2 (by rw [hw2, w1]; rfl) (by rw [← f1]; exact hf0) (by rw [← f1]; exact hf1) (fun q => ?_) (fr1.tr (hfr.mono (fun f o h => Or.inl h)))
  refine erH_ext (g := pI4 g2 8 (ckf tv g2 (Int.toNat 8) 0 (-1))) (fun i i0 i1 => ?_) ?_
  · rw [hx q i i0 i1, p1]; congr 1; omega
  · refine ⟨?_, ?_, ?_⟩
    · rw [rI4_o (by omega), ← hg, rI4_o (by omega), rI4_p (by unfold rI; omega)]
    · rw [rI4_o (by omega), ← hg, rI4_p he]
    · rw [rI4_p hr1]
      exact (ckf_ext 8 0 0 (-1) (fun i a b => pI4_out (by omega))).symm
theorem sp_writeHead {cf : Cf} {tv : Nat → Int} (hc : CfOK cf) {σ : St} {lp : Int → Int → Int} (hF : FlI cf σ lp) {o b n cp pgs ck : Int} {Q : Int → St → Prop} (hb : 0 ≤ b ∧ b < cf.1) (hw : gA σ 133 0 b = 1) (hn : rI n) (hz : rZ cp) (hp : rI pgs) (hk : rI ck) (hs : 0 ≤ gI σ 261 o ∧ gI σ 261 o < 4611686018427387904)
    (hQ : ∀ r τ x, rZ r → FlI cf τ (upP lp (b * cf.2.1 + 1) x) → gA τ 133 0 = upF (gA σ 133 0) b 2 → gI τ 261 o = gI σ 261 o + 1 → (r = 0 → 0 ≤ gI σ 136 0 ∧ gI τ 136 0 < 0) → (r = 1 → (0 ≤ gI τ 136 0 ↔ 0 ≤ gI σ 136 0)) → (r = 1 → hdV tv x ∧ hNum x = n ∧ hSer x = gI σ 261 o + 1 ∧ hCop x = cp ∧ hPgs x = pgs ∧ hChk x = ck) → Fr (fun f o' => mBp o f o' ∨ (f = 261 ∧ o' = o)) σ τ → Q r τ) : wp_Blocks_writeHead cf tv o b n cp pgs ck Q σ := by
  have hP : 8 ≤ cf.2.1 ∧ cf.2.1 ≤ 32 := hc.2.1
  have hal := (al128 cf o).1
  unfold wp_Blocks_writeHead
  refine sp_fill1 (by rw [hal]; omega) (by rw [hal]; omega) (fun _ => ?_)
  refine sp_putInt (by omega) (by rw [hal]; omega) (by omega) (fun _ => ?_)
  rw [sAr_sAr, gA_sAr1]
  refine sp_putInt (by omega) (by rw [hal]; omega) (by omega) (fun _ => ?_)
  rw [sAr_sAr, gA_sAr1]
  generalize hg1 : pI4 (pI4 (fun i => if 0 ≤ i ∧ i < aln cf 262 o then 0 else gA σ 262 o i) 0 1263289138) 4 n = g1
  intro σa ha
  have es : gI (sAr σ 262 o g1) 261 o = gI σ 261 o := rfl
  rw [es, w64_id (by unfold rJ; omega)] at ha ⊢
  have pa : gA σa 262 o = g1 := by rw [ha]; show gA (sAr σ 262 o g1) 262 o = g1; exact gA_sAr1 _ _ _ _
  refine sp_putLong (by omega) (by rw [hal]; omega) (by omega) (fun _ => ?_)
  rw [pa]
  refine sp_putInt (by omega) (by rw [hal]; omega) (by omega) (fun _ => ?_)
  rw [sAr_sAr, gA_sAr1]
  refine sp_putInt (by omega) (by rw [hal]; omega) (by omega) (fun _ => ?_)
  rw [sAr_sAr, gA_sAr1]
  refine sp_putInt (by omega) (by rw [hal]; omega) (by omega) (fun _ => ?_)
  rw [sAr_sAr, gA_sAr1]
  refine sp_check (by omega) (by omega) (by rw [hal]; omega) (by omega) (fun hr1 _ => ?_)
  rw [gA_sAr1] at hr1 ⊢
  refine sp_putInt (by omega) (by rw [hal]; omega) (by omega) (fun hRK => ?_)
  rw [sAr_sAr, gA_sAr1] at hRK ⊢
  have hcz : (if cp = 0 then (0 : Int) else 1) = cp := by rcases rZ_cases hz with rfl | rfl <;> rfl
  rw [hcz] at hRK hr1 ⊢
  generalize hg2 : pI4 (pI4 (pI4 (pL8 g1 8 (gI σ 261 o + 1)) 16 cp) 20 pgs) 24 ck = g2 at *
  have fr1 : Fr (fun f o' => mBp o f o' ∨ (f = 261 ∧ o' = o)) σ (sAr σa 262 o (pI4 g2 28 (ckf tv g2 (Int.toNat 28) 0 (-1)))) := by
    rw [ha]
    exact (((Fr.rf _ σ).sAr (Or.inl (Or.inr ⟨rfl, rfl⟩))).sI (Or.inr ⟨rfl, rfl⟩)).sAr (Or.inl (Or.inr ⟨rfl, rfl⟩))
  have p1 : gA (sAr σa 262 o (pI4 g2 28 (ckf tv g2 (Int.toNat 28) 0 (-1)))) 262 o = pI4 g2 28 (ckf tv g2 (Int.toNat 28) 0 (-1)) := gA_sAr1 _ _ _ _
  have s1 : gI (sAr σa 262 o (pI4 g2 28 (ckf tv g2 (Int.toNat 28) 0 (-1)))) 261 o = gI σ 261 o + 1 := by rw [gI_sAr, ha, gI_sI1]
  have w1 : gA (sAr σa 262 o (pI4 g2 28 (ckf tv g2 (Int.toNat 28) 0 (-1)))) 133 0 = gA σ 133 0 := by
    rw [ha]; funext i; rw [gA_sAr, if_neg (fun q => absurd q.1 (by decide)), gA_sI, gA_sAr, if_neg (fun q => absurd q.1 (by decide))]
  have f1 : gI (sAr σa 262 o (pI4 g2 28 (ckf tv g2 (Int.toNat 28) 0 (-1)))) 136 0 = gI σ 136 0 := by
    rw [ha, gI_sAr, gI_sI, if_neg (fun q => absurd q.1 (by decide))]; rfl
  have F1 : FlI cf (sAr σa 262 o (pI4 g2 28 (ckf tv g2 (Int.toNat 28) 0 (-1)))) lp := by
    rw [ha]
    exact hF.fr (M := fun f o' => 136 < f) ((((Fr.rf _ σ).sAr (by decide)).sI (by decide)).sAr (by decide)) (fun f h1 h2 q => by omega)
  generalize sAr σa 262 o (pI4 g2 28 (ckf tv g2 (Int.toNat 28) 0 (-1))) = σ1 at *
  refine sp_flash_write hc F1 hRK hb (by rw [w1, hw]) (by omega) (Or.inr (by decide)) rfl (by omega) (by rw [hal]; omega) (fun r τ x rz hF2 hw2 hf0 hf1 hx hfr => ?_)
  intro _ _
  have s2 : gI τ 261 o = gI σ 261 o + 1 := by rw [hfr.i 261 o (fun q => by unfold mFw at q; omega), s1]
  refine hQ r τ x rz hF2 (by rw [hw2, w1]; rfl) s2 (by rw [← f1]; exact hf0) (by rw [← f1]; exact hf1) (fun q => ?_) (fr1.tr (hfr.mono (fun f o h => Or.inl (Or.inl h))))
  obtain ⟨e1, e2, e3, e4, e5, e6⟩ := hd_ext (tv := tv) (g := pI4 g2 28 (ckf tv g2 (Int.toNat 28) 0 (-1))) (h := x) (fun i i0 i1 => by rw [hx q i i0 i1, p1]; congr 1; omega)
  rw [← e1, ← e2, ← e3, ← e4, ← e5, ← e6]
  refine ⟨⟨?_, ?_⟩, ?_, ?_, ?_, ?_, ?_⟩
  · rw [rI4_o (by omega), ← hg2, rI4_o (by omega), rI4_o (by omega), rI4_o (by omega), rI4_ext (h := g1) (fun i a b => pL8_out (by omega)), ← hg1, rI4_o (by omega), rI4_p (by unfold rI; omega)]
  · rw [rI4_p hr1]
    exact (ckf_ext 28 0 0 (-1) (fun i a b => pI4_out (by omega))).symm
  · unfold hNum
    rw [rI4_o (by omega), ← hg2, rI4_o (by omega), rI4_o (by omega), rI4_o (by omega), rI4_ext (h := g1) (fun i a b => pL8_out (by omega)), ← hg1, rI4_p hn]
  · unfold hSer
    rw [rL8_ext (h := pL8 g1 8 (gI σ 261 o + 1)) (fun i a b => by rw [pI4_out (by omega), ← hg2, pI4_out (by omega), pI4_out (by omega), pI4_out (by omega)]), rL8_p (by unfold rJ; omega)]
  · unfold hCop
    rw [rI4_o (by omega), ← hg2, rI4_o (by omega), rI4_o (by omega), rI4_p hz.i]
  · unfold hPgs
    rw [rI4_o (by omega), ← hg2, rI4_o (by omega), rI4_p hp]
  · unfold hChk
    rw [rI4_o (by omega), ← hg2, rI4_p hk]
def mRd (o : Int) (f : Nat) (o' : Int) : Prop := (f = 135 ∧ o' = 0) ∨ ((f = 262 ∨ f = 263 ∨ (269 ≤ f ∧ f ≤ 273)) ∧ o' = o)
theorem pg_ext {lp : Int → Int → Int} {t : Int} {g : Int → Int} {σ : St} (h : gA σ 262 0 = g) : True := trivial
theorem sp_readErased {cf : Cf} {tv : Nat → Int} (hc : CfOK cf) {σ : St} {lp : Int → Int → Int} (hF : FlI cf σ lp) {o b : Int} {Q : Int → St → Prop} (hb : 0 ≤ b ∧ b < cf.1)
    (hQ : ∀ r τ, (1 ≤ gA σ 133 0 b → (∀ e, erH tv (lp (b * cf.2.1 + 0)) e → r = e)) → ((gA σ 133 0 b < 1 ∨ ¬ ∃ e, erH tv (lp (b * cf.2.1 + 0)) e) → r = -1) → Fr (mRd o) σ τ → Q r τ) : wp_Blocks_readErased cf tv o b Q σ := by
  have hal := (al128 cf o).1
  unfold wp_Blocks_readErased wp_Flash_written
  refine ⟨hb, fun _ _ => ⟨fun h1 => ?_, fun h1 => ?_⟩⟩
  · refine sp_flash_read hc hF hb (p := 0) ⟨by omega, by omega⟩ (Or.inr (by decide)) (by omega) (by rw [hal]; omega) (by omega) (fun τ hτ hfr _ => ?_)
    have hx : ∀ i, 0 ≤ i → i < 128 → gA τ 262 o i = lp (b * cf.2.1 + 0) i := by
      intro i i0 i1; rw [hτ]; dsimp only; rw [if_pos (by omega)]; congr 1; omega
    have fr : Fr (mRd o) σ τ := hfr.mono (fun f o' h => by
      rcases h with h | h
      · exact Or.inl h
      · exact Or.inr ⟨Or.inl h.1, h.2⟩)
    have R : ∀ a, 0 ≤ a → a + 4 ≤ 128 → rI4 (gA τ 262 o) a = rI4 (lp (b * cf.2.1 + 0)) a := fun a h0 h1 => rI4_ext (fun i p q => hx i (by omega) (by omega))
    have C : ckf tv (gA τ 262 o) 8 0 (-1) = ckf tv (lp (b * cf.2.1 + 0)) 8 0 (-1) := ckf_ext 8 0 0 _ (fun i a b => hx _ (by omega) (by omega))
    refine sp_getInt (by omega) (by rw [hal]; omega) (by omega) (fun _ _ => ?_)
    rw [R 0 (by omega) (by omega)]
    refine ⟨fun h2 => hQ _ τ (fun _ e he => absurd he.1 h2) (fun _ => rfl) fr, fun h2 => ?_⟩
    refine sp_getInt (by omega) (by rw [hal]; omega) (by omega) (fun _ _ => ?_)
    refine sp_check (by omega) (by omega) (by rw [hal]; omega) (by omega) (fun _ _ => ?_)
    show (¬ rI4 (gA τ 262 o) 8 = ckf tv (gA τ 262 o) 8 0 (-1) → _) ∧ (rI4 (gA τ 262 o) 8 = ckf tv (gA τ 262 o) 8 0 (-1) → _)
    rw [R 8 (by omega) (by omega), C]
    refine ⟨fun h3 => hQ _ τ (fun _ e he => absurd he.2.2 h3) (fun _ => rfl) fr, fun h3 => ?_⟩
    refine sp_getInt (by omega) (by rw [hal]; omega) (by omega) (fun _ _ => ?_)
    rw [R 4 (by omega) (by omega)]
    exact hQ _ τ (fun _ e he => he.2.1) (fun q => by
      rcases q with q | q
      · omega
      · exact absurd ⟨_, h2, rfl, h3⟩ q) fr
  · exact hQ _ σ (fun q => absurd q h1) (fun _ => rfl) (Fr.rf _ σ)
theorem sp_readHead {cf : Cf} {tv : Nat → Int} (hc : CfOK cf) {σ : St} {lp : Int → Int → Int} (hF : FlI cf σ lp) {o b : Int} {Q : Int → St → Prop} (hb : 0 ≤ b ∧ b < cf.1)
    (hQ : ∀ r τ, rZ r → (r = 1 ↔ 2 ≤ gA σ 133 0 b ∧ hdV tv (lp (b * cf.2.1 + 1)) ∧ 0 ≤ hNum (lp (b * cf.2.1 + 1)) ∧ hNum (lp (b * cf.2.1 + 1)) < cf.1 - 6) → (2 ≤ gA σ 133 0 b → gI τ 269 o = hNum (lp (b * cf.2.1 + 1)) ∧ gI τ 270 o = hSer (lp (b * cf.2.1 + 1)) ∧ gI τ 271 o = (if hCop (lp (b * cf.2.1 + 1)) = 1 then 1 else 0) ∧ gI τ 272 o = hPgs (lp (b * cf.2.1 + 1)) ∧ gI τ 273 o = hChk (lp (b * cf.2.1 + 1))) → Fr (mRd o) σ τ → Q r τ) : wp_Blocks_readHead cf tv o b Q σ := by
  have hal := (al128 cf o).1
  have hB : 24 ≤ cf.1 ∧ cf.1 ≤ 64 := hc.1
  unfold wp_Blocks_readHead wp_Flash_written
  refine ⟨hb, fun _ _ => ⟨fun h1 => ?_, fun h1 => ?_⟩⟩
  · refine sp_flash_read hc hF hb (p := 1) ⟨by omega, by omega⟩ (Or.inr (by decide)) (by omega) (by rw [hal]; omega) (by omega) (fun τ hτ hfr _ => ?_)
    have hx : ∀ i, 0 ≤ i → i < 128 → gA τ 262 o i = lp (b * cf.2.1 + 1) i := by
      intro i i0 i1; rw [hτ]; dsimp only; rw [if_pos (by omega)]; congr 1; omega
    have fr : Fr (mRd o) σ τ := hfr.mono (fun f o' h => by
      rcases h with h | h
      · exact Or.inl h
      · exact Or.inr ⟨Or.inl h.1, h.2⟩)
    have R : ∀ a, 0 ≤ a → a + 4 ≤ 128 → rI4 (gA τ 262 o) a = rI4 (lp (b * cf.2.1 + 1)) a := fun a h0 h1 => rI4_ext (fun i p q => hx i (by omega) (by omega))
    have RL : rL8 (gA τ 262 o) 8 = rL8 (lp (b * cf.2.1 + 1)) 8 := rL8_ext (fun i p q => hx i (by omega) (by omega))
    have C : ckf tv (gA τ 262 o) 28 0 (-1) = ckf tv (lp (b * cf.2.1 + 1)) 28 0 (-1) := ckf_ext 28 0 0 _ (fun i a b => hx _ (by omega) (by omega))
    clear hτ hfr
    refine sp_getInt (by omega) (by rw [hal]; omega) (by omega) (fun _ _ => ?_)
    intro τ1 e1
    refine sp_getLong (by omega) (by rw [hal]; omega) (by omega) (fun _ _ => ?_)
    intro τ2 e2
    refine sp_getInt (by omega) (by rw [hal]; omega) (by omega) (fun _ _ => ?_)
    intro τ3 e3
    refine sp_getInt (by omega) (by rw [hal]; omega) (by omega) (fun _ _ => ?_)
    intro τ4 e4
    refine sp_getInt (by omega) (by rw [hal]; omega) (by omega) (fun _ _ => ?_)
    intro τ5 e5
    have p1 : gA τ1 262 o = gA τ 262 o := by rw [e1]; rfl
    have p2 : gA τ2 262 o = gA τ 262 o := by rw [e2, ← p1]; rfl
    have p3 : gA τ3 262 o = gA τ 262 o := by rw [e3, ← p2]; rfl
    have p4 : gA τ4 262 o = gA τ 262 o := by rw [e4, ← p3]; rfl
    have p5 : gA τ5 262 o = gA τ 262 o := by rw [e5, ← p4]; rfl
    rw [p4] at e5; rw [p3] at e4; rw [p2] at e3; rw [p1] at e2
    rw [R 24 (by omega) (by omega)] at e5
    rw [R 20 (by omega) (by omega)] at e4
    rw [R 16 (by omega) (by omega)] at e3
    rw [RL] at e2
    rw [R 4 (by omega) (by omega)] at e1
    have fr5 : Fr (mRd o) σ τ5 := by
      have m : ∀ f, 269 ≤ f → f ≤ 273 → mRd o f o := fun f h1 h2 => Or.inr ⟨Or.inr (Or.inr ⟨h1, h2⟩), rfl⟩
      rw [e5, e4, e3, e2, e1]
      exact ((((fr.sI (m _ (by decide) (by decide))).sI (m _ (by decide) (by decide))).sI (m _ (by decide) (by decide))).sI (m _ (by decide) (by decide))).sI (m _ (by decide) (by decide))
    have F5 : gI τ5 269 o = hNum (lp (b * cf.2.1 + 1)) ∧ gI τ5 270 o = hSer (lp (b * cf.2.1 + 1)) ∧ gI τ5 271 o = (if hCop (lp (b * cf.2.1 + 1)) = 1 then 1 else 0) ∧ gI τ5 272 o = hPgs (lp (b * cf.2.1 + 1)) ∧ gI τ5 273 o = hChk (lp (b * cf.2.1 + 1)) := by
      have ne : ∀ (f g : Nat), f ≠ g → ¬ (f = g ∧ o = o) := fun f g h q => h q.1
      refine ⟨?_, ?_, ?_, ?_, ?_⟩
      · rw [e5, gI_sI, if_neg (ne _ _ (by decide)), e4, gI_sI, if_neg (ne _ _ (by decide)), e3, gI_sI, if_neg (ne _ _ (by decide)), e2, gI_sI, if_neg (ne _ _ (by decide)), e1, gI_sI1]; rfl
      · rw [e5, gI_sI, if_neg (ne _ _ (by decide)), e4, gI_sI, if_neg (ne _ _ (by decide)), e3, gI_sI, if_neg (ne _ _ (by decide)), e2, gI_sI1]; rfl
      · rw [e5, gI_sI, if_neg (ne _ _ (by decide)), e4, gI_sI, if_neg (ne _ _ (by decide)), e3, gI_sI1]; rfl
      · rw [e5, gI_sI, if_neg (ne _ _ (by decide)), e4, gI_sI1]; rfl
      · rw [e5, gI_sI1]; rfl
    clear e1 e2 e3 e4 e5 p1 p2 p3 p4
    refine sp_getInt (by omega) (by rw [hal]; omega) (by omega) (fun _ _ => ?_)
    rw [p5, R 0 (by omega) (by omega)]
    refine ⟨fun h2 => hQ 0 τ5 rZ_0 ⟨fun q => absurd q (by decide), fun q => absurd q.2.1.1 h2⟩ (fun _ => F5) fr5, fun h2 => ?_⟩
    refine sp_getInt (by omega) (by rw [hal]; omega) (by omega) (fun _ _ => ?_)
    refine sp_check (by omega) (by omega) (by rw [hal]; omega) (by omega) (fun _ _ => ?_)
    show (¬ rI4 (gA τ5 262 o) 28 = ckf tv (gA τ5 262 o) 28 0 (-1) → _) ∧ (rI4 (gA τ5 262 o) 28 = ckf tv (gA τ5 262 o) 28 0 (-1) → _)
    rw [p5, R 28 (by omega) (by omega), C]
    refine ⟨fun h3 => hQ 0 τ5 rZ_0 ⟨fun q => absurd q (by decide), fun q => absurd q.2.1.2 h3⟩ (fun _ => F5) fr5, fun h3 => ?_⟩
    rw [F5.1, w32_id (x := cf.1 - 6 - 1) (by unfold rI; omega)]
    unfold wp_House_isIn
    refine ⟨fun h4 => ?_, fun h4 => ⟨fun h5 => ?_, fun h5 => ?_⟩⟩
    · intro _ _
      exact ⟨fun _ => hQ 0 τ5 rZ_0 ⟨fun q => absurd q (by decide), fun q => by omega⟩ (fun _ => F5) fr5, fun q => absurd rfl q⟩
    · intro _ _
      exact ⟨fun _ => hQ 0 τ5 rZ_0 ⟨fun q => absurd q (by decide), fun q => by omega⟩ (fun _ => F5) fr5, fun q => absurd rfl q⟩
    · intro _ _
      exact ⟨fun q => absurd q (by decide), fun _ => hQ 1 τ5 rZ_1 ⟨fun _ => ⟨h1, ⟨h2, h3⟩, by omega, by omega⟩, fun _ => rfl⟩ (fun _ => F5) fr5⟩
  · exact hQ 0 σ rZ_0 ⟨fun q => absurd q (by decide), fun q => absurd q.1 h1⟩ (fun q => absurd q h1) (Fr.rf _ σ)
/-- the check of a block's first pages -/
def cko (tv : Nat → Int) (pg : Int → Int → Int) : Nat → Int
  | 0 => -1
  | n + 1 => ckf tv (pg n) 128 0 (cko tv pg n)
theorem cko_ext {tv : Nat → Int} {p q : Int → Int → Int} : ∀ n : Nat, (∀ k : Nat, k < n → ∀ i : Int, 0 ≤ i → i < 128 → p k i = q k i) → cko tv p n = cko tv q n
  | 0, _ => rfl
  | n + 1, h => by
    show ckf tv (p n) 128 0 (cko tv p n) = ckf tv (q n) 128 0 (cko tv q n)
    rw [cko_ext n (fun k hk => h k (by omega))]
    exact ckf_ext 128 0 0 _ (fun i a b => by rw [show (0 : Int) + i = i by omega]; exact h n (by omega) i a (by omega))
def mCk (o : Int) (f : Nat) (o' : Int) : Prop := (f = 135 ∧ o' = 0) ∨ (f = 263 ∧ o' = o)
theorem mCk_rd (o : Int) : ∀ f o', mCk o f o' → mRd o f o' := fun f o' q => by unfold mCk at q; unfold mRd; omega
theorem sp_checkOf {cf : Cf} {tv : Nat → Int} (hc : CfOK cf) {σ : St} {lp : Int → Int → Int} (hF : FlI cf σ lp) {o b many : Int} {Q : Int → St → Prop} (hb : 0 ≤ b ∧ b < cf.1) (hm : 0 ≤ many ∧ many + 2 ≤ gA σ 133 0 b)
    (hQ : ∀ τ, Fr (mCk o) σ τ → Q (cko tv (fun k => lp (b * cf.2.1 + (2 + k))) many.toNat) τ) : wp_Blocks_checkOf cf tv o b many Q σ := by
  have hal := (al128 cf o).2.1
  obtain ⟨hw, -⟩ := hF b hb.1 hb.2
  have hP : 8 ≤ cf.2.1 ∧ cf.2.1 ≤ 32 := hc.2.1
  unfold wp_Blocks_checkOf
  refine lQ2_rule (fun y3 y4 τ => Fr (mCk o) σ τ ∧ ∃ k : Nat, y4 = k ∧ (k : Int) ≤ many ∧ y3 = cko tv (fun k => lp (b * cf.2.1 + (2 + k))) k) (fun _ y4 _ => (many - y4).toNat) ?_ (-1) 0 σ ⟨Fr.rf _ σ, 0, rfl, by omega, rfl⟩
  intro K y3 y4 τ hI hK
  obtain ⟨fr, k, rfl, hk, rfl⟩ := hI
  unfold wp_Blocks_checkOf_L5
  refine ⟨fun h => ?_, fun h => ?_⟩
  · have : many.toNat = k := by omega
    rw [← this]; exact hQ τ fr
  · rw [w32_id (x := 2 + (k : Int)) (by unfold rI; omega)]
    have hFτ : FlI cf τ lp := hF.fr fr (fun f h1 h2 q => by unfold mCk at q; omega)
    have wτ : gA τ 133 0 = gA σ 133 0 := fr.a _ 0 (fun q => by unfold mCk at q; omega)
    refine sp_flash_read hc hFτ hb ⟨by omega, by rw [wτ]; omega⟩ (Or.inr (by decide)) (by omega) (by rw [hal]; omega) (by omega) (fun τ2 hτ hfr _ => ?_)
    refine sp_check (by omega) (by omega) (by rw [hal]; omega) (by omega) (fun _ _ => ?_)
    intro y hy
    rw [w32_id (by unfold rI; omega)] at hy
    rw [hy]
    refine hK _ _ _ ⟨fr.tr hfr, k + 1, by omega, by omega, ?_⟩ (by omega)
    · show ckf tv (gA τ2 263 o) 128 0 _ = ckf tv (lp (b * cf.2.1 + (2 + (k : Int)))) 128 0 _
      refine ckf_ext 128 0 0 _ (fun i a c => ?_)
      rw [hτ]; dsimp only
      rw [if_pos (by omega)]; congr 1; omega
