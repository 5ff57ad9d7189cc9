/-! a head writes what it still has; the sheet of a commit -/
theorem sp_saflush {tv : Nat → Int} {cf : Cf} {σ : St} {dk : Int → Int} {db : Int → Int → Int} {Sp : Int → Int → (Int → Int → Int) → Prop} {B w : Int} {L : List (Int × Int × Int × Int × Int × Int)} {Q : St → Prop} (hc : CfOK cf) (h : SA tv cf σ dk db L) (hD : DJ tv cf σ 0 dk db Sp B) (hw : isW 0 w)
    (hQ : ∀ τ dk' db', SA tv cf τ dk' db' L → DJ tv cf τ 0 dk' db' Sp B → gI τ 451 w = gI σ 451 w → flu τ w → (gI σ 451 w ≠ -1 → gI τ 452 w = (gI σ 452 w + 127) / 128 * 128 ∧ lmF dk' (gI σ 451 w) = (gI σ 452 w + 127) / 128 * 128 ∧ ∀ p, gI σ 452 w ≤ p → p < (gI σ 452 w + 127) / 128 * 128 → db' (gI σ 451 w) p = 0) → (∀ m, m ≠ gI σ 451 w → dk' m = dk m ∧ ∀ p, db' m p = db m p) → LGo cf σ τ dk dk' db db' → Fr (mWr w) σ τ → Q τ) : wp_Writer_flush cf tv w (fun σ9 => RK σ9 → Q σ9) σ := by
  have hR : 0 ≤ cf.2.2 ∧ cf.2.2 ≤ 4 := hc.2.2
  by_cases n1 : gI σ 451 w = -1
  · unfold wp_Writer_flush
    refine ⟨fun q => absurd n1 q, fun _ _ => ?_⟩
    exact hQ σ dk db h hD rfl (fun q => absurd n1 q) (fun q => absurd n1 q) (fun m _ => ⟨rfl, fun _ => rfl⟩) (LGo.fr (Fr.rf (fun _ _ => False) σ) (fun _ _ _ _ _ q => q)) (Fr.rf _ _)
  have rn := (h.1.1.all.1 w hw).le rfl (by
    rcases h.1.1.all.1 w hw with q | q
    · exact absurd q n1
    · omega)
  refine sp_flush3 hc (Or.inl rfl) h.1.2 hw hD h.1.1 rfl n1 rfl rfl (fun τ dk' D W G g1 g2 g3 fr rk _ => ?_)
  have e1 := eE_at h.1.1 hw rfl n1
  have e2 := eE_at W hw g1 n1
  have z : ∀ p, gI σ 452 w ≤ p → p < (gI σ 452 w + 127) / 128 * 128 → putB db (gI σ 451 w) (gI σ 452 w) ((gI σ 452 w + 127) / 128 * 128 - gI σ 452 w) (fun _ => 0) (gI σ 451 w) p = 0 := fun p p0 p1 => by
    unfold putB
    rw [if_pos ⟨rfl, p0, by omega⟩]
  have S : ∃ t, chn tv (putB db (gI σ 451 w) (gI σ 452 w) ((gI σ 452 w + 127) / 128 * 128 - gI σ 452 w) (fun _ => 0) (gI σ 451 w)) t (gI σ 452 w) ((gI σ 452 w + 127) / 128 * 128) := by
    by_cases q : gI σ 452 w % 128 = 0
    · exact ⟨[], by show gI σ 452 w = _; omega⟩
    · refine ⟨[0], ?_⟩
      show if (0 : Int) = 0 then pdZ _ _ ∧ chn tv _ [] _ _ else _
      rw [if_pos rfl]
      exact ⟨⟨q, z⟩, rfl⟩
  obtain ⟨t, ht⟩ := S
  refine hQ τ dk' _ (h.grow hc hw rfl n1 g1 W G fr rk (by rw [e1, e2, g2]; exact ht)) D g1 (fun _ => by rw [g2]; omega) (fun _ => ⟨g2, by unfold lmF; omega, z⟩) (fun m ne => ⟨(G.1 m ne).1, fun p => ?_⟩) (G.lg rn.1.1) fr
  unfold putB
  rw [if_neg (fun q => ne q.1)]
theorem tbG.ext {tv : Nat → Int} {cf : Cf} {u : Int → Int} {g h : Int → Int} {p : Int} (hc : CfOK cf) (w : tbG tv cf u g p) (e : ∀ i, p ≤ i → i < p + tbl cf → h i = g i) : tbG tv cf u h p := by
  have hB : 24 ≤ cf.1 ∧ cf.1 ≤ 64 := hc.1
  have hR : 0 ≤ cf.2.2 ∧ cf.2.2 ≤ 4 := hc.2.2
  have tr := tbl_r hc
  have td : tbl cf = (24 + 4 * (cf.1 - 10 - cf.2.2) + 7) / 8 * 8 := rfl
  refine ⟨w.1.ext (fun i i0 i1 => (e _ (by omega) (by omega)).symm), by rw [e _ (by omega) (by omega)]; exact w.2.1, fun m m0 m1 => ?_⟩
  rw [rI4_ext (h := g) (fun i i0 i1 => e i (by omega) (by omega))]
  exact w.2.2 m m0 m1
theorem lgP.ext {tv : Nat → Int} {dk dk' : Int → Int} {db db' : Int → Int → Int} {lg lr c : Int} {M : List (Int × Int × Int × (Int → Int))} (w : lgP tv dk db lg lr c M) (hd : dk' lg = dk lg) (e : ∀ i, 0 ≤ i → i < 128 → db' lg i = db lg i) : lgP tv dk' db' lg lr c M := by
  obtain ⟨w1, w2, w3, w4, w5, w6, w7⟩ := w
  have r : ∀ j, 0 ≤ j → j + 4 ≤ 128 → rI4 (db' lg) j = rI4 (db lg) j := fun j j0 j1 => rI4_ext (fun i i0 i1 => e i (by omega) (by omega))
  have c1 : cat1 (fun k => rI4 (db' lg) (32 + 4 * k)) (rI4 (db lg) 28).toNat = cat1 (fun k => rI4 (db lg) (32 + 4 * k)) (rI4 (db lg) 28).toNat := cat1_ext _ (fun k k0 k1 => r _ (by omega) (by omega))
  refine ⟨by rw [hd]; exact w1, w2.ext (fun i i0 i1 => (e _ (by omega) (by omega)).symm), by rw [e _ (by omega) (by omega)]; exact w3, by rw [srl_ext (n := 64) (by omega) (fun p a b => e p (by omega) (by omega))]; exact w4, by rw [r _ (by omega) (by omega)]; exact w5, by rw [r _ (by omega) (by omega)]; exact w6, ?_⟩
  rw [r 28 (by omega) (by omega), c1]; exact w7
theorem lgP.ext2 {tv : Nat → Int} {dk dk' : Int → Int} {db db' : Int → Int → Int} {lg lr c : Int} {M : List (Int × Int × Int × (Int → Int))} (w : lgP tv dk db lg lr c M) (hd : 1 ≤ dk' lg) (e : ∀ i, 0 ≤ i → i < 128 → db' lg i = db lg i) : lgP tv dk' db' lg lr c M := by
  have q := w.ext (dk' := dk) (db' := db') rfl e
  exact ⟨hd, q.2⟩
/-- the sheet of a commit -/
theorem sp_mrow {tv : Nat → Int} {cf : Cf} {σ : St} {c lg n p s nx tn tp ts : Int} {K : St → Prop} (hrk : RK σ) (hat : gI σ 513 4 = 0) (hb : shB (gA σ 512 4) 6 c lg) (hz : 0 ≤ gI σ 387 0) (h1 : gI σ 585 (gI σ 387 0) = n) (h2 : gI σ 586 (gI σ 387 0) = p) (h3 : gI σ 587 (gI σ 387 0) = s) (h4 : gI σ 203 0 = nx) (h5 : gI σ 214 0 = tn) (h6 : gI σ 215 0 = tp) (h7 : gI σ 216 0 = ts)
    (hK : ∀ τ, shB (gA τ 512 4) 6 c lg → rI4 (gA τ 512 4) 32 = n → rI4 (gA τ 512 4) 36 = p → rI4 (gA τ 512 4) 40 = s → rI4 (gA τ 512 4) 44 = nx → rI4 (gA τ 512 4) 48 = tn → rI4 (gA τ 512 4) 52 = tp → rI4 (gA τ 512 4) 56 = ts → gI τ 513 4 = 0 → Fr (mRb 4) σ τ → RK τ → K τ) :
    0 ≤ gI σ 387 0 ∧ wp_Row_put cf tv (0 + 4) 8 (gI σ 585 (gI σ 387 0)) (fun σ_170 => RK σ_170 → 0 ≤ gI σ_170 387 0 ∧ wp_Row_put cf tv (0 + 4) 12 (gI σ_170 586 (gI σ_170 387 0)) (fun σ_173 => RK σ_173 → 0 ≤ gI σ_173 387 0 ∧ wp_Row_put cf tv (0 + 4) 16 (gI σ_173 587 (gI σ_173 387 0)) (fun σ_176 => RK σ_176 → wp_Row_put cf tv (0 + 4) 20 (gI σ_176 203 0) (fun σ_178 => RK σ_178 → wp_Row_put cf tv (0 + 4) 24 (gI σ_178 214 0) (fun σ_180 => RK σ_180 → wp_Row_put cf tv (0 + 4) 28 (gI σ_180 215 0) (fun σ_182 => RK σ_182 → wp_Row_put cf tv (0 + 4) 32 (gI σ_182 216 0) (fun σ_184 => RK σ_184 → K σ_184) σ_182) σ_180) σ_178) σ_176) σ_173) σ_170) σ := by
  have r4 : rowL (0 + 4) = 128 := by decide
  have fi : ∀ {τ : St} {f : Nat} {x : Int}, Fr (mRb 4) σ τ → f ≠ 512 → gI τ f x = gI σ f x := fun {τ f x} fr nf => fr.i _ _ (fun q => nf q.1)
  refine ⟨hz, sp_rput (a := 0) hat (by omega) (by omega) (by omega) (fun τ1 b1 f1 k1 _ => ?_)⟩
  have F1 := f1
  rw [fi F1 (f := 387) (by decide)]
  refine ⟨hz, ?_⟩
  rw [fi F1 (f := 586) (by decide)]
  refine sp_rput (a := 0) (by rw [fi F1 (f := 513) (by decide)]; exact hat) (by omega) (by omega) (by omega) (fun τ2 b2 f2 k2 _ => ?_)
  have F2 := F1.tr f2
  rw [fi F2 (f := 387) (by decide)]
  refine ⟨hz, ?_⟩
  rw [fi F2 (f := 587) (by decide)]
  refine sp_rput (a := 0) (by rw [fi F2 (f := 513) (by decide)]; exact hat) (by omega) (by omega) (by omega) (fun τ3 b3 f3 k3 _ => ?_)
  have F3 := F2.tr f3
  rw [fi F3 (f := 203) (by decide)]
  refine sp_rput (a := 0) (by rw [fi F3 (f := 513) (by decide)]; exact hat) (by omega) (by omega) (by omega) (fun τ4 b4 f4 k4 _ => ?_)
  have F4 := F3.tr f4
  rw [fi F4 (f := 214) (by decide)]
  refine sp_rput (a := 0) (by rw [fi F4 (f := 513) (by decide)]; exact hat) (by omega) (by omega) (by omega) (fun τ5 b5 f5 k5 _ => ?_)
  have F5 := F4.tr f5
  rw [fi F5 (f := 215) (by decide)]
  refine sp_rput (a := 0) (by rw [fi F5 (f := 513) (by decide)]; exact hat) (by omega) (by omega) (by omega) (fun τ6 b6 f6 k6 _ => ?_)
  have F6 := F5.tr f6
  rw [fi F6 (f := 216) (by decide)]
  refine sp_rput (a := 0) (by rw [fi F6 (f := 513) (by decide)]; exact hat) (by omega) (by omega) (by omega) (fun τ7 b7 f7 k7 _ => ?_)
  have F7 := F6.tr f7
  have B7 := ((((((hb.put (k := 8) (v := n) (by omega)).put (k := 12) (v := p) (by omega)).put (k := 16) (v := s) (by omega)).put (k := 20) (v := nx) (by omega)).put (k := 24) (v := tn) (by omega)).put (k := 28) (v := tp) (by omega)).put (k := 32) (v := ts) (by omega)
  have c1 : gA τ1 512 4 = pI4 (gA σ 512 4) (0 + 24 + 8) n := by rw [← h1]; exact b1
  have c2 : gA τ2 512 4 = pI4 (gA τ1 512 4) (0 + 24 + 12) p := by rw [← h2]; exact b2
  have c3 : gA τ3 512 4 = pI4 (gA τ2 512 4) (0 + 24 + 16) s := by rw [← h3]; exact b3
  have c4 : gA τ4 512 4 = pI4 (gA τ3 512 4) (0 + 24 + 20) nx := by rw [← h4]; exact b4
  have c5 : gA τ5 512 4 = pI4 (gA τ4 512 4) (0 + 24 + 24) tn := by rw [← h5]; exact b5
  have c6 : gA τ6 512 4 = pI4 (gA τ5 512 4) (0 + 24 + 28) tp := by rw [← h6]; exact b6
  have c7 : gA τ7 512 4 = pI4 (gA τ6 512 4) (0 + 24 + 32) ts := by rw [← h7]; exact b7
  have e7 : gA τ7 512 4 = pI4 (pI4 (pI4 (pI4 (pI4 (pI4 (pI4 (gA σ 512 4) (0 + 24 + 8) n) (0 + 24 + 12) p) (0 + 24 + 16) s) (0 + 24 + 20) nx) (0 + 24 + 24) tn) (0 + 24 + 28) tp) (0 + 24 + 32) ts := by rw [c7, c6, c5, c4, c3, c2, c1]
  have q1 : rI n := by rw [← h1]; exact hrk.i _ _ (by decide)
  have q2 : rI p := by rw [← h2]; exact hrk.i _ _ (by decide)
  have q3 : rI s := by rw [← h3]; exact hrk.i _ _ (by decide)
  have q4 : rI nx := by rw [← h4]; exact hrk.i _ _ (by decide)
  have q5 : rI tn := by rw [← h5]; exact hrk.i _ _ (by decide)
  have q6 : rI tp := by rw [← h6]; exact hrk.i _ _ (by decide)
  have q7 : rI ts := by rw [← h7]; exact hrk.i _ _ (by decide)
  refine hK τ7 (by rw [e7]; exact B7) ?_ ?_ ?_ ?_ ?_ ?_ ?_ (by rw [fi F7 (f := 513) (by decide)]; exact hat) F7 k7
  · rw [e7, rI4_o (by omega), rI4_o (by omega), rI4_o (by omega), rI4_o (by omega), rI4_o (by omega), rI4_o (by omega)]; exact rI4_p q1
  · rw [e7, rI4_o (by omega), rI4_o (by omega), rI4_o (by omega), rI4_o (by omega), rI4_o (by omega)]; exact rI4_p q2
  · rw [e7, rI4_o (by omega), rI4_o (by omega), rI4_o (by omega), rI4_o (by omega)]; exact rI4_p q3
  · rw [e7, rI4_o (by omega), rI4_o (by omega), rI4_o (by omega)]; exact rI4_p q4
  · rw [e7, rI4_o (by omega), rI4_o (by omega)]; exact rI4_p q5
  · rw [e7, rI4_o (by omega)]; exact rI4_p q6
  · rw [e7]; exact rI4_p q7
