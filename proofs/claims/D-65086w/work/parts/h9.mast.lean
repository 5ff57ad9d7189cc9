/-! the masters are written -/
theorem msP.sh {tv : Nat → Int} {cf : Cf} {g h : Int → Int} {a b sM c lg n p s nx tn tp : Int} (w : msP tv cf g a sM c lg n p s nx tn tp) (e : ∀ k, 0 ≤ k → k < 64 → g (a + k) = h (b + k)) : msP tv cf h b sM c lg n p s nx tn tp := by
  obtain ⟨w1, w2, w3, w4, w5, w6, w7, w8⟩ := w
  have r : ∀ j, 0 ≤ j → j + 4 ≤ 64 → rI4 g (a + j) = rI4 h (b + j) := fun j j0 j1 => rI4_sh (fun i i0 i1 => by rw [show a + j + i = a + (j + i) by omega, show b + j + i = b + (j + i) by omega]; exact e _ (by omega) (by omega))
  exact ⟨w1.sh e, by rw [← r 32 (by omega) (by omega)]; exact w2, by rw [← r 36 (by omega) (by omega)]; exact w3, by rw [← r 40 (by omega) (by omega)]; exact w4, by rw [← r 44 (by omega) (by omega)]; exact w5, by rw [← r 48 (by omega) (by omega)]; exact w6, by rw [← r 52 (by omega) (by omega)]; exact w7, by rw [← r 56 (by omega) (by omega)]; exact w8⟩
def mMl (f : Nat) (o' : Int) : Prop := mBw 0 f o' ∨ mMv 0 f o'
theorem sp_mloop {tv : Nat → Int} {cf : Cf} {σ : St} {dk : Int → Int} {db : Int → Int → Int} {Sp : Int → Int → (Int → Int → Int) → Prop} {B sM c lg n p s nx tn tp : Int} {Q : St → Prop} (hc : CfOK cf) (hrk : RK σ) (hD : DJ tv cf σ 0 dk db Sp B) (hB : B + 12 < 1073741000) (hS : ∀ m w pg, (m = 0 ∨ m = 1) → Sp m w pg) (hg : msP tv cf (gA σ 512 4) 0 sM c lg n p s nx tn tp) (hm : ∀ m, (m = 0 ∨ m = 1) → ∀ k, 0 ≤ k → k < dk m → srl (db m) (128 * k) < sM) (hs : 0 ≤ sM)
    (hQ : ∀ τ dk' db', DJ tv cf τ 0 dk' db' Sp (B + 12) → MSt tv cf dk' db' sM c lg n p s nx tn tp → (∀ m, 2 ≤ m → dk' m = dk m ∧ ∀ q, db' m q = db m q) → Fr mMl σ τ → RK τ → ∀ K, wp_Store_endCommit_L137 cf tv 0 Q K 2 τ) : lQ1 (wp_Store_endCommit_L137 cf tv 0 Q) 0 σ := by
  have hP : 8 ≤ cf.2.1 ∧ cf.2.1 ≤ 32 := hc.2.1
  have hBl : 24 ≤ cf.1 ∧ cf.1 ≤ 64 := hc.1
  refine lQ1_rule (fun y τ => (0 ≤ y ∧ y ≤ 2) ∧ RK τ ∧ Fr mMl σ τ ∧ ∃ dk' db', DJ tv cf τ 0 dk' db' Sp (B + 6 * y) ∧ (∀ m, y ≤ m → dk' m = dk m ∧ ∀ q, db' m q = db m q) ∧ ∀ m, 0 ≤ m → m < y → 1 ≤ dk' m ∧ msP tv cf (db' m) (128 * (dk' m - 1)) sM c lg n p s nx tn tp ∧ ∀ k, 0 ≤ k → k < dk' m - 1 → srl (db' m) (128 * k) < sM) (fun y _ => (2 - y).toNat) ?_ 0 σ ⟨by omega, hrk, Fr.rf _ _, dk, db, hD.le (by omega) (by omega), fun m _ => ⟨rfl, fun _ => rfl⟩, fun m m0 m1 => absurd m1 (by omega)⟩
  intro K y τ hI hK
  obtain ⟨h1, rk, fr, dk1, db1, D1, g1, g2⟩ := hI
  by_cases e2 : y = 2
  · rw [e2] at D1 g1 g2 ⊢
    exact hQ τ dk1 db1 (by rw [show B + 12 = B + 6 * 2 by omega]; exact D1) ⟨hs, fun m hm' => g2 m (by omega) (by omega)⟩ g1 fr rk K
  have y01 : y = 0 ∨ y = 1 := by omega
  have ny : 0 ≤ y ∧ y < cf.1 - 6 := by omega
  have go : ∀ υ dk2, DJ tv cf υ 0 dk2 db1 Sp (B + 6 * (y + 1)) → (∀ m, m ≠ y → dk2 m = dk1 m) → (dk2 y = dk1 y ∨ dk2 y = -1) → max 0 (dk2 y) < cf.2.1 - 2 → RK υ → Fr mMl σ υ → wp_Store_endCommit_b168 cf tv 0 Q K y υ := by
    intro υ dk2 D2 q1 q2 q3 k2 f2
    unfold wp_Store_endCommit_b168
    refine sp_jwritten hc D2 ny (fun _ _ => ?_)
    refine sp_shwrite hc (Or.inl rfl) k2 D2 ny (by omega) rfl q3 (fun υ2 D3 f3 k3 _ y' ey => ?_)
    rw [w32_id (by unfold rI; omega)] at ey
    rw [ey]
    have bs : gA υ 512 4 = gA σ 512 4 := f2.a _ _ (fun q => by unfold mMl mBw mMv at q; omega)
    refine hK _ _ ⟨by omega, k3, f2.tr (f3.mono (fun f o' q => Or.inl q)), _, _, D3, fun m m0 => ?_, fun m m0 m1 => ?_⟩ (by omega)
    · have w := g1 m (by omega)
      refine ⟨?_, fun q => ?_⟩
      · unfold upF; rw [if_neg (by omega), q1 m (by omega)]; exact w.1
      · unfold putB; rw [if_neg (fun z => by omega)]; exact w.2 q
    · by_cases e : m = y
      · rw [e]
        have u1 : upF dk2 y (max 0 (dk2 y) + 1) y = max 0 (dk2 y) + 1 := by unfold upF; rw [if_pos rfl]
        rw [u1]
        refine ⟨by omega, hg.sh (fun k k0 k1 => ?_), fun k k0 k1 => ?_⟩
        · unfold putB
          rw [if_pos ⟨rfl, by omega, by omega⟩]
          show gA σ 512 4 (0 + k) = gA υ 512 4 _
          rw [bs]
          congr 1
          omega
        · have w := g1 y (by omega)
          have u2 : srl (putB db1 y (128 * max 0 (dk2 y)) 128 (gA υ 512 (0 + 4)) y) (128 * k) = srl (db y) (128 * k) := srl_ext (n := 128) (by omega) (fun q a b => by unfold putB; rw [if_neg (fun z => by omega)]; exact w.2 q)
          rw [u2]
          exact hm y y01 k k0 (by rw [← w.1]; omega)
      · have w := g2 m m0 (by omega)
        have u1 : upF dk2 y (max 0 (dk2 y) + 1) m = dk1 m := by unfold upF; rw [if_neg e]; exact q1 m e
        have u2 : putB db1 y (128 * max 0 (dk2 y)) 128 (gA υ 512 (0 + 4)) m = db1 m := by funext q; unfold putB; rw [if_neg (fun z => e z.1)]
        rw [u1, u2]
        exact w
  unfold wp_Store_endCommit_L137
  refine ⟨fun q => absurd q (by omega), fun _ => ?_⟩
  refine sp_jwritten hc D1 ny (fun _ _ => ?_)
  unfold wp_Blocks_pages
  intro _ _
  rw [w32_id (by unfold rI; omega)]
  have kr := D1.k hc ny
  refine ⟨fun q => go τ dk1 (D1.le (by omega) (by omega)) (fun _ _ => rfl) (Or.inl rfl) (by omega) rk fr, fun q => ?_⟩
  refine sp_jdrop hc rk D1 ny (by omega) (fun w _ _ => hS y w _ y01) (by omega) (fun υ D2 _ f2 k2 _ => ?_)
  have u1 : upF dk1 y (-1) y = -1 := by unfold upF; rw [if_pos rfl]
  refine go υ _ (by rw [show B + 6 * (y + 1) = B + 6 * y + 6 by omega]; exact D2) (fun m e => by unfold upF; rw [if_neg e]) (Or.inr u1) (by rw [u1]; omega) k2 (fr.tr (f2.mono (fun f o' q => Or.inr q)))
