/-! found again: rows of bytes -/
/-- what is carried is found as it was; what is not may come back as Sp allows -/
def fnJ (cf : Cf) (Sp : Int → Int → (Int → Int → Int) → Prop) (dk : Int → Int) (db : Int → Int → Int) (dk' : Int → Int) (db' : Int → Int → Int) : Prop := ∀ n, 0 ≤ n → n < cf.1 - 6 → (dk n ≠ -1 → dk' n = dk n ∧ ∀ p, 0 ≤ p → p < 128 * dk n → db' n p = db n p) ∧ (dk n = -1 → dk' n = -1 ∨ (0 ≤ dk' n ∧ ∀ w, 0 ≤ w → w ≤ dk' n → Sp n w (pgs db' n)))
theorem sp_jattach {tv : Nat → Int} {cf : Cf} {σ : St} {o : Int} {dk : Int → Int} {db : Int → Int → Int} {Sp : Int → Int → (Int → Int → Int) → Prop} {B : Int} (hc : CfOK cf) (hrk : RK σ) {o' : Int} {Q : St → Prop} (h : DJ tv cf σ o dk db Sp B) (hS : SpX Sp)
    (hQ : ∀ τ dk' db', DJ tv cf τ o' dk' db' Sp B → fnJ cf Sp dk db dk' db' → gI τ 265 o' = -1 → Fr (mAt o') σ τ → RK τ → Q τ) : wp_Blocks_attach cf tv o' Q σ := by
  obtain ⟨T, ⟨⟨lp, H⟩, hr⟩, b1, b2⟩ := h
  have hk := fun n (n0 : 0 ≤ n) (n1 : n < cf.1 - 6) => (show DI tv cf σ o dk db Sp T from ⟨lp, H⟩).k hc ⟨n0, n1⟩
  refine sp_attach hc hrk H hS (fun τ vw' vp' H' fn mv f k => ?_)
  have e1 : ∀ n k i, 0 ≤ i → i < 128 → pgs (fun n p => vp' n (p / 128) (p % 128)) n k i = vp' n k i := by
    intro n k i i0 i1
    show vp' n ((128 * k + i) / 128) ((128 * k + i) % 128) = _
    rw [show (128 * k + i) / 128 = k by omega, show (128 * k + i) % 128 = i by omega]
  refine hQ τ vw' (fun n p => vp' n (p / 128) (p % 128)) ⟨T, ⟨⟨lp, H'.vpx (fun n _ _ k _ _ i i0 i1 => e1 n k i i0 i1)⟩, hr.x (fun n n0 n1 => ?_)⟩, ?_, b2⟩ ?_ mv f k
  · have n2 : n < cf.1 - 6 := by have := hc.2.2.2; have := hc.1; omega
    have q := fn n (by omega) n2
    by_cases e : dk n = -1
    · have z : vw' n = -1 := by
        rcases q.2 e with w | ⟨w1, w2⟩
        · exact w
        · exact absurd (w2 0 (by omega) w1) ((hr n n0 n1).2 e 0 _ (by omega))
      exact ⟨by rw [z, e], fun p p0 p1 => by omega⟩
    · refine ⟨(q.1 e).1, fun p p0 p1 => ?_⟩
      have := (q.1 e).2 (p / 128) (by omega) (by omega) (p % 128) (by omega) (by omega)
      show vp' n (p / 128) (p % 128) = _
      rw [this]
      show db n (128 * (p / 128) + p % 128) = _
      congr 1
      omega
  · have pe : pnd τ = pnd σ := by unfold pnd; rw [f.i 136 0 (fun q => by unfold mAt at q; omega)]
    have u : unc cf vw' ≤ unc cf dk := by
      unfold unc
      have := cnt_le (p := fun n => vw' n = -1) (q := fun n => dk n = -1) (cf.1 - 6).toNat (fun i i0 i1 hi => by
        apply Classical.byContradiction
        intro ne
        have := ((fn i i0 (by omega)).1 ne).1
        exact ne (by rw [← this]; exact hi))
      omega
    rw [pe]; omega
  · intro n n0 n1
    have q := fn n n0 n1
    have kn := hk n n0 n1
    refine ⟨fun ne => ⟨(q.1 ne).1, fun p p0 p1 => ?_⟩, fun e => ?_⟩
    · have := (q.1 ne).2 (p / 128) (by omega) (by omega) (p % 128) (by omega) (by omega)
      show vp' n (p / 128) (p % 128) = _
      rw [this]
      show db n (128 * (p / 128) + p % 128) = _
      congr 1
      omega
    · rcases q.2 e with w | ⟨w1, w2⟩
      · exact Or.inl w
      · refine Or.inr ⟨w1, fun w w0 w3 => hS n w (vp' n) _ (fun k k0 k1 i i0 i1 => (e1 n k i i0 i1).symm) (w2 w w0 w3)⟩
def mLo (o : Int) (f : Nat) (o' : Int) : Prop := ((f = 451 ∨ f = 452) ∧ (o' = o ∨ o' = o + 2 ∨ o' = o + 4)) ∨ ((f = 205 ∨ f = 213 ∨ f = 223 ∨ f = 225) ∧ o' = o)
theorem sp_slose {tv : Nat → Int} {cf : Cf} {σ : St} {o : Int} {Q : St → Prop} (hQ : ∀ τ, noW τ o → gI τ 205 o = 0 → gI τ 213 o = 0 → gI τ 223 o = -1 → gI τ 225 o = 0 → Fr (mLo o) σ τ → Q τ) : wp_Store_lose cf tv o Q σ := by
  unfold wp_Store_lose wp_Writer_lose
  intro σ1 e1 σ2 e2 _ σ3 e3 σ4 e4 _ σ5 e5 σ6 e6 _ σ7 e7 σ8 e8 σ9 e9 σ10 e10
  have nf : ∀ {a b : Nat} {x y : Int}, a ≠ b → ¬ (a = b ∧ x = y) := fun h q => h q.1
  have no : ∀ {a b : Nat} {x y : Int}, x ≠ y → ¬ (a = b ∧ x = y) := fun h q => h q.2
  have fr : Fr (mLo o) σ σ10 := by
    rw [e10, e9, e8, e7, e6, e5, e4, e3, e2, e1]
    refine ((((((((((Fr.rf _ _).sI ?_).sI ?_).sI ?_).sI ?_).sI ?_).sI ?_).sI ?_).sI ?_).sI ?_).sI ?_ <;> first | exact Or.inl ⟨by omega, by omega⟩ | exact Or.inr ⟨by omega, rfl⟩
  have w6 : noW σ6 o := by
    unfold noW
    rw [e6, e5, e4, e3, e2, e1]
    refine ⟨?_, ?_, ?_⟩
    · rw [gI_sI, if_neg (nf (by decide)), gI_sI, if_neg (no (by omega)), gI_sI, if_neg (nf (by decide)), gI_sI, if_neg (no (by omega)), gI_sI, if_neg (nf (by decide)), gI_sI1]
    · rw [gI_sI, if_neg (nf (by decide)), gI_sI, if_neg (no (by omega)), gI_sI, if_neg (nf (by decide)), gI_sI1]
    · rw [gI_sI, if_neg (nf (by decide)), gI_sI1]
  have f610 : Fr (fun f o' => (f = 205 ∨ f = 213 ∨ f = 223 ∨ f = 225) ∧ o' = o) σ6 σ10 := by
    rw [e10, e9, e8, e7]
    exact ((((Fr.rf _ _).sI ⟨by omega, rfl⟩).sI ⟨by omega, rfl⟩).sI ⟨by omega, rfl⟩).sI ⟨by omega, rfl⟩
  refine hQ σ10 (w6.fr f610 (fun w _ q => by omega)) ?_ ?_ ?_ ?_ fr
  · rw [e10, gI_sI, if_neg (nf (by decide)), e9, gI_sI, if_neg (nf (by decide)), e8, gI_sI, if_neg (nf (by decide)), e7, gI_sI1]
  · rw [e10, gI_sI, if_neg (nf (by decide)), e9, gI_sI, if_neg (nf (by decide)), e8, gI_sI1]
  · rw [e10, gI_sI, if_neg (nf (by decide)), e9, gI_sI1]
  · rw [e10, gI_sI1]
/-! sheets -/
/-- a sheet of a type at q of g: its serial number, its first two ints -/
def shP (tv : Nat → Int) (g : Int → Int) (q ty s a b : Int) : Prop := whN tv g q 64 ∧ g (q + 16) = ty ∧ srl g q = s ∧ rI4 g (q + 24) = a ∧ rI4 g (q + 28) = b
/-- a page of a number is read into the sheet -/
theorem sp_sheet {tv : Nat → Int} {cf : Cf} {σ : St} {o : Int} {dk : Int → Int} {db : Int → Int → Int} {Sp : Int → Int → (Int → Int → Int) → Prop} {B : Int} (hc : CfOK cf) (ho : o = 0 ∨ o = 1) {n k : Int} {Q : St → Prop} (hD : DJ tv cf σ o dk db Sp B) (hn : 0 ≤ n ∧ n < cf.1 - 6) (hk : 0 ≤ k ∧ k < dk n)
    (hQ : ∀ τ, (∀ i, 0 ≤ i → i < 128 → gA τ 512 (o + 4) i = db n (128 * k + i)) → gI τ 513 (o + 4) = 0 → Fr (fun f o' => (f = 135 ∧ o' = 0) ∨ mRow (o + 4) f o') σ τ → RK τ → Q τ) :
    wp_Blocks_read cf tv o n k 512 (o + 4) 0 (fun σ1 => RK σ1 → wp_Row_clear cf tv (o + 4) (fun σ2 => RK σ2 → Q σ2) σ1) σ := by
  have hP : 8 ≤ cf.2.1 ∧ cf.2.1 ≤ 32 := hc.2.1
  have r4 : rowL (o + 4) = 128 := by unfold rowL; rw [if_neg (by omega), if_pos (by omega)]
  refine sp_jread hc hD hn hk.1 (Or.inr (by decide)) (by omega) (by rw [aln_row, r4]; omega) (by omega) (fun σ1 b1 f1 _ _ => ?_)
  refine sp_rclear (fun σ2 c1 c2 c3 f2 k2 => hQ σ2 (fun i i0 i1 => ?_) c1 ?_ k2)
  · rw [c3, b1]
    dsimp only
    rw [if_pos (by omega), if_pos hk.2]
    congr 1
    omega
  · refine (f1.mono ?_).tr (f2.mono ?_)
    · intro f o' q
      rcases q with q | q
      · exact Or.inl q
      · exact Or.inr ⟨by omega, q.2⟩
    · intro f o' q; exact Or.inr ⟨by omega, q.2⟩
