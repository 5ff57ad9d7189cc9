/-! the house: what stands between calls -/
noncomputable def cif (p : Prop) (a b : Int) : Int := @ite Int p (Classical.propDecidable p) a b
theorem cif_y {p : Prop} {a b : Int} (h : p) : cif p a b = a := by unfold cif; rw [if_pos h]
theorem cif_n {p : Prop} {a b : Int} (h : ¬ p) : cif p a b = b := by unfold cif; rw [if_neg h]
/-- an answer about a directory -/
noncomputable def dirA (N : List (Int × Int × Int)) (d z : Int) : Int := cif ((d, 1, 0) ∈ N) z (cif (∃ k s, (d, k, s) ∈ N) (-6) (-4))
/-- the store holds the tree S -/
def HP (tv : Nat → Int) (cf : Cf) (σ : St) (S S' : List (Int × Int × Int × (Int → Int)) × Int) (W : List (Int × (List (Int × Int × Int × (Int → Int)) × Int))) (r : RT) (B : Int) : Prop := ∃ dk db L, PX tv cf σ dk db L S' W r B ∧ (AM db L = S.1 ∧ gI σ 203 0 = S.2) ∧ WF cf S ∧ S.2 < 1073740000
/-- and the house counts it -/
def HC (σ : St) (S : List (Int × Int × Int × (Int → Int)) × Int) : Prop := gI σ 71 0 = cpM S.1 ∧ gI σ 72 0 = ((nds S.1).length : Int) ∧ gI σ 69 0 = 1
theorem HP.fr {tv : Nat → Int} {cf : Cf} {σ : St} {S S' : List (Int × Int × Int × (Int → Int)) × Int} {W : List (Int × (List (Int × Int × Int × (Int → Int)) × Int))} {r : RT} {B : Int} {τ : St} {M : Nat → Int → Prop} (h : HP tv cf σ S S' W r B) (fr : Fr M σ τ) (n : ∀ f o', M f o' → ¬ relF f ∧ ¬ rBI 0 f o' ∧ ¬ (f = 203)) (rk : RK τ) : HP tv cf τ S S' W r B := by
  obtain ⟨dk, db, L, p, ⟨a, b⟩, w⟩ := h
  exact ⟨dk, db, L, p.fr fr (fun f o' q => ⟨(n f o' q).1, (n f o' q).2.1⟩) rk, ⟨a, by rw [fr.i _ _ (fun q => (n _ _ q).2.2 rfl)]; exact b⟩, w⟩
theorem HP.frH {tv : Nat → Int} {cf : Cf} {σ : St} {S S' : List (Int × Int × Int × (Int → Int)) × Int} {W : List (Int × (List (Int × Int × Int × (Int → Int)) × Int))} {r : RT} {B : Int} {τ : St} {M : Nat → Int → Prop} (h : HP tv cf σ S S' W r B) (fr : Fr M σ τ) (n : ∀ f o', M f o' → mHR f o') (rk : RK τ) : HP tv cf τ S S' W r B := h.fr fr (fun f o' q => ⟨(mHR_n (n f o' q)).1, (mHR_n (n f o' q)).2, fun e => by
  have := n f o' q
  rw [e] at this
  revert this
  unfold mHR mIs
  omega⟩) rk
theorem HP.wf {tv : Nat → Int} {cf : Cf} {σ : St} {S S' : List (Int × Int × Int × (Int → Int)) × Int} {W : List (Int × (List (Int × Int × Int × (Int → Int)) × Int))} {r : RT} {B : Int} (h : HP tv cf σ S S' W r B) : WF cf S := by obtain ⟨_, _, _, _, _, w, _⟩ := h; exact w
theorem HP.nx {tv : Nat → Int} {cf : Cf} {σ : St} {S S' : List (Int × Int × Int × (Int → Int)) × Int} {W : List (Int × (List (Int × Int × Int × (Int → Int)) × Int))} {r : RT} {B : Int} (h : HP tv cf σ S S' W r B) : 1 < S.2 ∧ S.2 < 1073740000 := by obtain ⟨_, _, _, _, _, w, x⟩ := h; exact ⟨w.wr.nx1, x⟩
/-- hand, from a tree to a tree -/
theorem sp_handS {tv : Nat → Int} {cf : Cf} {σ : St} {S S' : List (Int × Int × Int × (Int → Int)) × Int} {W : List (Int × (List (Int × Int × Int × (Int → Int)) × Int))} {r : RT} {B : Int} {e : Int} {S2 : List (Int × Int × Int × (Int → Int)) × Int} {Q : St → Prop} (hc : CfOK cf) (h : HP tv cf σ S S' W r B) (hB : B + 49772 < 1073741000) (hg : GL σ S e S2) (he : e ≤ 508) (hW : WF cf S2) (hx : S2.2 < 1073740000)
    (hQ : ∀ τ p0 S0 W0 k, TKo cf σ e S S' W p0 S0 W0 → SFo (p0 + e) (W0 ++ [(p0 + e, S2)]) k → HP tv cf τ S2 (laS S0 ((W0 ++ [(p0 + e, S2)]).take k)) ((W0 ++ [(p0 + e, S2)]).drop k) r (B + 49772) → gI τ 451 0 ≠ -1 → gI τ 452 0 = p0 + e → Fr mHh σ τ → RK τ → Q τ) : wp_House_hand cf tv Q σ := by
  obtain ⟨dk, db, L, p, ⟨a, b⟩, w, -⟩ := h
  obtain ⟨g1, u, g2⟩ := hg
  have eS : S = (AM db L, gI σ 203 0) := by rw [a, b]
  rw [eS] at g2
  have x1 := hW.wr.nx1
  have ln := hW.len hc
  refine sp_Hhand hc p hB g1 he g2 ⟨by omega, hW.2.2.2.2.2.2.2.2.2.2.1, hW.2.2.2.2.2.2.2.2.2.2.2, by omega, by omega⟩ (fun τ dk' db' L' p0 S0 W0 k tk pr am nx rm sf nn pl f k' => ?_)
  rw [← eS] at tk
  exact hQ τ p0 S0 W0 k tk sf ⟨dk', db', L', Or.inl ⟨pr, rm⟩, ⟨am, nx⟩, hW, hx⟩ nn pl f k'
