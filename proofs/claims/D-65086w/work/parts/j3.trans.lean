/-! the flash, from before a commit to behind it -/
/-- groups that wait: where each ends, and the items behind it (Y: no serial number was left out since) -/
def sW (tv : Nat → Int) (g : Int → Int) (Y : Int) : List (List Int) → List (Int × (List (Int × Int × Int × (Int → Int)) × Int)) → Int → Int → List (Int × Int × Int × (Int → Int)) × Int → Int → Int → List (Int × Int × Int × (Int → Int)) × Int → Prop
  | [], [], a, s, S, b, s', S' => a = b ∧ s = s' ∧ S = S'
  | u :: t, x :: W, a, s, S, b, s', S' => ∃ s1, gN tv g u a s S x.1 s1 x.2 ∧ s1 ≤ max s Y + 13 ∧ sW tv g Y t W x.1 s1 x.2 b s' S'
  | [], _ :: _, _, _, _, _, _, _ => False
  | _ :: _, [], _, _, _, _, _, _ => False
/-- the items behind all that waits; where it ends -/
def laS (S : List (Int × Int × Int × (Int → Int)) × Int) : List (Int × (List (Int × Int × Int × (Int → Int)) × Int)) → List (Int × Int × Int × (Int → Int)) × Int
  | [] => S
  | x :: W => laS x.2 W
def laE (a : Int) : List (Int × (List (Int × Int × Int × (Int → Int)) × Int)) → Int
  | [] => a
  | x :: W => laE x.1 W
theorem laS_app {W V : List (Int × (List (Int × Int × Int × (Int → Int)) × Int))} : ∀ {S : List (Int × Int × Int × (Int → Int)) × Int}, laS S (W ++ V) = laS (laS S W) V := by
  induction W with
  | nil => intro S; rfl
  | cons x W ih => intro S; exact ih
theorem laE_app {W V : List (Int × (List (Int × Int × Int × (Int → Int)) × Int))} : ∀ {a : Int}, laE a (W ++ V) = laE (laE a W) V := by
  induction W with
  | nil => intro S; rfl
  | cons x W ih => intro S; exact ih
theorem sW.sM {tv : Nat → Int} {g : Int → Int} {Y : Int} : ∀ {t : List (List Int)} {W : List (Int × (List (Int × Int × Int × (Int → Int)) × Int))} {a s : Int} {S : List (Int × Int × Int × (Int → Int)) × Int} {b s' : Int} {S' : List (Int × Int × Int × (Int → Int)) × Int}, sW tv g Y t W a s S b s' S' → sM tv g t a s S b s' S'
  | [], [], _, _, _, _, _, _, h => h
  | u :: t, x :: W, a, s, S, b, s', S', h => by
    obtain ⟨s1, h1, hy, h2⟩ := h
    cases u with
    | nil => exact absurd h1 (fun q => q)
    | cons n u => exact ⟨x.1, s1, x.2, h1, h2.sM⟩
  | [], _ :: _, _, _, _, _, _, _, h => absurd h (fun q => q)
  | _ :: _, [], _, _, _, _, _, _, h => absurd h (fun q => q)
theorem sW.la {tv : Nat → Int} {g : Int → Int} {Y : Int} : ∀ {t : List (List Int)} {W : List (Int × (List (Int × Int × Int × (Int → Int)) × Int))} {a s : Int} {S : List (Int × Int × Int × (Int → Int)) × Int} {b s' : Int} {S' : List (Int × Int × Int × (Int → Int)) × Int}, sW tv g Y t W a s S b s' S' → t.length = W.length ∧ b = laE a W ∧ S' = laS S W
  | [], [], _, _, _, _, _, _, h => ⟨rfl, h.1.symm, h.2.2.symm⟩
  | u :: t, x :: W, a, s, S, b, s', S', h => by
    obtain ⟨s1, h1, hy, h2⟩ := h
    obtain ⟨a1, a2, a3⟩ := h2.la
    exact ⟨by rw [List.length_cons, List.length_cons, a1], a2, a3⟩
  | [], _ :: _, _, _, _, _, _, _, h => absurd h (fun q => q)
  | _ :: _, [], _, _, _, _, _, _, h => absurd h (fun q => q)
theorem sW.ext {tv : Nat → Int} {g h : Int → Int} {Y : Int} : ∀ {t : List (List Int)} {W : List (Int × (List (Int × Int × Int × (Int → Int)) × Int))} {a s : Int} {S : List (Int × Int × Int × (Int → Int)) × Int} {b s' : Int} {S' : List (Int × Int × Int × (Int → Int)) × Int}, sW tv g Y t W a s S b s' S' → (∀ p, a ≤ p → p < b → h p = g p) → sW tv h Y t W a s S b s' S'
  | [], [], _, _, _, _, _, _, w, _ => w
  | u :: t, x :: W, a, s, S, b, s', S', w, e => by
    obtain ⟨s1, h1, hy, h2⟩ := w
    have l1 := gN_le h1
    have l2 := sM_le h2.sM
    exact ⟨s1, gN_ext h1 (fun p p0 p1 => e p p0 (by omega)), hy, h2.ext (fun p p0 p1 => e p (by omega) p1)⟩
  | [], _ :: _, _, _, _, _, _, _, h, _ => absurd h (fun q => q)
  | _ :: _, [], _, _, _, _, _, _, h, _ => absurd h (fun q => q)
theorem sW.snoc {tv : Nat → Int} {g : Int → Int} {Y : Int} {u : List Int} {c s2 : Int} {S2 : List (Int × Int × Int × (Int → Int)) × Int} : ∀ {t : List (List Int)} {W : List (Int × (List (Int × Int × Int × (Int → Int)) × Int))} {a s : Int} {S : List (Int × Int × Int × (Int → Int)) × Int} {b s' : Int} {S' : List (Int × Int × Int × (Int → Int)) × Int}, sW tv g Y t W a s S b s' S' → gN tv g u b s' S' c s2 S2 → s2 ≤ max s' Y + 13 → sW tv g Y (t ++ [u]) (W ++ [(c, S2)]) a s S c s2 S2
  | [], [], a, s, S, b, s', S', h, k, ky => by
    obtain ⟨rfl, rfl, rfl⟩ := h
    exact ⟨s2, k, ky, rfl, rfl, rfl⟩
  | u :: t, x :: W, a, s, S, b, s', S', h, k, ky => by
    obtain ⟨s1, h1, hy, h2⟩ := h
    exact ⟨s1, h1, hy, h2.snoc k ky⟩
  | [], _ :: _, _, _, _, _, _, _, h, _, _ => absurd h (fun q => q)
  | _ :: _, [], _, _, _, _, _, _, h, _, _ => absurd h (fun q => q)
/-- the first k of them, and the others -/
theorem sW.split {tv : Nat → Int} {g : Int → Int} {Y : Int} : ∀ {k : Nat} {t : List (List Int)} {W : List (Int × (List (Int × Int × Int × (Int → Int)) × Int))} {a s : Int} {S : List (Int × Int × Int × (Int → Int)) × Int} {b s' : Int} {S' : List (Int × Int × Int × (Int → Int)) × Int}, sW tv g Y t W a s S b s' S' → ∃ s1, sW tv g Y (t.take k) (W.take k) a s S (laE a (W.take k)) s1 (laS S (W.take k)) ∧ sW tv g Y (t.drop k) (W.drop k) (laE a (W.take k)) s1 (laS S (W.take k)) b s' S'
  | 0, t, W, a, s, S, b, s', S', h => by
    refine ⟨s, ⟨rfl, rfl, rfl⟩, h⟩
  | k + 1, [], [], a, s, S, b, s', S', h => ⟨s, ⟨rfl, rfl, rfl⟩, h⟩
  | k + 1, u :: t, x :: W, a, s, S, b, s', S', h => by
    obtain ⟨s1, h1, hy, h2⟩ := h
    obtain ⟨s2, a1, a2⟩ := h2.split (k := k)
    exact ⟨s2, ⟨s1, h1, hy, a1⟩, a2⟩
  | _ + 1, [], _ :: _, _, _, _, _, _, _, h => absurd h (fun q => q)
  | _ + 1, _ :: _, [], _, _, _, _, _, _, h => absurd h (fun q => q)
theorem sW.lt {tv : Nat → Int} {g : Int → Int} {Y : Int} : ∀ {t : List (List Int)} {W : List (Int × (List (Int × Int × Int × (Int → Int)) × Int))} {a s : Int} {S : List (Int × Int × Int × (Int → Int)) × Int} {b s' : Int} {S' : List (Int × Int × Int × (Int → Int)) × Int}, sW tv g Y t W a s S b s' S' → ∀ x, x ∈ W → a < x.1 ∧ x.1 ≤ b
  | [], [], _, _, _, _, _, _, _, x, hx => absurd hx List.not_mem_nil
  | u :: t, y :: W, a, s, S, b, s', S', h, x, hx => by
    obtain ⟨s1, h1, hy, h2⟩ := h
    have l1 := gN_le h1
    have l2 := sM_le h2.sM
    rcases List.mem_cons.mp hx with e | e
    · rw [e]; exact ⟨l1.1, l2.1⟩
    · have := h2.lt x e
      exact ⟨by omega, this.2⟩
  | [], _ :: _, _, _, _, _, _, _, h, _, _ => absurd h (fun q => q)
  | _ :: _, [], _, _, _, _, _, _, h, _, _ => absurd h (fun q => q)
theorem sW.ser {tv : Nat → Int} {g : Int → Int} {Y : Int} : ∀ {t : List (List Int)} {W : List (Int × (List (Int × Int × Int × (Int → Int)) × Int))} {a s : Int} {S : List (Int × Int × Int × (Int → Int)) × Int} {b s' : Int} {S' : List (Int × Int × Int × (Int → Int)) × Int}, sW tv g Y t W a s S b s' S' → s' ≤ max s Y + 13 * W.length ∧ s ≤ s'
  | [], [], _, _, _, _, _, _, h => by
    have := h.2.1
    show _ ≤ _ + 13 * ((0 : Nat) : Int) ∧ _
    omega
  | u :: t, x :: W, a, s, S, b, s', S', h => by
    obtain ⟨s1, h1, hy, h2⟩ := h
    have l1 := gN_le h1
    have := h2.ser
    rw [List.length_cons]
    omega
  | [], _ :: _, _, _, _, _, _, _, h => absurd h (fun q => q)
  | _ :: _, [], _, _, _, _, _, _, h => absurd h (fun q => q)
theorem sW.y {tv : Nat → Int} {g : Int → Int} {Y Y' : Int} (hY : Y ≤ Y') : ∀ {t : List (List Int)} {W : List (Int × (List (Int × Int × Int × (Int → Int)) × Int))} {a s : Int} {S : List (Int × Int × Int × (Int → Int)) × Int} {b s' : Int} {S' : List (Int × Int × Int × (Int → Int)) × Int}, sW tv g Y t W a s S b s' S' → sW tv g Y' t W a s S b s' S'
  | [], [], _, _, _, _, _, _, h => h
  | u :: t, x :: W, a, s, S, b, s', S', h => by
    obtain ⟨s1, h1, hy, h2⟩ := h
    exact ⟨s1, h1, by omega, h2.y hY⟩
  | [], _ :: _, _, _, _, _, _, _, h => absurd h (fun q => q)
  | _ :: _, [], _, _, _, _, _, _, h => absurd h (fun q => q)
/-- the journal: what it has that is not safe -/
def JI (tv : Nat → Int) (σ : St) (dk : Int → Int) (db : Int → Int → Int) (bl : List (Int × Int × Int × List (List Int))) (s' : Int) (S' : List (Int × Int × Int × (Int → Int)) × Int) (W : List (Int × (List (Int × Int × Int × (Int → Int)) × Int))) (Y sJ : Int) : Prop :=
  (gI σ 451 0 = -1 ∧ gI σ 205 0 = 0 ∧ W = [] ∧ sJ = s') ∨ (gI σ 451 0 ≠ -1 ∧ ∃ bl0 a b t t2, bl = bl0 ++ [(gI σ 451 0, a, b, t)] ∧ sW tv (db (gI σ 451 0)) Y t2 W b s' S' (gI σ 452 0) sJ (laS S' W) ∧ gI σ 205 0 = W.length ∧ cat1 (gA σ 204 0) W.length = W.map (fun x => x.1) ∧ ∀ x, x ∈ W → lmF dk (gI σ 451 0) < x.1)
theorem SA.lme {tv : Nat → Int} {cf : Cf} {σ : St} {dk : Int → Int} {db : Int → Int → Int} {L : List (Int × Int × Int × Int × Int × Int)} (h : SA tv cf σ dk db L) {m : Int} (hm : 0 ≤ m) : lmF dk m ≤ eE σ 0 dk m := by
  by_cases q : hld σ 0 m
  · obtain ⟨w, w1, w2⟩ := q
    have a := eE_at h.1.1 w1 w2 (by omega)
    have b := (h.1.1.all.1 w w1).le w2 hm
    rw [a]
    unfold lmF
    omega
  · rw [eE_no (fun w hw e => q ⟨w, hw, e⟩)]; exact Int.le_refl _
theorem JI.flu {tv : Nat → Int} {cf : Cf} {σ : St} {dk : Int → Int} {db : Int → Int → Int} {L : List (Int × Int × Int × Int × Int × Int)} {bl : List (Int × Int × Int × List (List Int))} {s' : Int} {S' : List (Int × Int × Int × (Int → Int)) × Int} {W : List (Int × (List (Int × Int × Int × (Int → Int)) × Int))} {Y sJ : Int} (h : JI tv σ dk db bl s' S' W Y sJ) (hS : SA tv cf σ dk db L) (hf : flu σ 0) (h0 : 0 ≤ cf.2.2) : W = [] ∧ gI σ 205 0 = 0 ∧ (gI σ 451 0 ≠ -1 → ∃ bl0 a t, bl = bl0 ++ [(gI σ 451 0, a, gI σ 452 0, t)]) := by
  rcases h with ⟨q1, q2, q3, -⟩ | ⟨q, bl0, a, b, t, t2, w1, w2, w5, w6, w7⟩
  · exact ⟨q3, q2, fun z => absurd q1 z⟩
  · have rn := hS.rn (w := 0) (Or.inl rfl) q
    have lm : lmF dk (gI σ 451 0) = gI σ 452 0 := by
      have := hf q
      unfold lmF
      omega
    have t0 : W = [] := by
      cases W with
      | nil => rfl
      | cons x W =>
        have := w7 x List.mem_cons_self
        have := w2.lt x List.mem_cons_self
        omega
    have e1 := w2.la.2.1
    rw [t0] at w5 e1
    have e1' : gI σ 452 0 = b := e1
    exact ⟨t0, by rw [w5]; rfl, fun _ => ⟨bl0, a, t, by rw [e1']; exact w1⟩⟩
/-- outside of commits -/
def ONv (tv : Nat → Int) (cf : Cf) (σ : St) (dk : Int → Int) (db : Int → Int → Int) (L : List (Int × Int × Int × Int × Int × Int)) (c lg s : Int) : Prop := (gI σ 208 0 = lg ∧ (lg = 2 ∨ lg = 3) ∧ gI σ 212 0 = c ∧ 0 ≤ c ∧ c + 1 < 1073741824) ∧ ((1 ≤ dk (5 - lg) → rI4 (db (5 - lg)) 24 ≤ c) ∧ (1 ≤ dk lg → rI4 (db lg) 24 ≤ c + 1)) ∧ (∀ m, (m = 0 ∨ m = 1) → ∀ k, 0 ≤ k → k < dk m → srl (db m) (128 * k) ≤ s) ∧ (NSb cf σ dk db s ∧ KSr σ db s) ∧ ((orL σ 0).Perm (nlL (AM db L)) ∧ 0 ≤ gI σ 218 0 ∧ gI σ 218 0 ≤ 8) ∧ ((0 ≤ gI σ 211 0 ∧ gI σ 211 0 ≤ 4) ∧ ∀ k, 0 ≤ k → k < gI σ 211 0 → (4 + cf.2.2 ≤ gA σ 210 0 k ∧ gA σ 210 0 k < cf.1 - 6) ∧ gA σ 323 0 (gA σ 210 0 k) ≠ 0 ∧ (gA σ 210 0 k = gI σ 451 0 ∨ ¬ hld σ 0 (gA σ 210 0 k))) ∧ gI σ 390 0 + nfr σ (krt σ 0) ≤ 320 ∧ ∀ k, 4 + cf.2.2 ≤ k → k < cf.1 - 6 → gA σ 325 0 k ≠ 0 → gA σ 323 0 k = 2 → k = gI σ 451 4
theorem ONv.bcn {tv : Nat → Int} {cf : Cf} {σ : St} {dk : Int → Int} {db : Int → Int → Int} {L : List (Int × Int × Int × Int × Int × Int)} {c lg s : Int} (h : ONv tv cf σ dk db L c lg s) (hf : flu σ 0) : BCn tv cf σ dk db L c c lg s := by
  obtain ⟨h1, h2, h3, h4, h5, h6, h7, h8⟩ := h
  exact ⟨h1, h2, h3, h4, hf, h5, ⟨⟨h6.1.1, Int.le_trans h6.1.2 (by decide)⟩, h6.2⟩, h7, h8⟩
/-- buds in memory and on the flash -/
def BDl (σ : St) (bl : List (Int × Int × Int × List (List Int))) : Prop := 0 ≤ gI σ 211 0 ∧ cat1 (gA σ 210 0) (gI σ 211 0).toNat = bl.map (fun b => b.1)
theorem BDl.at {σ : St} {bl : List (Int × Int × Int × List (List Int))} (h : BDl σ bl) {b : Int × Int × Int × List (List Int)} (hb : b ∈ bl) : ∃ k, (0 ≤ k ∧ k < gI σ 211 0) ∧ gA σ 210 0 k = b.1 := by
  have m : b.1 ∈ bl.map (fun b => b.1) := List.mem_map.mpr ⟨b, hb, rfl⟩
  rw [← h.2] at m
  obtain ⟨i, i1, i2⟩ := cat_mem m
  have h0 := h.1
  exact ⟨i, by omega, (List.mem_singleton.mp i2).symm⟩
theorem FS.x {tv : Nat → Int} {cf : Cf} {dk : Int → Int} {db : Int → Int → Int} {σc : St} {l : Nat} {z c lg lr sM nx tn tp : Int} {bl : List (Int × Int × Int × List (List Int))} {s' X X' : Int} {S' : List (Int × Int × Int × (Int → Int)) × Int} (h : FS tv cf dk db σc l z c lg lr sM nx tn tp bl s' S' X) (hX : X ≤ X') : FS tv cf dk db σc l z c lg lr sM nx tn tp bl s' S' X' := by
  obtain ⟨f1, f2, f3, f4, ⟨f5, f5', f5''⟩, f6, f7, f8⟩ := h
  exact ⟨f1, f2, f3, f4, ⟨f5, by omega, by omega⟩, fun k k0 k1 => Int.le_trans (f6 k k0 k1) hX, fun y hy => Int.le_trans (f7 y hy) hX, Int.le_trans f8.1 hX, f8.2.le hX⟩
theorem FX.lr {tv : Nat → Int} {cf : Cf} {dk : Int → Int} {db : Int → Int → Int} {σc : St} {l : Nat} {z c lg lr sM nx tn tp : Int} {bl : List (Int × Int × Int × List (List Int))} {s' X V jn : Int} {S' : List (Int × Int × Int × (Int → Int)) × Int} (h : FX tv cf dk db σc l z c lg lr sM nx tn tp bl s' S' X V jn) : lr ≤ X ∧ s' ≤ X := by
  have a := h.2.1.2.2.2.2.2.1 0 (by omega) (by have := h.1.2.2.2.2.1.1; omega)
  rw [Int.mul_zero, h.1.2.2.2.2.1.2.2.2.1] at a
  exact ⟨a, h.2.1.2.2.2.2.1.2.1⟩
/-- a commit begins: the flash still tells what it told -/
theorem BGo.fx {tv : Nat → Int} {cf : Cf} {σ τ : St} {dk dk' : Int → Int} {db db' : Int → Int → Int} {L : List (Int × Int × Int × Int × Int × Int)} {σc : St} {l : Nat} {z c lg lr sM nx tn tp : Int} {bl : List (Int × Int × Int × List (List Int))} {s s' V jn : Int} {S' : List (Int × Int × Int × (Int → Int)) × Int} (hc : CfOK cf) (h : SA tv cf σ dk db L) (hT : SA tv cf τ dk' db' L) (hO : ONv tv cf σ dk db L c lg s) (hf : flu σ 0) (hX : FX tv cf dk db σc l z c lg lr sM nx tn tp bl s' S' s V jn) {W : List (Int × (List (Int × Int × Int × (Int → Int)) × Int))} {Y sJ : Int} (hJ : JI tv σ dk db bl s' S' W Y sJ) (hb : BDl σ bl) (hB : BGo cf σ τ dk dk' db db' lg) (hN : NBd tv τ dk' db' (5 - lg) s) (hl : lgP tv dk' db' (5 - lg) (s + 1) (c + 1) (AM db' L)) : FX tv cf dk' db' σc l z c lg lr sM nx tn tp bl s' S' (gI τ 202 0) (s + 1) (gI τ 451 0) := by
  have hR : 0 ≤ cf.2.2 ∧ cf.2.2 ≤ 4 := hc.2.2
  have hBl : 24 ≤ cf.1 ∧ cf.1 ≤ 64 := hc.1
  obtain ⟨g1, ⟨g2, g3⟩, -, -, -, -, g4⟩ := hB
  have lrX := hX.lr
  obtain ⟨-, -, j3⟩ := hJ.flu h hf hR.1
  obtain ⟨x1, x2, x3⟩ := hX
  have hlg : lg = 2 ∨ lg = 3 := x1.1.1
  have sr : s + 1 ≤ gI τ 202 0 := by
    rcases hN.2 with q | q
    · have := q.2.2.1; omega
    · have := q.2.2.2.1; omega
  have n2 : gI σ 451 2 = -1 ∨ 4 + cf.2.2 ≤ gI σ 451 2 := by
    rcases h.1.1.all.1 2 (Or.inr (Or.inl rfl)) with q | q
    · exact Or.inl q
    · exact Or.inr q.1.1
  have dg : DG cf (5 - lg) dk db dk' db' := fun n n0 n1 ne => by
    obtain ⟨a1, a2, a3, a4⟩ := g1 n n0 n1 ne
    exact ⟨a2, fun p p0 p1 => a4 p (by have := h.lme (m := n) n0; omega), fun _ w => a1 (by omega)⟩
  have b2 : ∀ b, b ∈ bl → b.1 ≠ gI σ 451 2 ∧ 4 + cf.2.2 ≤ b.1 ∧ b.1 < cf.1 - 6 := fun b hb' => by
    obtain ⟨k, k1, k2⟩ := hb.at hb'
    obtain ⟨y1, y2, y3⟩ := hO.2.2.2.2.2.1.2 k k1.1 k1.2
    rw [k2] at y1 y3
    refine ⟨fun e => ?_, y1⟩
    rcases y3 with z | z
    · have := h.1.1.all.2 0 2 (Or.inl rfl) (Or.inr (Or.inl rfl)) (by omega) (by omega)
      omega
    · exact z ⟨2, Or.inr (Or.inl rfl), e.symm⟩
  have wn : gI τ 451 0 = gI σ 451 0 := g4.i _ _ (fun q => by unfold mBh mBg mWr mMl mBw mMv mRow mB2 mIx at q; omega)
  have wp : gI τ 452 0 = gI σ 452 0 := g4.i _ _ (fun q => by unfold mBh mBg mWr mMl mBw mMv mRow mB2 mIx at q; omega)
  refine ⟨x1.dg hc (Or.inr rfl) dg, (x2.dg (Or.inr rfl) hc x1 dg (fun b hb' => Or.inl ?_)).x (by omega), Or.inr ⟨⟨hl.2.1, hl.2.2.1, hl.2.2.2.1, hl.2.2.2.2.1, ?_⟩, by omega, by omega, sr⟩⟩
  · obtain ⟨y1, y2, y3⟩ := b2 b hb'
    unfold lmF
    rw [(g1 b.1 (by omega) y3 (by omega)).1 y1]
  · rcases hN.2 with q | ⟨q1, q2, q3, q4, q5, q6⟩
    · exact Or.inl q.2.1
    · refine Or.inr ⟨q2, gI τ 452 0, s + 2, q3, by omega, ?_⟩
      have rn := hT.rn (w := 0) (Or.inl rfl) q1
      have fl' : gI τ 452 0 % 128 = 0 := by rw [wp]; exact hf (by rw [← wn]; exact q1)
      have lm : lmF dk' (gI τ 451 0) = gI τ 452 0 := by unfold lmF; omega
      have us := (h.2.2.2.1 0 (Or.inl rfl) (by rw [← wn]; exact q1)).1
      have rn' := h.rn (w := 0) (Or.inl rfl) (by rw [← wn]; exact q1)
      have ns := (hO.2.2.2.1.1 _ rn'.1.1 rn'.1.2 (by omega)).1
      rw [eE_at h.1.1 (Or.inl rfl) rfl (by rw [← wn]; exact q1), ← wp] at ns
      obtain ⟨t, ht⟩ := ((hT.2.2.1 _ rn.1.1 rn.1.2).2.2.2.2.2.2 (by have := (hT.2.2.2.1 0 (Or.inl rfl) q1).1; omega)).1 ⟨0, Or.inl rfl, rfl⟩
      rw [eE_at hT.1.1 (Or.inl rfl) rfl q1] at ht
      refine ⟨rn.1, by omega, lm.symm, ⟨t, ht⟩, ?_⟩
      obtain ⟨bl0, a, t', e⟩ := j3 (by rw [← wn]; exact q1)
      have := (x2.2.2.2.1 (gI σ 451 0, a, gI σ 452 0, t') (by rw [e]; exact List.mem_append_right _ (List.mem_singleton.mpr rfl))).2
      rw [wn]; exact this
/-- the log of the commit that goes on, in memory -/
def NBp (tv : Nat → Int) (σ : St) (dk : Int → Int) (db : Int → Int → Int) (lg lr s : Int) : Prop := gI σ 209 0 = dk lg ∧ ((gI σ 451 0 = -1 ∧ dk lg = 1 ∧ gI σ 211 0 = 0) ∨ (gI σ 451 0 ≠ -1 ∧ dk lg = 2 ∧ (∃ sb, shP tv (db lg) 128 8 sb (gI σ 451 0) (gI σ 452 0) ∧ lr < sb ∧ sb ≤ s) ∧ gI σ 211 0 = 1 ∧ gA σ 210 0 0 = gI σ 451 0))
def blN (σ : St) : List (Int × Int × Int × List (List Int)) := if gI σ 451 0 = -1 then [] else [(gI σ 451 0, gI σ 452 0, gI σ 452 0, [])]
/-- a commit has ended: the flash tells it -/
theorem CFo.fx {tv : Nat → Int} {cf : Cf} {σ τ : St} {dk dk' : Int → Int} {db db' : Int → Int → Int} {L : List (Int × Int × Int × Int × Int × Int)} {c lg lr s n V jn : Int} (hc : CfOK cf) (h : SA tv cf σ dk db L) (hT : SA tv cf τ dk' db' L) (hF : CFo tv cf σ τ dk dk' db db' L c lg lr s n) (hN : NBp tv σ dk db lg lr s) (hlr : 0 ≤ lr ∧ lr ≤ s) (hES : ES db' L (gI τ 202 0)) : ∃ (l : Nat) (z : Int), FX tv cf dk' db' τ l z c lg lr (gI τ 202 0) (gI σ 203 0) (gI τ 214 0) (gI τ 215 0) (blN τ) lr (AM db' L, gI σ 203 0) (gI τ 202 0) V jn ∧ NBp tv τ dk' db' lg lr (gI τ 202 0) ∧ krt τ 0 = kl τ l z ∧ gI τ 387 0 = z ∧ ls τ l z = L := by
  have hR : 0 ≤ cf.2.2 ∧ cf.2.2 ≤ 4 := hc.2.2
  have hBl : 24 ≤ cf.1 ∧ cf.1 ≤ 64 := hc.1
  obtain ⟨⟨l, z, f1, f2, f3, f4⟩, ⟨f5, f6, f7⟩, ⟨⟨f8, f8'⟩, f9, f10, f11, f12, f13⟩, -, ⟨f14, f15⟩, f16, f17, f18, f19⟩ := hF
  have hlg : lg = 2 ∨ lg = 3 := f4.1.1
  have wn : ∀ g, (g = 451 ∨ g = 452) → gI τ g 0 = gI σ g 0 := fun g hg => f18.i _ _ (fun q => by unfold mCf mCm mEc mTb mWt mMd mRow mRm mWc mSf mWr mMl mBw mMv at q; omega)
  have ws : ∀ g, (g = 209 ∨ g = 211) → gI τ g 0 = gI σ g 0 := fun g hg => f18.i _ _ (fun q => by unfold mCf mCm mEc mTb mWt mMd mRow mRm mWc mSf mWr mMl mBw mMv at q; omega)
  have bd : gA τ 210 0 = gA σ 210 0 := f18.a _ _ (fun q => by unfold mCf mCm mEc mTb mWt mMd mRow mRm mWc mSf mWr mMl mBw mMv at q; omega)
  have dl : dk' lg = dk lg := f14 lg (by omega) (by omega) (by omega)
  have bl : ∀ p, p < lmF dk lg → db' lg p = db lg p := fun p p1 => (f16 lg (by omega) (by omega) (by omega) (fun w => absurd w (by omega))).2.2 p (by rw [h.nhl (by omega) (by omega)]; exact p1)
  have nb : NBp tv τ dk' db' lg lr (gI τ 202 0) := by
    unfold NBp
    rw [ws _ (Or.inl rfl), ws _ (Or.inr rfl), wn _ (Or.inl rfl), wn _ (Or.inr rfl), bd, dl]
    refine ⟨hN.1, ?_⟩
    rcases hN.2 with q | ⟨q1, q2, ⟨sb, q3, q4, q5⟩, q6⟩
    · exact Or.inl q
    · exact Or.inr ⟨q1, q2, ⟨sb, q3.sh (fun k k0 k1 => (bl _ (by unfold lmF; omega)).symm), q4, by omega⟩, q6⟩
  refine ⟨l, z, ⟨f4, ?_, Or.inl (Or.inl (by omega))⟩, nb, f1, f2, f3⟩
  have lr0 : srl (db' lg) 0 = lr := f4.2.2.2.2.1.2.2.2.1
  have ksr : ∀ y, y ∈ kl τ l z → srl (db' (gI τ 585 y)) (gI τ 586 y) ≤ gI τ 202 0 := fun y hy => by
    rw [← f1] at hy
    exact f6 y hy (f13 y hy)
  rcases nb.2 with ⟨q1, q2, q3⟩ | ⟨q1, q2, ⟨sb, q3, q4, q5⟩, q6, q7⟩
  · have e : blN τ = [] := by unfold blN; rw [if_pos q1]
    rw [e]
    refine ⟨by rw [q2]; rfl, ⟨rfl, by rw [f3]⟩, List.nodup_nil, fun b hb => absurd hb List.not_mem_nil, ⟨hlr.1, by omega, Int.le_refl _⟩, fun k k0 k1 => ?_, ksr, f7, by rw [f3]; exact hES⟩
    have : k = 0 := by omega
    rw [this, Int.mul_zero, lr0]; omega
  · have e : blN τ = [(gI τ 451 0, gI τ 452 0, gI τ 452 0, [])] := by unfold blN; rw [if_neg q1]
    rw [e]
    have rn := hT.rn (w := 0) (Or.inl rfl) q1
    have fl := f17 0 (Or.inl rfl) q1
    have lm : lmF dk' (gI τ 451 0) = gI τ 452 0 := by unfold lmF; omega
    have hw := hT.2.2.2.1 0 (Or.inl rfl) q1
    rw [if_neg (by omega)] at hw
    have nm := hT.2.2.1 _ rn.1.1 rn.1.2
    obtain ⟨t, ht⟩ := (nm.2.2.2.2.2.2 (by omega)).1 ⟨0, Or.inl rfl, rfl⟩
    rw [eE_at hT.1.1 (Or.inl rfl) rfl q1] at ht
    have p8 := hT.p8 (w := 0) (Or.inl rfl) q1
    obtain ⟨u1, u2, u3, u4, u5⟩ := q3
    refine ⟨by rw [q2]; rfl, ⟨⟨by rw [Int.mul_one]; exact u1, by rw [Int.mul_one]; exact u2, by rw [Int.mul_one, u3]; exact q4, by rw [Int.mul_one]; exact u4, by rw [Int.mul_one]; exact u5⟩, rn.1, ⟨rn.2.1.1, p8, ⟨t, ht⟩⟩, by omega, lr, _, [], ⟨rfl, rfl, rfl⟩, Or.inl (Or.inl (by omega)), rfl, by rw [f3]⟩, List.nodup_cons.mpr ⟨List.not_mem_nil, List.nodup_nil⟩, fun b hb => ?_, ⟨hlr.1, by omega, Int.le_refl _⟩, fun k k0 k1 => ?_, ksr, f7, by rw [f3]; exact hES⟩
    · rw [List.mem_singleton.mp hb]
      have os : oS τ 0 (gI τ 451 0) = 0 := by unfold oS; rw [f12]; rfl
      have lv := nm.2.2.1
      have le := nm.2.2.2.1
      rw [eE_at hT.1.1 (Or.inl rfl) rfl q1] at le
      have n0 := nm.2.2.2.2.2.1 hw.2
      have tb0 : tbS τ (gI τ 451 0) = 0 := by unfold tbS; rw [if_neg n0.2.2]
      refine ⟨?_, fun y => ?_⟩
      · show tvl cf τ l z _ (gI τ 451 0) ≤ gI τ 452 0
        unfold tvl
        rw [if_neg n0.2.2, f3, ← f1]
        omega
      · rcases y with y | ⟨x, x1, x2⟩
        · exact n0.2.2 y
        · rw [← f1] at x1
          have := (hT.2.2.2.2.1 x x1 (f13 x x1)).2
          rw [x2] at this
          exact this hw.2
    · have : k = 0 ∨ k = 1 := by omega
      rcases this with e | e
      · rw [e, Int.mul_zero, lr0]; omega
      · rw [e, Int.mul_one, u3]; omega
