/-! the store: outside of a commit (P0) and in one (P1) -/
/-- the victim of the collector -/
def VCl (tv : Nat → Int) (cf : Cf) (σ : St) (dk : Int → Int) (db : Int → Int → Int) (L : List (Int × Int × Int × Int × Int × Int)) : Prop := gI σ 223 0 = -1 ∨ (gI σ 225 0 = 0 ∧ VC tv cf σ dk db L (gI σ 223 0) (gI σ 224 0)) ∨ (gI σ 225 0 ≠ 0 ∧ ((4 + cf.2.2 ≤ gI σ 223 0 ∧ gI σ 223 0 < cf.1 - 6) ∧ gA σ 323 0 (gI σ 223 0) = 1) ∧ ∀ e, e ∈ L → e.2.2.1 ≠ gI σ 223 0)
/-- what items take of the capacity -/
def cpM (M : List (Int × Int × Int × (Int → Int))) : Int := (M.map (fun a => a.2.2.1 + 192)).sum
def capa (cf : Cf) : Int := (cf.1 - 10 - cf.2.2 - 8) * ((cf.2.1 - 2) * 128 - 256)
theorem cpM_r {db : Int → Int → Int} : ∀ {L : List (Int × Int × Int × Int × Int × Int)}, (∀ e, e ∈ L → 40 ≤ e.2.2.2.2.1 ∧ e.2.2.2.2.1 ≤ 96) → 232 * (L.length : Int) ≤ cpM (AM db L) ∧ 3 * (L.map (fun e => e.2.2.2.2.1)).sum ≤ cpM (AM db L)
  | [], _ => ⟨Int.le_refl _, Int.le_refl _⟩
  | e :: L, h => by
    have a := cpM_r (db := db) (fun x hx => h x (List.mem_cons_of_mem _ hx))
    have b := h e List.mem_cons_self
    have c : cpM (AM db (e :: L)) = (e.2.2.2.2.1 + 192) + cpM (AM db L) := by
      show ((AM db (e :: L)).map (fun a => a.2.2.1 + 192)).sum = _
      unfold AM
      rw [List.map_cons, List.map_cons, List.sum_cons]
      rfl
    rw [c, List.length_cons, List.map_cons, List.sum_cons]
    omega
theorem SA.cap {tv : Nat → Int} {cf : Cf} {σ : St} {dk : Int → Int} {db : Int → Int → Int} {L : List (Int × Int × Int × Int × Int × Int)} (h : SA tv cf σ dk db L) (hc : cpM (AM db L) ≤ capa cf) : (L.length : Int) ≤ kmx cf ∧ 3 * (L.map (fun e => e.2.2.2.2.1)).sum ≤ capa cf := by
  have q := cpM_r (db := db) (L := L) (fun e he => (h.2.1.2.2 e he).2.1.n)
  refine ⟨?_, by omega⟩
  have := (Int.le_ediv_iff_mul_le (a := (L.length : Int)) (b := capa cf) (c := 232) (by omega)).mpr (by omega)
  unfold kmx
  unfold capa at this
  omega
/-- in both: memory, counters -/
def SIc (tv : Nat → Int) (cf : Cf) (σ : St) (dk : Int → Int) (db : Int → Int → Int) (L : List (Int × Int × Int × Int × Int × Int)) (s B : Int) : Prop := SA tv cf σ dk db L ∧ (L.length ≤ 880 ∧ cpM (AM db L) ≤ capa cf) ∧ (0 ≤ gI σ 203 0 ∧ gI σ 203 0 < 1073741824) ∧ (gI σ 202 0 = s ∧ 0 ≤ s) ∧ ((orL σ 0).Perm (nlL (AM db L)) ∧ 0 ≤ gI σ 218 0 ∧ gI σ 218 0 ≤ 8) ∧ 0 ≤ B ∧ ES db L s
/-- numbers that are held have a head, or are buds -/
def HDv (cf : Cf) (σ : St) : Prop := ∀ m, 4 + cf.2.2 ≤ m → m < cf.1 - 6 → gA σ 323 0 m = 2 → hld σ 0 m ∨ ∃ k, (0 ≤ k ∧ k < gI σ 211 0) ∧ gA σ 210 0 k = m
def HD1 (cf : Cf) (σ : St) : Prop := ∀ m, 4 + cf.2.2 ≤ m → m < cf.1 - 6 → gA σ 323 0 m = 2 → hld σ 0 m
/-- the last serial number of the log, or of the masters -/
def lgY (dk : Int → Int) (db : Int → Int → Int) (lg sM : Int) : Int := max sM (srl (db lg) (128 * (dk lg - 1)))
/-- numbers of the latest commit's keys, and buds, are not of the index -/
def XO (σ σc : St) (l : Nat) (z : Int) (bl : List (Int × Int × Int × List (List Int))) : Prop := (∀ e, e ∈ ls σc l z → gA σ 325 0 e.2.2.1 = 0) ∧ ∀ b, b ∈ bl → gA σ 325 0 b.1 = 0
/-- outside of a commit (S': what is safe; W: what waits) -/
def PG (tv : Nat → Int) (cf : Cf) (σ : St) (dk : Int → Int) (db : Int → Int → Int) (L : List (Int × Int × Int × Int × Int × Int)) (S' : List (Int × Int × Int × (Int → Int)) × Int) (W : List (Int × (List (Int × Int × Int × (Int → Int)) × Int))) (r : RT) (B : Int) : Prop :=
  ∃ (σc : St) (l : Nat) (z c lg lr sM nx tn tp : Int) (bl : List (Int × Int × Int × List (List Int))) (s s' b0 V jn sJ : Int), SIc tv cf σ dk db L s B ∧ (DJ tv cf σ 0 dk db (SpC cf c b0 r) B ∧ b0 ≤ lr) ∧ ONv tv cf σ dk db L c lg s ∧ FX tv cf dk db σc l z c lg lr sM nx tn tp bl s' S' s V jn ∧ JI tv σ dk db bl s' S' W (lgY dk db lg sM) sJ ∧ BDl σ bl ∧ (gI σ 209 0 = dk lg ∧ gI σ 213 0 = 0) ∧ (c ≤ B ∧ s ≤ 1000000 * B ∧ sJ ≤ s ∧ s ≤ max (lgY dk db lg sM) sJ) ∧ VCl tv cf σ dk db L ∧ HDv cf σ ∧ XO σ σc l z bl
def PR (tv : Nat → Int) (cf : Cf) (σ : St) (dk : Int → Int) (db : Int → Int → Int) (L : List (Int × Int × Int × Int × Int × Int)) (S' : List (Int × Int × Int × (Int → Int)) × Int) (W : List (Int × (List (Int × Int × Int × (Int → Int)) × Int))) (r : RT) (B : Int) : Prop := PG tv cf σ dk db L S' W r B ∧ laS S' W = (AM db L, gI σ 203 0)
/-- numbers that are empty when the latest commit is found -/
def EXn (cf : Cf) (σ σc : St) (l : Nat) (z tn : Int) : Prop := whl cf ≤ ((@cnt (fun m => 4 + cf.2.2 ≤ m ∧ (gA σ 323 0 m = 0 ∨ (gA σ 325 0 m ≠ 0 ∧ ¬ isx σc l z tn m))) (fun _ => Classical.propDecidable _) (cf.1 - 6).toNat : Nat) : Int)
/-- numbers that are empty, and with those of the index -/
def rom (cf : Cf) (σ : St) (e q : Int) : Prop := e ≤ emp cf (gA σ 323 0) ∧ q ≤ rmy cf (gA σ 323 0) (gA σ 325 0)
def P1 (tv : Nat → Int) (cf : Cf) (σ : St) (dk : Int → Int) (db : Int → Int → Int) (L : List (Int × Int × Int × Int × Int × Int)) (r : RT) (B : Int) (R Old : List Int) : Prop :=
  ∃ (σc : St) (l : Nat) (z c lg lr sM nx tn tp : Int) (bl : List (Int × Int × Int × List (List Int))) (s s' b0 lr2 f W G : Int) (NW : List Int), SIc tv cf σ dk db L s B ∧ (DJ tv cf σ 0 dk db (SpC cf c b0 r) B ∧ b0 ≤ lr) ∧ CI tv cf σ dk db L (c + 1) (5 - lg) lr2 s f W G R NW Old ∧ (0 ≤ G ∧ (G = whl cf + 1 ∨ Old = []) ∧ cst cf (W + fS σ R) ≤ whl cf) ∧ NBp tv σ dk db (5 - lg) lr2 s ∧ (0 ≤ lr ∧ lr ≤ lr2 ∧ lr2 ≤ s) ∧ FX tv cf dk db σc l z c lg lr sM nx tn tp bl s' (AM db L, gI σ 203 0) s lr2 (gI σ 451 0) ∧ F2c tv cf dk db σc l z tn c lg lr2 s (gI σ 451 0) ∧ (∀ b, b ∈ bl → gA σ 323 0 b.1 ≠ 0 ∧ b.1 ≠ gI σ 451 4 ∧ b.1 ≠ gI σ 451 2) ∧ (gI σ 205 0 = 0 ∧ gI σ 213 0 = 1) ∧ (c ≤ B ∧ s + R.length ≤ lr2 + 330 ∧ lr2 ≤ 1000000 * B + 1) ∧ HD1 cf σ ∧ XO σ σc l z bl ∧ EXn cf σ σc l z tn
theorem ES.lg {tv : Nat → Int} {cf : Cf} {σ τ : St} {dk dk' : Int → Int} {db db' : Int → Int → Int} {L : List (Int × Int × Int × Int × Int × Int)} {s s' : Int} (h : ES db L s) (hS : SA tv cf σ dk db L) (hg : LGo cf σ τ dk dk' db db') (hs : s ≤ s') (h0 : 0 ≤ cf.2.2) : ES db' L s' := (h.g (fun e he p p0 p1 => by
  have q := hS.2.1.2.2 e he
  have nn := q.2.1.n
  exact (hg.1 _ (by omega) q.1.2).2.2 p (by have := q.2.2.2.2.2.2; omega))).le hs
theorem SA.used {tv : Nat → Int} {cf : Cf} {σ : St} {dk : Int → Int} {db : Int → Int → Int} {L : List (Int × Int × Int × Int × Int × Int)} (hc : CfOK cf) (h : SA tv cf σ dk db L) {e : Int × Int × Int × Int × Int × Int} (he : e ∈ L) : gA σ 323 0 e.2.2.1 ≠ 0 ∧ gA σ 325 0 e.2.2.1 = 0 := by
  have hR : 0 ≤ cf.2.2 ∧ cf.2.2 ≤ 4 := hc.2.2
  have q := h.2.1.2.2 e he
  have p := lS_pos h.2.1.1.2.1 he (by have := q.2.1.n; omega)
  have nm := h.2.2.1 e.2.2.1 q.1.1 q.1.2
  have w := h.nn hc (m := e.2.2.1) (by omega)
  refine ⟨fun z => ?_, ?_⟩
  · have := (nm.2.1 z).2.1
    have := nm.2.2.1
    omega
  · apply Classical.byContradiction
    intro z
    have := nm.2.2.2.2.1 z
    omega
theorem LGo.dg {tv : Nat → Int} {cf : Cf} {σ τ : St} {dk dk' : Int → Int} {db db' : Int → Int → Int} {L : List (Int × Int × Int × Int × Int × Int)} (h : LGo cf σ τ dk dk' db db') (hS : SA tv cf σ dk db L) : DG cf (-1) dk db dk' db' := fun n n0 n1 _ => by
  obtain ⟨a, b, c⟩ := h.1 n n0 n1
  exact ⟨b, fun p p0 p1 => c p (by have := hS.lme (m := n) n0; omega), fun _ w => h.2 n n0 w⟩
theorem F2c.x {tv : Nat → Int} {cf : Cf} {dk : Int → Int} {db : Int → Int → Int} {σc : St} {l : Nat} {z tn c lg lr2 X X' n : Int} (h : F2c tv cf dk db σc l z tn c lg lr2 X n) (hX : X ≤ X') : F2c tv cf dk db σc l z tn c lg lr2 X' n := by
  obtain ⟨h1, h2, h3, h4, h5⟩ := h
  refine ⟨h1, h2, h3, h4, ?_⟩
  rcases h5 with q | ⟨q, a, sb, w1, w2, w3⟩
  · exact Or.inl q
  · exact Or.inr ⟨q, a, sb, w1, ⟨w2.1, by omega⟩, w3⟩
theorem FX.x {tv : Nat → Int} {cf : Cf} {dk : Int → Int} {db : Int → Int → Int} {σc : St} {l : Nat} {z c lg lr sM nx tn tp : Int} {bl : List (Int × Int × Int × List (List Int))} {s' X X' V jn : Int} {S' : List (Int × Int × Int × (Int → Int)) × Int} (h : FX tv cf dk db σc l z c lg lr sM nx tn tp bl s' S' X V jn) (hX : X ≤ X') : FX tv cf dk db σc l z c lg lr sM nx tn tp bl s' S' X' V jn := by
  obtain ⟨h1, h2, h3⟩ := h
  refine ⟨h1, h2.x hX, ?_⟩
  rcases h3 with q | ⟨q1, q2, q3, q4⟩
  · exact Or.inl q
  · exact Or.inr ⟨q1.x hX, q2, q3, by omega⟩
/-- a commit has ended -/
theorem P1.fin {tv : Nat → Int} {cf : Cf} {σ τ : St} {dk dk' : Int → Int} {db db' : Int → Int → Int} {L : List (Int × Int × Int × Int × Int × Int)} {r : RT} {B s c lg lr2 n G F : Int} {Old : List Int} (hc : CfOK cf) (hI : SIc tv cf σ dk db L s B) (hT : SA tv cf τ dk' db' L) (hD : DJ tv cf τ 0 dk' db' (SpC cf (c + 1) lr2 r) (B + 402)) (hF : CFo tv cf σ τ dk dk' db db' L (c + 1) lg lr2 s n) (hR : CRo cf σ τ G F Old) (hcl : gI σ 208 0 = lg ∧ gI σ 212 0 = c + 1) (hN : NBp tv σ dk db lg lr2 s) (hlr : 0 ≤ lr2 ∧ lr2 ≤ s) (hw : gI σ 205 0 = 0) (hcB : 0 ≤ c ∧ c ≤ B ∧ B + 402 < 1073741000) (hs : s + n ≤ lr2 + 330 ∧ lr2 ≤ 1000000 * B + 1) (hH : HD1 cf τ) : PR tv cf τ dk' db' L (AM db' L, gI τ 203 0) [] r (B + 402) := by
  have hRr : 0 ≤ cf.2.2 ∧ cf.2.2 ≤ 4 := hc.2.2
  have hBl : 24 ≤ cf.1 ∧ cf.1 ≤ 64 := hc.1
  obtain ⟨hS, ⟨hL, hkm⟩, hnx, ⟨hs1, hs2⟩, ⟨ho1, ho2⟩, hB0⟩ := hI
  have hcl' : lg = 2 ∨ lg = 3 := by
    obtain ⟨⟨l, z, -, -, -, fc⟩, -⟩ := hF
    exact fc.1.1
  have es' : ES db' L (gI τ 202 0) := (hB0.2.g (fun e he p p0 p1 => by
    have q := hS.2.1.2.2 e he
    have nn := q.2.1.n
    exact (hF.2.2.2.2.2.1 _ (by omega) q.1.2 (by have := hcl'; omega) (fun _ => (hT.used hc he).1)).2.2 p (by have := q.2.2.2.2.2.2; omega))).le (by have := hF.2.2.1.1; omega)
  obtain ⟨l, z, x1, x2, x3, x4, x5⟩ := hF.fx (V := 0) (jn := 0) hc hS hT hN hlr es'
  obtain ⟨r1, r2, r3, r4, r5⟩ := hR
  obtain ⟨-, ⟨f5, f6, f7⟩, ⟨⟨f8, f8'⟩, f9, f10, f11, f12, f13⟩, ⟨f14, f14'⟩, ⟨f15, f15'⟩, f16, f17, f18, f19⟩ := hF
  have fi : ∀ g, (g = 208 ∨ g = 212 ∨ g = 203 ∨ g = 218 ∨ g = 205) → gI τ g 0 = gI σ g 0 := fun g hg => f18.i _ _ (fun q => by unfold mCf mCm mEc mTb mWt mMd mRow mRm mWc mSf mWr mMl mBw mMv at q; omega)
  have oa : gA τ 217 0 = gA σ 217 0 := f18.a _ _ (fun q => by unfold mCf mCm mEc mTb mWt mMd mRow mRm mWc mSf mWr mMl mBw mMv at q; omega)
  have orc : (orL τ 0).Perm (nlL (AM db' L)) ∧ 0 ≤ gI τ 218 0 ∧ gI τ 218 0 ≤ 8 := by
    unfold orL
    rw [oa, fi _ (by omega), f19]
    exact ⟨ho1, ho2⟩
  have nxe := fi 203 (by omega)
  have hlg : lg = 2 ∨ lg = 3 := x1.1.1.1
  rw [← nxe] at x1
  refine ⟨⟨τ, l, z, c + 1, lg, lr2, gI τ 202 0, gI τ 203 0, gI τ 214 0, gI τ 215 0, blN τ, gI τ 202 0, lr2, lr2, 0, 0, lr2, ⟨hT, ⟨hL, by rw [f19]; exact hkm⟩, by rw [nxe]; exact hnx, ⟨rfl, by omega⟩, orc, by omega, es'⟩, ⟨hD, Int.le_refl _⟩, ⟨⟨?_, hlg, ?_, by omega, by omega⟩, ⟨fun q => by omega, fun q => ?_⟩, fun m hm k k0 k1 => ?_, ⟨f5, f6⟩, orc, ⟨?_, fun k k0 k1 => ?_⟩, ?_, r4⟩, x1, ?_, ?_, ⟨x2.1, f9⟩, ⟨by omega, by omega, by omega, by unfold lgY; omega⟩, Or.inl f10, fun m m0 m1 hm => Or.inl (hH m m0 m1 hm), fun e he => (hT.used hc (by rw [← x5]; exact he)).2, fun b hb => ?_⟩, rfl⟩
  · rw [fi _ (by omega)]; exact hcl.1
  · rw [fi _ (by omega)]; exact hcl.2
  · have := x1.1.2.2.2.2.1.2.2.2.2.1
    omega
  · have ms := x1.1.2.1.2 m hm
    by_cases e : k = dk' m - 1
    · rw [e, ms.2.1.1.2.2.1]; exact Int.le_refl _
    · have := ms.2.2 k k0 (by omega)
      omega
  · rcases x2.2 with q | q
    · have := q.2.2; omega
    · have := q.2.2.2.1; omega
  · rcases x2.2 with q | ⟨q1, q2, q3, q4, q5⟩
    · have := q.2.2; omega
    · have k00 : k = 0 := by omega
      have rn := hT.rn (w := 0) (Or.inl rfl) q1
      have us := (hT.2.2.2.1 0 (Or.inl rfl) q1).1
      rw [k00, q5]
      exact ⟨rn.1, by omega, Or.inl rfl⟩
  · have a : nfr τ (krt τ 0) ≤ (krt τ 0).length := List.length_filter_le _ _
    obtain ⟨l', z', a1, a2, a3, a4, a5⟩ := hT.2.1.1.1.krt
    have few := a2.few (by rw [a5]; omega)
    rw [a1] at a ⊢
    omega
  · by_cases q : gI τ 451 0 = -1
    · exact Or.inl ⟨q, by rw [fi _ (by omega)]; exact hw, rfl, rfl⟩
    · refine Or.inr ⟨q, [], gI τ 452 0, gI τ 452 0, [], [], ?_, ⟨rfl, rfl, rfl⟩, by rw [fi _ (by omega)]; exact hw, rfl, fun e he => absurd he List.not_mem_nil⟩
      unfold blN
      rw [if_neg q]; rfl
  · rcases x2.2 with q | ⟨q1, q2, q3, q4, q5⟩
    · refine ⟨by rw [q.2.2]; omega, ?_⟩
      rw [q.2.2]
      unfold blN
      rw [if_pos q.1]; rfl
    · refine ⟨by rw [q4]; omega, ?_⟩
      rw [q4]
      unfold blN
      rw [if_neg q1]
      show [gA τ 210 0 (0 : Nat)] = [gI τ 451 0]
      rw [← q5]; rfl
  · unfold blN at hb
    by_cases q : gI τ 451 0 = -1
    · rw [if_pos q] at hb; exact absurd hb List.not_mem_nil
    · rw [if_neg q] at hb
      rw [List.mem_singleton.mp hb]
      have := (hT.2.2.2.1 0 (Or.inl rfl) q).2
      rw [if_neg (by omega)] at this
      exact this
theorem XO.st {tv : Nat → Int} {cf : Cf} {σ τ σc : St} {l : Nat} {z c lg lr sM nx tn tp : Int} {dk : Int → Int} {db : Int → Int → Int} {L : List (Int × Int × Int × Int × Int × Int)} {bl : List (Int × Int × Int × List (List Int))} (h : XO σ σc l z bl) (hF : FC tv cf dk db σc l z c lg lr sM nx tn tp) (hS : SA tv cf σ dk db L) (hc : CfOK cf) (hb : ∀ b, b ∈ bl → 0 ≤ b.1 ∧ gA σ 323 0 b.1 ≠ 0) (hx : ∀ m, 0 ≤ m → gA σ 323 0 m ≠ 0 → gA σ 325 0 m = 0 → gA τ 325 0 m = 0) : XO τ σc l z bl := by
  have hR : 0 ≤ cf.2.2 ∧ cf.2.2 ≤ 4 := hc.2.2
  refine ⟨fun e he => ?_, fun b q => hx _ (hb b q).1 (hb b q).2 (h.2 b q)⟩
  have ev := hF.2.2.2.2.2.1 e he
  refine hx _ (by omega) (fun u => ?_) (h.1 e he)
  have d := ((hS.2.2.1 _ ev.1.1 ev.1.2).2.1 u).1
  have nn := ev.2.1.n
  have le := ev.2.2.2.2.2.2
  unfold lmF at le
  rw [d] at le
  omega
theorem XO.fr {σ τ σc : St} {l : Nat} {z : Int} {bl bl' : List (Int × Int × Int × List (List Int))} (h : XO σ σc l z bl) (hx : gA τ 325 0 = gA σ 325 0) (hm : bl'.map (fun b => b.1) = bl.map (fun b => b.1)) : XO τ σc l z bl' := by
  unfold XO
  rw [hx]
  refine ⟨h.1, fun b hb => ?_⟩
  have : b.1 ∈ bl.map (fun b => b.1) := by rw [← hm]; exact List.mem_map.mpr ⟨b, hb, rfl⟩
  obtain ⟨y, y1, y2⟩ := List.mem_map.mp this
  rw [← y2]; exact h.2 y y1
