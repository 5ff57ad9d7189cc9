/-! a step of collecting, outside of commits -/
theorem mCs_n {f : Nat} {o' : Int} (q : mCs f o') : (mBw 0 f o' ∨ mMv 0 f o' ∨ mIx 0 f o' ∨ mRd2 0 0 f o') ∨ ((f = 450 ∨ f = 451 ∨ f = 452) ∧ o' = 2) ∨ ((f = 323 ∨ f = 324 ∨ f = 325 ∨ f = 224 ∨ f = 225) ∧ o' = 0) := by
  unfold mCs mMn mRm mWc mSf mWr at q
  rcases q with q | q | q
  · exact Or.inl (Or.inr (Or.inr (Or.inr q)))
  · rcases q with q | q | q
    · rcases q with q | q | q
      · rcases q with q | q | q
        · rcases q with q | q
          · exact Or.inl (Or.inl q)
          · exact Or.inr (Or.inl ⟨by omega, q.2⟩)
        · exact Or.inr (Or.inl ⟨by omega, q.2⟩)
        · exact Or.inr (Or.inr ⟨by omega, q.2⟩)
      · rcases q with q | q
        · exact Or.inl (Or.inr (Or.inl q))
        · exact Or.inr (Or.inr ⟨by omega, q.2⟩)
      · exact Or.inr (Or.inl ⟨by omega, q.2⟩)
    · rcases q with q | q
      · exact Or.inl (Or.inl q)
      · exact Or.inr (Or.inl ⟨by omega, q.2⟩)
    · exact Or.inl (Or.inr (Or.inr (Or.inl q)))
  · exact Or.inr (Or.inr ⟨by omega, q.2⟩)
/-- what it does with the uses of numbers -/
def MUo (σ τ : St) : Prop := (gA τ 323 0 = gA σ 323 0 ∧ gA τ 325 0 = gA σ 325 0 ∧ gI τ 451 2 = gI σ 451 2) ∨ (gA σ 323 0 (gI τ 451 2) = 0 ∧ gI τ 451 2 ≠ gI σ 451 2 ∧ (∀ m, 0 ≤ m → gA τ 323 0 m = if m = gI τ 451 2 then 2 else if m = gI σ 451 2 then 1 else gA σ 323 0 m) ∧ gA τ 325 0 = upF (gA σ 325 0) (gI τ 451 2) 0)
theorem CSo.mu {cf : Cf} {σ τ : St} {v : Int} (h : CSo cf σ τ v) : MUo σ τ := by
  rcases h with ⟨⟨a, b⟩, ⟨c, d⟩, -⟩ | ⟨n, -, q | q, -⟩
  · exact Or.inl ⟨a, b, c⟩
  · exact Or.inl ⟨q.2.2.2.2.1, q.2.2.2.2.2, q.2.2.1⟩
  · exact Or.inr ⟨q.2.2.1, q.2.2.2.1, q.2.2.2.2.1, q.2.2.2.2.2⟩
theorem PR.coll {tv : Nat → Int} {cf : Cf} {σ τ : St} {dk dk' : Int → Int} {db db' : Int → Int → Int} {σc : St} {l : Nat} {z c lg lr sv nx tn tp : Int} {bl : List (Int × Int × Int × List (List Int))} {s s' b0 B V jn sJ : Int} {r : RT} {L L' : List (Int × Int × Int × Int × Int × Int)} {S' : List (Int × Int × Int × (Int → Int)) × Int} {W : List (Int × (List (Int × Int × Int × (Int → Int)) × Int))} (hc : CfOK cf) (hI : SIc tv cf σ dk db L s B) (hb0 : b0 ≤ lr) (hO : ONv tv cf σ dk db L c lg s) (hFX : FX tv cf dk db σc l z c lg lr sv nx tn tp bl s' S' s V jn) (hJ : JI tv σ dk db bl s' S' W (lgY dk db lg sv) sJ) (hBD : BDl σ bl) (hlo : gI σ 209 0 = dk lg ∧ gI σ 213 0 = 0) (hcb : c ≤ B ∧ s ≤ 1000000 * B ∧ sJ ≤ s ∧ s ≤ max (lgY dk db lg sv) sJ) (hHD : HDv cf σ) (hXO : XO σ σc l z bl) (hla : laS S' W = (AM db L, gI σ 203 0)) (S1 : SA tv cf τ dk' db' L') (D1 : DJ tv cf τ 0 dk' db' (SpC cf c b0 r) B) (am : AM db' L' = AM db L) (ck : CK σ τ 0) (lg1 : LGo cf σ τ dk dk' db db') (dke : ∀ m, m ≠ gI σ 451 2 → m ≠ gI τ 451 2 → dk' m = dk m) (mu : MUo σ τ) (sro : SRo σ τ db db' L L') (vc : VCl tv cf τ dk' db' L') (fr : Fr mCs σ τ) : PR tv cf τ dk' db' L' S' W r B := by
  have hR : 0 ≤ cf.2.2 ∧ cf.2.2 ≤ 4 := hc.2.2
  have hBl : 24 ≤ cf.1 ∧ cf.1 ≤ 64 := hc.1
  obtain ⟨hcB, hsB, hsJ, hsd⟩ := hcb
  obtain ⟨hS, ⟨hL, hkm⟩, hnx, ⟨hs1, hs2⟩, ⟨ho1, ho2⟩, hB0, hES⟩ := hI
  have hlg : lg = 2 ∨ lg = 3 := hFX.1.1.1
  have fi : ∀ g, (201 ≤ g ∧ g ≤ 228 ∧ g ≠ 201 ∧ g ≠ 224 ∧ g ≠ 225) → gI τ g 0 = gI σ g 0 := fun g hg => fr.i _ _ (fun q => by have q := mCs_n q; unfold mBw mMv mIx mRd2 mPg mRow at q; omega)
  have fa : ∀ g, (201 ≤ g ∧ g ≤ 228 ∧ g ≠ 201 ∧ g ≠ 224 ∧ g ≠ 225) → gA τ g 0 = gA σ g 0 := fun g hg => fr.a _ _ (fun q => by have q := mCs_n q; unfold mBw mMv mIx mRd2 mPg mRow at q; omega)
  have fw : ∀ g w, (w = 0 ∨ w = 4) → (g = 451 ∨ g = 452) → gI τ g w = gI σ g w := fun g w hw hg => fr.i _ _ (fun q => by have q := mCs_n q; unfold mBw mMv mIx mRd2 mPg mRow at q; omega)
  have rn2 : gI σ 451 2 = -1 ∨ (4 + cf.2.2 ≤ gI σ 451 2 ∧ gA σ 323 0 (gI σ 451 2) = 2) := by
    by_cases q : gI σ 451 2 = -1
    · exact Or.inl q
    · exact Or.inr ⟨(hS.rn (w := 2) (Or.inr (Or.inl rfl)) q).1.1, (hS.2.2.2.1 2 (Or.inr (Or.inl rfl)) q).1⟩
  have rt2 : gI τ 451 2 = -1 ∨ 4 + cf.2.2 ≤ gI τ 451 2 := by
    by_cases q : gI τ 451 2 = -1
    · exact Or.inl q
    · exact Or.inr (S1.rn (w := 2) (Or.inr (Or.inl rfl)) q).1.1
  have lo : ∀ m, 0 ≤ m → m < 4 → dk' m = dk m := fun m m0 m1 => lg1.2 m m0 (by omega)
  have lob : ∀ m, 0 ≤ m → m < 4 → ∀ p, 0 ≤ p → p < lmF dk m → db' m p = db m p := fun m m0 m1 p p0 p1 => (lg1.1 m m0 (by omega)).2.2 p (by have := hS.lme (m := m) m0; omega)
  -- numbers in use that are not the mover's stay
  have un : ∀ m, 0 ≤ m → gA σ 323 0 m ≠ 0 → m ≠ gI σ 451 2 → m ≠ gI τ 451 2 ∧ gA τ 323 0 m = gA σ 323 0 m := by
    intro m m0 hu ne
    rcases mu with ⟨q1, q2, q3⟩ | ⟨q1, q2, q3, q4⟩
    · exact ⟨by rw [q3]; exact ne, by rw [q1]⟩
    · have e : m ≠ gI τ 451 2 := fun e => by rw [← e] at q1; exact hu q1
      exact ⟨e, by rw [q3 m m0, if_neg e, if_neg ne]⟩
  have unz : ∀ m, 0 ≤ m → gA σ 323 0 m ≠ 0 → gA τ 323 0 m ≠ 0 := by
    intro m m0 hu
    rcases mu with ⟨q1, q2, q3⟩ | ⟨q1, q2, q3, q4⟩
    · rw [q1]; exact hu
    · rw [q3 m m0]
      split
      · decide
      · split
        · decide
        · exact hu
  have dkn : ∀ m, 0 ≤ m → gA σ 323 0 m ≠ 0 → m ≠ gI σ 451 2 → dk' m = dk m := fun m m0 hu ne => dke m ne (un m m0 hu ne).1
  have orc : (orL τ 0).Perm (nlL (AM db' L')) ∧ 0 ≤ gI τ 218 0 ∧ gI τ 218 0 ≤ 8 := by
    unfold orL
    rw [fa 217 (by decide), fi 218 (by decide), am]
    exact ⟨ho1, ho2⟩
  have dl := lo lg (by omega) (by omega)
  have dlb := lob lg (by omega) (by omega)
  have lg1' : 1 ≤ dk lg := hFX.1.2.2.2.2.1.1
  have ly : lgY dk' db' lg sv = lgY dk db lg sv := by
    unfold lgY
    rw [dl]
    congr 1
    exact srl_ext (n := 16) (by omega) (fun p p0 p1 => dlb p (by omega) (by unfold lmF; omega))
  have hlen : L'.length = L.length := by
    have := congrArg List.length am
    rw [AM_len, AM_len] at this
    exact this
  have bn2 : ∀ k, 0 ≤ k → k < gI σ 211 0 → gA σ 210 0 k ≠ gI σ 451 2 := by
    intro k k0 k1 e
    obtain ⟨y1, y2, y3⟩ := hO.2.2.2.2.2.1.2 k k0 k1
    rcases y3 with y | y
    · have := hS.1.1.all.2 0 2 (Or.inl rfl) (Or.inr (Or.inl rfl)) (by omega) (by omega)
      omega
    · exact y ⟨2, Or.inr (Or.inl rfl), e.symm⟩
  have hO' : ONv tv cf τ dk' db' L' c lg s := by
    obtain ⟨⟨g1, g2, g3, g4⟩, ⟨g5, g6⟩, g7, ⟨g8, g9⟩, ⟨g11, g12⟩, ⟨g13, g14⟩, g15, g16⟩ := hO
    have low4 : ∀ m, 0 ≤ m → m < 4 → 1 ≤ dk' m → 1 ≤ dk m ∧ rI4 (db' m) 24 = rI4 (db m) 24 := fun m m0 m1 q => by
      have w := lo m m0 m1
      exact ⟨by rw [← w]; exact q, rI4_ext (fun i i0 i1 => lob m m0 m1 i (by omega) (by unfold lmF; omega))⟩
    refine ⟨⟨by rw [fi _ (by decide)]; exact g1, g2, by rw [fi _ (by decide)]; exact g3, g4⟩, ⟨fun q => ?_, fun q => ?_⟩, fun m hm k k0 k1 => ?_, ⟨fun m m0 m1 hm => ?_, fun x hx hfx => ?_⟩, orc, ⟨by rw [fi _ (by decide)]; exact g13, fun k k0 k1 => ?_⟩, ?_, fun k k0 k1 a b => ?_⟩
    · have w := low4 (5 - lg) (by omega) (by omega) q
      rw [w.2]; exact g5 w.1
    · have w := low4 lg (by omega) (by omega) q
      rw [w.2]; exact g6 w.1
    · have w := lo m (by omega) (by omega)
      rw [w] at k1
      rw [srl_ext (g := db m) (n := 16) (by omega) (fun p p0 p1 => lob m (by omega) (by omega) p (by omega) (by unfold lmF; omega))]
      exact g7 m hm k k0 k1
    · by_cases u : gA σ 323 0 m = 0
      · -- the mover's new number
        have e : m = gI τ 451 2 := by
          rcases mu with ⟨q1, q2, q3⟩ | ⟨q1, q2, q3, q4⟩
          · rw [q1] at hm; exact absurd u hm
          · apply Classical.byContradiction
            intro w
            rw [q3 m (by omega), if_neg w] at hm
            by_cases w2 : m = gI σ 451 2
            · rcases rn2 with y | y
              · omega
              · rw [← w2] at y; omega
            · rw [if_neg w2] at hm; exact hm u
        rcases sro.2 with q | ⟨y, y1, y2, y3⟩
        · rcases rn2 with w | w
          · omega
          · rw [← q, ← e] at w; omega
        · have ev := S1.2.1.2.2 y y1
          have nn := ev.2.1.n
          have n1 := ev.2.1.1.2.1
          have le := ev.2.2.2.2.2.2
          have se := sro.1 s hES y y1
          rw [y2, ← e, y3] at le se
          rw [y2, ← e, y3, Int.zero_add] at n1
          exact ⟨by omega, by omega, se⟩
      · obtain ⟨y1, y2, y3⟩ := g8 m m0 m1 u
        obtain ⟨x1, x2, x3⟩ := lg1.1 m (by omega) m1
        refine ⟨by omega, ?_, ?_⟩
        · rw [rI4_ext (h := db m) (fun i i0 i1 => x3 i (by omega))]; exact y2
        · rw [srl_ext (g := db m) (n := 16) (by omega) (fun p p0 p1 => x3 p (by omega))]; exact y3
    · obtain ⟨x1, x2, x3⟩ := ck.2.1 x hx hfx
      obtain ⟨w1, w2, w3, w4⟩ := x3
      rw [w1] at hfx
      rw [w2, w3]
      have k := (hS.2.2.2.2.1 x x1 hfx).1
      have r := k.2.2.1
      have sz := k.sz (krt_cnt hS.2.1.1.1 x x1)
      rw [srl_ext (g := db (gI σ 585 x)) (n := gI σ 587 x) (by omega) (fun p p0 p1 => (lg1.1 _ (by omega) r.2).2.2 p (by have := k.2.2.2.2.1; omega))]
      exact g9 x x1 hfx
    · rw [fi _ (by decide)] at k1
      obtain ⟨y1, y2, y3⟩ := g14 k k0 k1
      rw [fa 210 (by decide), fw _ 0 (by omega) (by omega)]
      refine ⟨y1, unz _ (by omega) y2, ?_⟩
      rcases y3 with y | y
      · exact Or.inl y
      · refine Or.inr (fun ⟨w, w1, w2⟩ => y ?_)
        rcases w1 with e | e | e
        · rw [e] at w2
          exact ⟨0, Or.inl rfl, by rw [← fw 451 0 (by omega) (by omega)]; exact w2⟩
        · rw [e] at w2
          exact absurd w2.symm (un _ (by omega) y2 (bn2 k k0 k1)).1
        · exact ⟨4, Or.inr (Or.inr rfl), by rw [← fw 451 4 (by omega) (by omega)]; rw [e] at w2; exact w2⟩
    · have := ck.2.2.2
      omega
    · rw [fw 451 4 (by omega) (by omega)]
      rcases mu with ⟨q1, q2, q3⟩ | ⟨q1, q2, q3, q4⟩
      · rw [q2] at a; rw [q1] at b
        exact g16 k k0 k1 a b
      · rw [q4] at a
        unfold upF at a
        by_cases e : k = gI τ 451 2
        · rw [if_pos e] at a; exact absurd rfl a
        · rw [if_neg e] at a
          rw [q3 k (by omega), if_neg e] at b
          by_cases e2 : k = gI σ 451 2
          · rw [if_pos e2] at b; omega
          · rw [if_neg e2] at b
            exact g16 k k0 k1 a b
  have brg := bR.rng hFX.2.1.2.1
  have n0 : gI σ 451 0 ≠ -1 → dk' (gI σ 451 0) = dk (gI σ 451 0) := fun q => by
    have u := (hS.2.2.2.1 0 (Or.inl rfl) q).1
    have r := (hS.rn (w := 0) (Or.inl rfl) q).1.1
    exact dkn _ (by omega) (by omega) (hS.1.1.all.2 0 2 (Or.inl rfl) (Or.inr (Or.inl rfl)) (by omega) q)
  have fx0 : FX tv cf dk db σc l z c lg lr sv nx tn tp bl s' S' s V (-1) := by
    refine ⟨hFX.1, hFX.2.1, Or.inl ?_⟩
    by_cases w : dk (5 - lg) ≤ 0
    · exact Or.inl w
    · exact Or.inr (hO.2.1.1 (by omega))
  have fx := fx0.dg hc (lg1.dg (tv := tv) hS) lo (fun b hb => by
    obtain ⟨k, k1, k2⟩ := hBD.at hb
    obtain ⟨y1, y2, y3⟩ := hO.2.2.2.2.2.1.2 k k1.1 k1.2
    have := bn2 k k1.1 k1.2
    rw [k2] at y1 y2 this
    unfold lmF
    rw [dkn b.1 (by omega) y2 this]) (fun q => absurd rfl q)
  refine ⟨⟨σc, l, z, c, lg, lr, sv, nx, tn, tp, bl, s, s', b0, V, -1, sJ, ⟨S1, ⟨by rw [hlen]; exact hL, by rw [am]; exact hkm⟩, by rw [fi _ (by decide)]; exact hnx, ⟨by rw [fi _ (by decide)]; exact hs1, hs2⟩, orc, hB0, sro.1 s hES⟩, ⟨D1, hb0⟩, hO', fx, ?_, ?_, ⟨by rw [fi _ (by decide), dl]; exact hlo.1, by rw [fi _ (by decide)]; exact hlo.2⟩, ⟨hcB, hsB, hsJ, by rw [ly]; exact hsd⟩, vc, fun m m0 m1 q => ?_, ?_⟩, by rw [am, fi _ (by decide)]; exact hla⟩
  · rw [ly]
    unfold JI
    rw [fw 451 0 (by omega) (by omega), fw 452 0 (by omega) (by omega), fi 205 (by decide), fa 204 (by decide)]
    rcases hJ with q | ⟨q, bl0, a, b, t, t2, w1, w2, w5, w6, w7⟩
    · exact Or.inl q
    · have rn := hS.rn (w := 0) (Or.inl rfl) q
      refine Or.inr ⟨q, bl0, a, b, t, t2, w1, w2.ext (fun p p0 p1 => ?_), w5, w6, fun x hx => ?_⟩
      · exact (lg1.1 _ (by omega) rn.1.2).2.2 p (by rw [eE_at hS.1.1 (Or.inl rfl) rfl q]; exact p1)
      · unfold lmF
        rw [n0 q]
        exact w7 x hx
  · unfold BDl
    rw [fi 211 (by decide), fa 210 (by decide)]
    exact hBD
  · have old : hld σ 0 m → m ≠ gI σ 451 2 ∨ gI τ 451 2 = gI σ 451 2 → hld τ 0 m := fun ⟨w, w1, w2⟩ z => by
      rcases w1 with e | e | e
      · exact ⟨0, Or.inl rfl, by rw [fw _ 0 (by omega) (by omega), ← e]; exact w2⟩
      · rw [e] at w2
        have w2' : gI σ 451 2 = m := w2
        exact ⟨2, Or.inr (Or.inl rfl), by omega⟩
      · exact ⟨4, Or.inr (Or.inr rfl), by rw [fw _ 4 (by omega) (by omega)]; rw [e] at w2; exact w2⟩
    have bud : (∃ k, (0 ≤ k ∧ k < gI σ 211 0) ∧ gA σ 210 0 k = m) → ∃ k, (0 ≤ k ∧ k < gI τ 211 0) ∧ gA τ 210 0 k = m := by
      rw [fi 211 (by decide), fa 210 (by decide)]
      exact id
    rcases mu with ⟨q1, q2, q3⟩ | ⟨q1, q2, q3, q4⟩
    · rw [q1] at q
      rcases hHD m m0 m1 q with w | w
      · exact Or.inl (old w (Or.inr q3))
      · exact Or.inr (bud w)
    · rw [q3 m (by omega)] at q
      by_cases e : m = gI τ 451 2
      · exact Or.inl ⟨2, Or.inr (Or.inl rfl), e.symm⟩
      · rw [if_neg e] at q
        by_cases e2 : m = gI σ 451 2
        · rw [if_pos e2] at q; omega
        · rw [if_neg e2] at q
          rcases hHD m m0 m1 q with w | w
          · exact Or.inl (old w (Or.inl e2))
          · exact Or.inr (bud w)
  · have xx : ∀ m, gA σ 325 0 m = 0 → gA τ 325 0 m = 0 := fun m q => by
      rcases mu with ⟨-, q2, -⟩ | ⟨-, -, -, q4⟩
      · rw [q2]; exact q
      · rw [q4]; unfold upF; split
        · rfl
        · exact q
    exact ⟨fun e he => xx _ (hXO.1 e he), fun b hb => xx _ (hXO.2 b hb)⟩
theorem sp_collectP {tv : Nat → Int} {cf : Cf} {σ : St} {dk : Int → Int} {db : Int → Int → Int} {B v : Int} {r : RT} {L : List (Int × Int × Int × Int × Int × Int)} {S' : List (Int × Int × Int × (Int → Int)) × Int} {W : List (Int × (List (Int × Int × Int × (Int → Int)) × Int))} {Q : St → Prop} (hc : CfOK cf) (h : PR tv cf σ dk db L S' W r B) (hE : 1 ≤ emp cf (gA σ 323 0)) (hv : gI σ 223 0 = v ∧ v ≠ -1 ∧ gI σ 225 0 = 0)
    (hQ1 : ∀ τ, PR tv cf τ dk db L S' W r B → gI τ 225 0 = 1 → (∀ e, e ∈ L → e.2.2.1 ≠ v) → Fr (fun f o' => mRd2 0 0 f o' ∨ (f = 225 ∧ o' = 0)) σ τ → RK τ → Q τ)
    (hQ2 : ∀ τ dk' db' L', PR tv cf τ dk' db' L' S' W r B → AM db' L' = AM db L → CSo cf σ τ v → gI σ 224 0 < gI τ 224 0 ∧ gI τ 224 0 ≤ (cf.2.1 - 2) * 128 → gI τ 225 0 = 0 → CK σ τ 0 → (gI τ 451 2 = gI σ 451 2 ∨ gI τ 451 2 ≠ -1) → Fr mCs σ τ → RK τ → Q τ) : wp_Store_collectStep cf tv 0 Q σ := by
  have hP : 8 ≤ cf.2.1 ∧ cf.2.1 ≤ 32 := hc.2.1
  have hR : 0 ≤ cf.2.2 ∧ cf.2.2 ≤ 4 := hc.2.2
  obtain ⟨⟨σc, l, z, c, lg, lr, sv, nx, tn, tp, bl, s, s', b0, V, jn, sJ, hI, ⟨hD, hb0⟩, hO, hFX, hJ, hBD, hlo, ⟨hcB, hsB, hsJ, hsd⟩, hV, hHD, hXO⟩, hla⟩ := h
  have hS := hI.1
  have vc : VC tv cf σ dk db L v (gI σ 224 0) := by
    rcases hV with q | ⟨-, q⟩ | ⟨q, -⟩
    · exact absurd (hv.1.symm.trans q) hv.2.1
    · rw [hv.1] at q; exact q
    · exact absurd hv.2.2 q
  refine sp_collectStep hc hS hD hE hv.1 rfl vc (fun τ ne S1 D1 c1 fr => ?_) (fun τ dk' db' L' p' lt vp S1 D1 am ck lg1 dke cs vc' ce sro fr => ?_)
  · have fr' : Fr mCs σ τ := fr.mono (fun f o' q => by
      rcases q with q | q
      · exact Or.inl q
      · exact Or.inr (Or.inr ⟨Or.inr q.1, q.2⟩))
    have us : gA τ 323 0 = gA σ 323 0 := fr.a _ _ (fun q => by unfold mRd2 mPg mRow at q; omega)
    refine hQ1 τ (PR.coll hc hI hb0 hO hFX hJ hBD hlo ⟨hcB, hsB, hsJ, hsd⟩ hHD hXO hla S1 D1 rfl (CK.fr fr (fun f x a b q => by unfold mRd2 mPg mRow at q; omega) (fun f a b q => by unfold mRd2 mPg mRow at q; omega)) (LGo.fr fr (fun f w _ a b q => by unfold mRd2 mPg mRow at q; omega)) (fun _ _ _ => rfl) (Or.inl ⟨us, fr.a _ _ (fun q => by unfold mRd2 mPg mRow at q; omega), fr.i _ _ (fun q => by unfold mRd2 mPg mRow at q; omega)⟩) ⟨fun _ q => q, Or.inl (fr.i _ _ (fun q => by unfold mRd2 mPg mRow at q; omega))⟩ (Or.inr (Or.inr ⟨by omega, ?_, ?_⟩)) fr') c1 ne fr S1.1.2
    · rw [fr.i 223 0 (fun q => by unfold mRd2 mPg mRow at q; omega), us, hv.1]; exact vc.1
    · rw [fr.i 223 0 (fun q => by unfold mRd2 mPg mRow at q; omega), hv.1]; exact ne
  · have ve : gI τ 223 0 = v := by
      rw [fr.i _ _ (fun q => by have q := mCs_n q; unfold mBw mMv mIx mRd2 mPg mRow at q; omega)]; exact hv.1
    refine hQ2 τ dk' db' L' (PR.coll hc hI hb0 hO hFX hJ hBD hlo ⟨hcB, hsB, hsJ, hsd⟩ hHD hXO hla S1 D1 am ck lg1 dke cs.mu sro (Or.inr (Or.inl ⟨by omega, by rw [ve, vp]; exact vc'⟩)) fr) am cs ⟨by omega, ?_⟩ (by omega) ck (by
      rcases sro.2 with q | ⟨e, e1, e2, -⟩
      · exact Or.inl q
      · have := (S1.2.1.2.2 e e1).1.1
        exact Or.inr (by omega)) fr S1.1.2
    have := vc'.2.1.1.2
    have dv := D1.k hc (n := v) ⟨by have := vc'.1.1; omega, vc'.1.1.2⟩
    rw [vp]
    unfold lmF at this
    omega
