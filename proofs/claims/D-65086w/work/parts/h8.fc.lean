/-! what stale blocks may hold; a commit as it is on the flash when all is written -/
/-- logs of no later commit than c; nodes not behind serial number b; raw numbers as r says -/
def RX (r : RT) (n w : Int) (pg : Int → Int → Int) : Prop := ∃ pg', (∀ k, 0 ≤ k → k < w → ∀ i, 0 ≤ i → i < 128 → pg' k i = pg k i) ∧ r n w pg'
def SpC (cf : Cf) (c b : Int) (r : RT) (n w : Int) (pg : Int → Int → Int) : Prop := (2 ≤ n → n < 4 → w ≤ 0 ∨ rI4 (pg 0) 24 ≤ c) ∧ ((n < 0 ∨ 4 ≤ n) → n < 4 + cf.2.2 → RX r n w pg) ∧ (4 + cf.2.2 ≤ n → w ≤ 0 ∨ (rI4 (pg 0) 4 ≠ 0 ∧ rL8 (pg 0) 8 ≤ b))
theorem SpC.x {cf : Cf} {c b : Int} {r : RT} : SpX (SpC cf c b r) := by
  intro n w pg pg' e h
  obtain ⟨h1, h2, h3⟩ := h
  have q : ¬ w ≤ 0 → (∀ j, 0 ≤ j → j + 4 ≤ 128 → rI4 (pg' 0) j = rI4 (pg 0) j) ∧ rL8 (pg' 0) 8 = rL8 (pg 0) 8 := fun nw =>
    ⟨fun j j0 j1 => rI4_ext (fun i i0 i1 => (e 0 (by omega) (by omega) i (by omega) (by omega)).symm), rL8_ext (fun i i0 i1 => (e 0 (by omega) (by omega) i (by omega) (by omega)).symm)⟩
  refine ⟨fun a b => ?_, fun a b => ?_, fun a => ?_⟩
  · rcases h1 a b with z | z
    · exact Or.inl z
    · by_cases y : w ≤ 0
      · exact Or.inl y
      · exact Or.inr (by rw [(q y).1 24 (by omega) (by omega)]; exact z)
  · obtain ⟨p, p1, p2⟩ := h2 a b
    exact ⟨p, fun k k0 k1 i i0 i1 => (p1 k k0 k1 i i0 i1).trans (e k k0 k1 i i0 i1), p2⟩
  · rcases h3 a with z | z
    · exact Or.inl z
    · by_cases y : w ≤ 0
      · exact Or.inl y
      · exact Or.inr (by rw [(q y).1 4 (by omega) (by omega), (q y).2]; exact z)
theorem SpC.mono {cf : Cf} {c b c' b' : Int} {r r' : RT} {n w : Int} {pg : Int → Int → Int} (hc : c ≤ c') (hb : b ≤ b') (hr : ∀ n w pg, r n w pg → r' n w pg) (h : SpC cf c b r n w pg) : SpC cf c' b' r' n w pg := by
  obtain ⟨h1, h2, h3⟩ := h
  refine ⟨fun a b => ?_, fun a b => (h2 a b).elim (fun p q => ⟨p, q.1, hr _ _ _ q.2⟩), fun a => ?_⟩
  · rcases h1 a b with z | z
    · exact Or.inl z
    · exact Or.inr (by omega)
  · rcases h3 a with z | z
    · exact Or.inl z
    · exact Or.inr ⟨z.1, by omega⟩
/-- the page 0 of a log: commit, nameless files -/
def lgP (tv : Nat → Int) (dk : Int → Int) (db : Int → Int → Int) (lg lr c : Int) (M : List (Int × Int × Int × (Int → Int))) : Prop := 1 ≤ dk lg ∧ whN tv (db lg) 0 64 ∧ db lg 16 = 7 ∧ srl (db lg) 0 = lr ∧ rI4 (db lg) 24 = c ∧ (0 ≤ rI4 (db lg) 28 ∧ rI4 (db lg) 28 ≤ 8) ∧ (cat1 (fun k => rI4 (db lg) (32 + 4 * k)) (rI4 (db lg) 28).toNat).Perm (nlL M)
/-- head w has no byte that is not written -/
def flu (σ : St) (w : Int) : Prop := gI σ 451 w ≠ -1 → gI σ 452 w % 128 = 0
theorem SA.lm {tv : Nat → Int} {cf : Cf} {σ : St} {dk : Int → Int} {db : Int → Int → Int} {L : List (Int × Int × Int × Int × Int × Int)} (h : SA tv cf σ dk db L) (hf : ∀ w, isW 0 w → flu σ w) {m : Int} (hm : 0 ≤ m) : eE σ 0 dk m = lmF dk m := by
  by_cases q : hld σ 0 m
  · obtain ⟨w, w1, w2⟩ := q
    have a := eE_at h.1.1 w1 w2 (by omega)
    have b := (h.1.1.all.1 w w1).le w2 hm
    have c := hf w w1 (by omega)
    rw [a]
    unfold lmF
    omega
  · exact eE_no (fun w hw e => q ⟨w, hw, e⟩)
theorem SA.fc {tv : Nat → Int} {cf : Cf} {σ : St} {dk : Int → Int} {db : Int → Int → Int} {L : List (Int × Int × Int × Int × Int × Int)} {c lg lr sM nx tn tp : Int} (hc : CfOK cf) (h : SA tv cf σ dk db L) (hL : L.length ≤ 880) (hf : ∀ x, x ∈ krt σ 0 → gI σ 584 x = 0) (hw : ∀ w, isW 0 w → flu σ w) (ho : gI σ 390 0 = 0) (htn : gI σ 214 0 = tn) (htp : gI σ 215 0 = tp) (h1 : tn ≠ -1) (hp0 : 0 ≤ tp) (hp : tp + tbl cf ≤ eE σ 0 dk tn) (ht : tbG tv cf (gA σ 324 0) (db tn) tp) (hlg : lg = 2 ∨ lg = 3) (hcr : 0 ≤ c ∧ c < 1073741824) (hl : lgP tv dk db lg lr c (AM db L)) (hnx : 0 ≤ nx ∧ nx < 1073741824) :
    ∃ (l : Nat) (z : Int), krt σ 0 = kl σ l z ∧ gI σ 387 0 = z ∧ ls σ l z = L ∧ (MSt tv cf dk db sM c lg (gI σ 585 z) (gI σ 586 z) (gI σ 587 z) nx tn tp → FC tv cf dk db σ l z c lg lr sM nx tn tp) := by
  have hR : 0 ≤ cf.2.2 ∧ cf.2.2 ≤ 4 := hc.2.2
  have lm := fun {m : Int} (hm : 0 ≤ m) => h.lm hw hm
  have nn := fun {m : Int} (hm : 0 ≤ m) => h.nn hc hm
  obtain ⟨⟨w1, w2⟩, ⟨x1, x2, x3⟩, nm, wu, kn, ol, tb, l0⟩ := h
  obtain ⟨l, z, a1, a2, a3, a4, a5⟩ := x1.1.krt
  refine ⟨l, z, a1, a4, a5, fun ms => ?_⟩
  obtain ⟨t1, t2, t3⟩ : (4 + cf.2.2 ≤ tn ∧ tn < cf.1 - 6) ∧ gI σ 216 0 = tbl cf ∧ gA σ 325 0 tn ≠ 0 := by
    rcases tb with q | q
    · exact absurd (htn.symm.trans q) h1
    · rw [htn] at q; exact q
  have os : ∀ m, oS σ 0 m = 0 := fun m => by unfold oS; rw [ho]; rfl
  have tbe : ∀ m, tbS σ m = if m = tn then tbl cf else 0 := fun m => by unfold tbS; rw [htn, t2]
  have tve : ∀ m, 4 + cf.2.2 ≤ m → m < cf.1 - 6 → gA σ 324 0 m = tvl cf σ l z tn m := fun m m0 m1 => by
    have q := (nm m m0 m1).2.2.1
    rw [os, tbe, a1] at q
    unfold tvl
    rw [a5, q]
    omega
  have ev' : eV tv cf db (lmF dk) L := x3.grow (fun e he => by
    have q := x3 e he
    rw [← lm (by omega)]; exact q.2.2.2.2.2.2) (fun _ _ _ _ _ => rfl)
  refine ⟨⟨hlg, hcr⟩, ms, ⟨a2, fun y hy => ?_, by rw [a5]; exact hL⟩, ⟨t1, hp0, by rw [← lm (by omega)]; exact hp, fun m m0 m1 => ?_⟩, by rw [a5]; exact hl, by rw [a5]; exact ev', fun e he q => ?_, fun m m0 m1 => ?_, hnx⟩
  · rw [← a1] at hy
    obtain ⟨b1, b2⟩ := kn y hy (hf y hy)
    exact b1.grow (krt_cnt x1.1 y hy).1 (by rw [← lm (by have := b1.2.2.1; omega)]; exact Int.le_refl _) (fun _ _ => rfl)
  · rw [ht.2.2 m m0 m1]; exact tve m m0 m1
  · rw [a5] at he
    have r := x3 e he
    have j := r.2.1.n
    have p := lS_pos x1.2.1 he (by omega)
    have b := (nm _ r.1.1 r.1.2).2.2.2.2.1
    rcases q with q | ⟨y, y1, y2⟩
    · have := b (by rw [q]; exact t3)
      omega
    · rw [← a1] at y1
      have := b (by rw [← y2]; exact (kn y y1 (hf y y1)).2)
      omega
  · by_cases q : 4 + cf.2.2 ≤ m
    · rw [← tve m q m1, ← lm m0]; exact (nm m q m1).2.2.2.1
    · have b1 := l0 m m0 (by omega)
      have b2 := x1.2.2 m m0 m1
      have b3 : kS σ (kl σ l z) m = 0 := by
        by_cases k : kS σ (kl σ l z) m = 0
        · exact k
        · obtain ⟨y, y1, y2, y3⟩ := kS_ex k
          rw [← a1] at y1
          have := (kn y y1 y2).1.2.2.1
          omega
      have b4 : 0 ≤ lmF dk m := by unfold lmF; omega
      unfold tvl
      rw [a5, b3, if_neg (by omega)]
      omega
