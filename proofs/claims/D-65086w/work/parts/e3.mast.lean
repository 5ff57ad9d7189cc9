/-! the latest master -/
def msP (tv : Nat → Int) (cf : Cf) (g : Int → Int) (q sM c lg n p s nx tn tp : Int) : Prop := shP tv g q 6 sM c lg ∧ rI4 g (q + 32) = n ∧ rI4 g (q + 36) = p ∧ rI4 g (q + 40) = s ∧ rI4 g (q + 44) = nx ∧ rI4 g (q + 48) = tn ∧ rI4 g (q + 52) = tp ∧ rI4 g (q + 56) = tbl cf
/-- the masters: both have the latest one last -/
def MSt (tv : Nat → Int) (cf : Cf) (dk : Int → Int) (db : Int → Int → Int) (sM c lg n p s nx tn tp : Int) : Prop := 0 ≤ sM ∧ ∀ m, (m = 0 ∨ m = 1) → 1 ≤ dk m ∧ msP tv cf (db m) (128 * (dk m - 1)) sM c lg n p s nx tn tp ∧ ∀ k, 0 ≤ k → k < dk m - 1 → srl (db m) (128 * k) < sM
def MF (cf : Cf) (τ : St) (o c lg n p s nx tn tp : Int) : Prop := gI τ 212 o = c ∧ gI τ 208 o = lg ∧ gI τ 206 o = n ∧ gI τ 207 o = p ∧ gI τ 221 o = s ∧ gI τ 203 o = nx ∧ gI τ 214 o = tn ∧ gI τ 215 o = tp ∧ gI τ 216 o = (tbl cf)
def mMs (o : Int) (f : Nat) (o' : Int) : Prop := ((f = 135 ∧ o' = 0) ∨ mRow (o + 4) f o') ∨ ((f = 212 ∨ f = 208 ∨ f = 206 ∨ f = 207 ∨ f = 221 ∨ f = 203 ∨ f = 214 ∨ f = 215 ∨ f = 216) ∧ o' = o)
theorem mMs_b {o : Int} : ∀ f o', rBI o f o' → ¬ mMs o f o' := fun f o' a q => by
  unfold rBI at a
  unfold mMs mRow at q
  omega
theorem sp_masters {tv : Nat → Int} {cf : Cf} {σ : St} {o : Int} {dk : Int → Int} {db : Int → Int → Int} {Sp : Int → Int → (Int → Int → Int) → Prop} {B : Int} (hc : CfOK cf) (ho : o = 0 ∨ o = 1) (hrk : RK σ) {sM c lg n p s nx tn tp : Int} {Q : St → Prop} (hD : DJ tv cf σ o dk db Sp B) (hM : MSt tv cf dk db sM c lg n p s nx tn tp)
    (hQ : ∀ τ, MF cf τ o c lg n p s nx tn tp → Fr (mMs o) σ τ → RK τ → ∀ K, wp_Store_find_L36 cf tv o Q K sM 2 τ) : lQ2 (wp_Store_find_L36 cf tv o Q) (-1) 0 σ := by
  have hP : 8 ≤ cf.2.1 ∧ cf.2.1 ≤ 32 := hc.2.1
  have hB : 24 ≤ cf.1 ∧ cf.1 ≤ 64 := hc.1
  have r4 : rowL (o + 4) = 128 := by unfold rowL; rw [if_neg (by omega), if_pos (by omega)]
  obtain ⟨s0, hM⟩ := hM
  refine lQ2_rule (fun y1 y3 τ => (0 ≤ y3 ∧ y3 ≤ 2) ∧ RK τ ∧ Fr (mMs o) σ τ ∧ ((y3 = 0 ∧ y1 < sM) ∨ (1 ≤ y3 ∧ y1 = sM ∧ MF cf τ o c lg n p s nx tn tp))) (fun _ y3 _ => (2 - y3).toNat) ?_ (-1) 0 σ ⟨by omega, hrk, Fr.rf _ _, Or.inl ⟨rfl, by omega⟩⟩
  intro K y1 y3 τ hI hK
  obtain ⟨h3, rk, fr, cs⟩ := hI
  by_cases e2 : y3 = 2
  · rw [e2]
    rcases cs with q | ⟨_, q2, q3⟩
    · omega
    · rw [q2]; exact hQ τ q3 fr rk K
  unfold wp_Store_find_L36
  refine ⟨fun q => absurd q (by omega), fun _ => ?_⟩
  have m01 : y3 = 0 ∨ y3 = 1 := by omega
  obtain ⟨d1, d2, d3⟩ := hM y3 m01
  have dky := hD.k hc (n := y3) ⟨by omega, by omega⟩
  refine lQ3_rule (fun z1 z3 z4 υ => z3 = y3 ∧ (0 ≤ z4 ∧ z4 ≤ dk y3) ∧ RK υ ∧ Fr (mMs o) σ υ ∧ (z1 < sM ∨ (z1 = sM ∧ MF cf υ o c lg n p s nx tn tp)) ∧ (z4 = dk y3 → z1 = sM)) (fun _ _ z4 _ => (dk y3 - z4).toNat) ?_ y1 y3 0 τ ⟨rfl, by omega, rk, fr, ?_, fun q => absurd q (by omega)⟩
  rotate_left
  · rcases cs with q | ⟨_, q⟩
    · exact Or.inl q.2
    · exact Or.inr q
  intro K' z1 z3 z4 υ hI' hK'
  obtain ⟨e3, h4, rk, fr, cs', ce⟩ := hI'
  have Dv := hD.fr fr mMs_b
  rw [e3]
  unfold wp_Store_find_L44
  refine sp_jwritten hc Dv ⟨by omega, by omega⟩ (fun _ _ => ?_)
  rw [show max 0 (dk y3) = dk y3 by omega]
  refine ⟨fun q y ey => ?_, fun q => ?_⟩
  · rw [w32_id (by unfold rI; omega)] at ey
    have z1e := ce (by omega)
    rw [ey]
    refine hK _ _ _ ⟨by omega, rk, fr, Or.inr ⟨by omega, z1e, ?_⟩⟩ (by omega)
    rcases cs' with w | w
    · omega
    · exact w.2
  · have go : ∀ z υ', RK υ' → Fr (mMs o) σ υ' → (z < sM ∨ (z = sM ∧ MF cf υ' o c lg n p s nx tn tp)) → (z4 + 1 = dk y3 → z = sM) → wp_Store_find_b242 cf tv o Q K' z y3 z4 υ' := by
      intro z υ' k' f' c' d' y ey
      rw [w32_id (by unfold rI; omega)] at ey
      rw [ey]
      exact hK' _ _ _ _ ⟨rfl, by omega, k', f', c', d'⟩ (by omega)
    refine sp_sheet hc ho Dv ⟨by omega, by omega⟩ ⟨h4.1, by omega⟩ (fun υ1 b1 b2 f1 k1 => ?_)
    have F1 : Fr (mMs o) σ υ1 := fr.tr (f1.mono (fun f o' q => Or.inl q))
    have R4 : ∀ j, 0 ≤ j → j + 4 ≤ 128 → rI4 (gA υ1 512 (o + 4)) (0 + j) = rI4 (db y3) (128 * z4 + j) := fun j j0 j1 => rI4_sh (fun i i0 i1 => by rw [b1 _ (by omega) (by omega)]; congr 1; omega)
    have R8 : rL8 (gA υ1 512 (o + 4)) (0 + 8) = srl (db y3) (128 * z4) := rL8_sh (fun i i0 i1 => by rw [b1 _ (by omega) (by omega)]; congr 1; omega)
    have wc : ∀ m, m ≤ 128 → (whN tv (gA υ1 512 (o + 4)) 0 m ↔ whN tv (db y3) (128 * z4) m) := fun m hm => ⟨fun w => w.ext (fun i i0 i1 => by rw [b1 _ (by omega) (by omega)]; congr 1; omega), fun w => w.ext (fun i i0 i1 => by rw [b1 _ (by omega) (by omega)]; congr 1; omega)⟩
    have mf1 : MF cf υ o c lg n p s nx tn tp → MF cf υ1 o c lg n p s nx tn tp := by
      intro w
      unfold MF at w ⊢
      rw [f1.i 212 o (fun q => by unfold mRow at q; omega), f1.i 208 o (fun q => by unfold mRow at q; omega), f1.i 206 o (fun q => by unfold mRow at q; omega), f1.i 207 o (fun q => by unfold mRow at q; omega), f1.i 221 o (fun q => by unfold mRow at q; omega), f1.i 203 o (fun q => by unfold mRow at q; omega), f1.i 214 o (fun q => by unfold mRow at q; omega), f1.i 215 o (fun q => by unfold mRow at q; omega), f1.i 216 o (fun q => by unfold mRow at q; omega)]
      exact w
    have skip : (z4 = dk y3 - 1 → z1 = sM) → wp_Store_find_b242 cf tv o Q K' z1 y3 z4 υ1 := by
      intro hz
      refine go z1 υ1 k1 F1 ?_ (fun e => hz (by omega))
      rcases cs' with w | w
      · exact Or.inl w
      · exact Or.inr ⟨w.1, mf1 w.2⟩
    have last : z4 = dk y3 - 1 → msP tv cf (db y3) (128 * z4) sM c lg n p s nx tn tp := fun e => by rw [e]; exact d2
    refine sp_rwhole b2 (by omega) (by omega) (by omega) (by omega) (fun _ w _ _ => ⟨fun _ => skip (fun e => ?_), fun z => absurd rfl z⟩) (fun _ w w2 _ _ => ⟨fun z => absurd z (by omega), fun _ => ?_⟩)
    · exfalso
      have l := (last e).1
      have e4 : rI4 (gA υ1 512 (o + 4)) (0 + 4) = 64 := by rw [R4 4 (by omega) (by omega)]; exact l.1.2.1
      rw [e4] at w
      exact w ⟨(wc 64 (by omega)).mpr l.1, by omega⟩
    refine sp_rtype b2 (by omega) (by omega) (fun _ _ => ?_)
    rw [b1 _ (by omega) (by omega)]
    refine ⟨fun z => skip (fun e => absurd ?_ z), fun z => ?_⟩
    · exact (last e).1.2.1
    refine sp_rser b2 (by omega) (by omega) (fun _ j8 _ => ?_)
    rw [R8] at j8 ⊢
    refine ⟨fun z => skip (fun e => ?_), fun z => ?_⟩
    · have := (last e).1.2.2.1
      rcases cs' with w | w
      · omega
      · exact w.1
    refine sp_rser b2 (by omega) (by omega) (fun _ _ _ => ?_)
    rw [R8]
    have nf : ∀ {a b : Nat} {x y : Int}, a ≠ b → ¬ (a = b ∧ x = y) := fun h q => h q.1
    refine sp_rget b2 (by omega) (by omega) (by omega) (fun _ i1 _ τ1 e1 => ?_)
    rw [show (0 : Int) + 24 + 0 = 0 + 24 by omega, R4 24 (by omega) (by omega)] at e1 i1
    have a1 : gI τ1 513 (o + 4) = 0 := by rw [e1, gI_sI, if_neg (nf (by decide))]; exact b2
    refine sp_rget a1 (by omega) (by omega) (by omega) (fun _ i2 _ τ2 e2 => ?_)
    rw [show gA τ1 512 (o + 4) = gA υ1 512 (o + 4) by rw [e1]; rfl] at e2 i2
    rw [show (0 : Int) + 24 + 4 = 0 + 28 by omega, R4 28 (by omega) (by omega)] at e2 i2
    have a2 : gI τ2 513 (o + 4) = 0 := by rw [e2, gI_sI, if_neg (nf (by decide))]; exact a1
    refine sp_rget a2 (by omega) (by omega) (by omega) (fun _ i3 _ τ3 e3 => ?_)
    rw [show gA τ2 512 (o + 4) = gA υ1 512 (o + 4) by rw [e2, e1]; rfl] at e3 i3
    rw [show (0 : Int) + 24 + 8 = 0 + 32 by omega, R4 32 (by omega) (by omega)] at e3 i3
    have a3 : gI τ3 513 (o + 4) = 0 := by rw [e3, gI_sI, if_neg (nf (by decide))]; exact a2
    refine sp_rget a3 (by omega) (by omega) (by omega) (fun _ i4 _ τ4 e4 => ?_)
    rw [show gA τ3 512 (o + 4) = gA υ1 512 (o + 4) by rw [e3, e2, e1]; rfl] at e4 i4
    rw [show (0 : Int) + 24 + 12 = 0 + 36 by omega, R4 36 (by omega) (by omega)] at e4 i4
    have a4 : gI τ4 513 (o + 4) = 0 := by rw [e4, gI_sI, if_neg (nf (by decide))]; exact a3
    refine sp_rget a4 (by omega) (by omega) (by omega) (fun _ i5 _ τ5 e5 => ?_)
    rw [show gA τ4 512 (o + 4) = gA υ1 512 (o + 4) by rw [e4, e3, e2, e1]; rfl] at e5 i5
    rw [show (0 : Int) + 24 + 16 = 0 + 40 by omega, R4 40 (by omega) (by omega)] at e5 i5
    have a5 : gI τ5 513 (o + 4) = 0 := by rw [e5, gI_sI, if_neg (nf (by decide))]; exact a4
    refine sp_rget a5 (by omega) (by omega) (by omega) (fun _ i6 _ τ6 e6 => ?_)
    rw [show gA τ5 512 (o + 4) = gA υ1 512 (o + 4) by rw [e5, e4, e3, e2, e1]; rfl] at e6 i6
    rw [show (0 : Int) + 24 + 20 = 0 + 44 by omega, R4 44 (by omega) (by omega)] at e6 i6
    have a6 : gI τ6 513 (o + 4) = 0 := by rw [e6, gI_sI, if_neg (nf (by decide))]; exact a5
    refine sp_rget a6 (by omega) (by omega) (by omega) (fun _ i7 _ τ7 e7 => ?_)
    rw [show gA τ6 512 (o + 4) = gA υ1 512 (o + 4) by rw [e6, e5, e4, e3, e2, e1]; rfl] at e7 i7
    rw [show (0 : Int) + 24 + 24 = 0 + 48 by omega, R4 48 (by omega) (by omega)] at e7 i7
    have a7 : gI τ7 513 (o + 4) = 0 := by rw [e7, gI_sI, if_neg (nf (by decide))]; exact a6
    refine sp_rget a7 (by omega) (by omega) (by omega) (fun _ i8 _ τ8 e8 => ?_)
    rw [show gA τ7 512 (o + 4) = gA υ1 512 (o + 4) by rw [e7, e6, e5, e4, e3, e2, e1]; rfl] at e8 i8
    rw [show (0 : Int) + 24 + 28 = 0 + 52 by omega, R4 52 (by omega) (by omega)] at e8 i8
    have a8 : gI τ8 513 (o + 4) = 0 := by rw [e8, gI_sI, if_neg (nf (by decide))]; exact a7
    refine sp_rget a8 (by omega) (by omega) (by omega) (fun _ i9 _ τ9 e9 => ?_)
    rw [show gA τ8 512 (o + 4) = gA υ1 512 (o + 4) by rw [e8, e7, e6, e5, e4, e3, e2, e1]; rfl] at e9 i9
    rw [show (0 : Int) + 24 + 32 = 0 + 56 by omega, R4 56 (by omega) (by omega)] at e9 i9
    have a9 : gI τ9 513 (o + 4) = 0 := by rw [e9, gI_sI, if_neg (nf (by decide))]; exact a8
    have f9 : Fr (mMs o) σ τ9 := by
      refine F1.tr ?_
      rw [e9, e8, e7, e6, e5, e4, e3, e2, e1]
      exact (((((((((Fr.rf _ _).sI (Or.inr ⟨by omega, rfl⟩)).sI (Or.inr ⟨by omega, rfl⟩)).sI (Or.inr ⟨by omega, rfl⟩)).sI (Or.inr ⟨by omega, rfl⟩)).sI (Or.inr ⟨by omega, rfl⟩)).sI (Or.inr ⟨by omega, rfl⟩)).sI (Or.inr ⟨by omega, rfl⟩)).sI (Or.inr ⟨by omega, rfl⟩)).sI (Or.inr ⟨by omega, rfl⟩)
    have k9 : RK τ9 := by
      rw [e9, e8, e7, e6, e5, e4, e3, e2, e1]
      exact ((((((((k1.sI (by show rI _; exact i1)).sI (by show rI _; exact i2)).sI (by show rI _; exact i3)).sI (by show rI _; exact i4)).sI (by show rI _; exact i5)).sI (by show rI _; exact i6)).sI (by show rI _; exact i7)).sI (by show rI _; exact i8)).sI (by show rI _; exact i9)
    refine go _ τ9 k9 f9 ?_ ?_
    · by_cases e : z4 = dk y3 - 1
      · right
        obtain ⟨⟨_, _, l3, l4, l5⟩, l6, l7, l8, l9, l10, l11, l12⟩ := last e
        refine ⟨l3, ?_, ?_, ?_, ?_, ?_, ?_, ?_, ?_, ?_⟩
        · rw [e9, gI_sI, if_neg (nf (by decide)), e8, gI_sI, if_neg (nf (by decide)), e7, gI_sI, if_neg (nf (by decide)), e6, gI_sI, if_neg (nf (by decide)), e5, gI_sI, if_neg (nf (by decide)), e4, gI_sI, if_neg (nf (by decide)), e3, gI_sI, if_neg (nf (by decide)), e2, gI_sI, if_neg (nf (by decide)), e1, gI_sI1]; exact l4
        · rw [e9, gI_sI, if_neg (nf (by decide)), e8, gI_sI, if_neg (nf (by decide)), e7, gI_sI, if_neg (nf (by decide)), e6, gI_sI, if_neg (nf (by decide)), e5, gI_sI, if_neg (nf (by decide)), e4, gI_sI, if_neg (nf (by decide)), e3, gI_sI, if_neg (nf (by decide)), e2, gI_sI1]; exact l5
        · rw [e9, gI_sI, if_neg (nf (by decide)), e8, gI_sI, if_neg (nf (by decide)), e7, gI_sI, if_neg (nf (by decide)), e6, gI_sI, if_neg (nf (by decide)), e5, gI_sI, if_neg (nf (by decide)), e4, gI_sI, if_neg (nf (by decide)), e3, gI_sI1]; exact l6
        · rw [e9, gI_sI, if_neg (nf (by decide)), e8, gI_sI, if_neg (nf (by decide)), e7, gI_sI, if_neg (nf (by decide)), e6, gI_sI, if_neg (nf (by decide)), e5, gI_sI, if_neg (nf (by decide)), e4, gI_sI1]; exact l7
        · rw [e9, gI_sI, if_neg (nf (by decide)), e8, gI_sI, if_neg (nf (by decide)), e7, gI_sI, if_neg (nf (by decide)), e6, gI_sI, if_neg (nf (by decide)), e5, gI_sI1]; exact l8
        · rw [e9, gI_sI, if_neg (nf (by decide)), e8, gI_sI, if_neg (nf (by decide)), e7, gI_sI, if_neg (nf (by decide)), e6, gI_sI1]; exact l9
        · rw [e9, gI_sI, if_neg (nf (by decide)), e8, gI_sI, if_neg (nf (by decide)), e7, gI_sI1]; exact l10
        · rw [e9, gI_sI, if_neg (nf (by decide)), e8, gI_sI1]; exact l11
        · rw [e9, gI_sI1]; exact l12
      · exact Or.inl (d3 z4 h4.1 (by omega))
    · intro e
      exact (last (by omega)).1.2.2.1
