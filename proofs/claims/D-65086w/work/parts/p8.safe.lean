/-! groups become safe in the reference -/
def MR (σ : St) (t : Int) (S : List (Int × Int × Int × (Int → Int)) × Int) : Prop := TR σ t (nds S.1) (ens S.1) (ats S.1) (pcs S.1) S.2
def FTs (S : List (Int × Int × Int × (Int → Int)) × Int) : Prop := FT (nds S.1) (ens S.1) (ats S.1) (pcs S.1)
/-- a row of the reference takes S to S2 -/
def GO (op a b c d gn x y : Int) (bs : Int → Int) (S S2 : List (Int × Int × Int × (Int → Int)) × Int) : Prop := ∀ (tv : Nat → Int) (cf : Cf) (σ : St) (t g : Int) (Q : St → Prop), (t = 0 ∨ t = 1) → RK σ → MR σ t S → rwI σ g op a b c d gn x y bs → (∀ τ, MR τ t S2 → OT σ τ t → RK τ → Q τ) → wp_Model_does cf tv t g Q σ
def GOx (σ : St) (g : Int) (S S2 : List (Int × Int × Int × (Int → Int)) × Int) : Prop := ∃ op a b c d gn x y bs, rwI σ g op a b c d gn x y bs ∧ GO op a b c d gn x y bs S S2
/-- the rows that wait -/
def GW (σ : St) : List (Int × (List (Int × Int × Int × (Int → Int)) × Int)) → Int → List (Int × Int × Int × (Int → Int)) × Int → Prop
  | [], _, _ => True
  | x :: W, g, S => gA σ 731 0 g = x.1 ∧ GOx σ g S x.2 ∧ GW σ W (g + 1) x.2
theorem GW.eq {σ τ : St} {d : Int} : ∀ {W : List (Int × (List (Int × Int × Int × (Int → Int)) × Int))} {g : Int} {S : List (Int × Int × Int × (Int → Int)) × Int}, GW σ W (g + d) S → 0 ≤ g → g + W.length ≤ 8 → (∀ j, g ≤ j → j < g + W.length → (∀ f, (731 ≤ f ∧ f ≤ 739) → gA τ f 0 j = gA σ f 0 (j + d)) ∧ rowB τ j = rowB σ (j + d)) → GW τ W g S
  | [], _, _, _, _, _, _ => trivial
  | x :: W, g, S, ⟨h1, h2, h3⟩, g0, g8, e => by
    rw [List.length_cons] at g8 e
    obtain ⟨e1, e2⟩ := e g (Int.le_refl _) (by omega)
    refine ⟨by rw [e1 _ (by decide)]; exact h1, ?_, GW.eq (d := d) (by rw [show g + 1 + d = g + d + 1 by omega]; exact h3) (by omega) (by omega) (fun j j0 j1 => e j (by omega) (by omega))⟩
    obtain ⟨op, a, b, c, dd, gn, x', y', bs, r, go⟩ := h2
    refine ⟨op, a, b, c, dd, gn, x', y', bs, ⟨by omega, ?_⟩, go⟩
    rw [e1 _ (by decide), e1 733 (by decide), e1 734 (by decide), e1 735 (by decide), e1 736 (by decide), e1 737 (by decide), e1 738 (by decide), e1 739 (by decide), e2]
    exact r.2
theorem GW.fr {σ τ : St} {W : List (Int × (List (Int × Int × Int × (Int → Int)) × Int))} {g : Int} {S : List (Int × Int × Int × (Int → Int)) × Int} {M : Nat → Int → Prop} (h : GW σ W g S) (g0 : 0 ≤ g ∧ g + W.length ≤ 8) (f : Fr M σ τ) (n : ∀ f, 731 ≤ f → f ≤ 740 → ¬ M f 0) : GW τ W g S := by
  refine GW.eq (d := 0) (by rw [Int.add_zero]; exact h) g0.1 g0.2 (fun j _ _ => ⟨fun f' hf => ?_, ?_⟩)
  · rw [f.a f' 0 (n f' (by omega) (by omega)), Int.add_zero]
  · unfold rowB
    rw [f.a 740 0 (n _ (by decide) (by decide)), Int.add_zero]
theorem GW.app {σ : St} {x : Int × List (Int × Int × Int × (Int → Int)) × Int} : ∀ {W : List (Int × (List (Int × Int × Int × (Int → Int)) × Int))} {g : Int} {S : List (Int × Int × Int × (Int → Int)) × Int}, GW σ W g S → gA σ 731 0 (g + W.length) = x.1 → GOx σ (g + W.length) (laS S W) x.2 → GW σ (W ++ [x]) g S
  | [], g, S, _, h1, h2 => by
    rw [show g + (([] : List (Int × (List (Int × Int × Int × (Int → Int)) × Int))).length : Int) = g by show g + ((0 : Nat) : Int) = g; omega] at h1 h2
    exact ⟨h1, h2, trivial⟩
  | y :: W, g, S, ⟨a, b, c⟩, h1, h2 => by
    rw [List.length_cons] at h1 h2
    refine ⟨a, b, GW.app c ?_ ?_⟩
    · rw [show g + 1 + (W.length : Int) = g + ((W.length + 1 : Nat) : Int) by omega]; exact h1
    · rw [show g + 1 + (W.length : Int) = g + ((W.length + 1 : Nat) : Int) by omega]; exact h2
/-- what the reference's groups touch -/
def mMb (f : Nat) (o' : Int) : Prop := (712 ≤ f ∧ f ≤ 740) ∧ o' = 0
theorem sp_MbecomesSafe {tv : Nat → Int} {cf : Cf} {σ : St} {S0 S' : List (Int × Int × Int × (Int → Int)) × Int} {W : List (Int × (List (Int × Int × Int × (Int → Int)) × Int))} {k : Nat} {Q : St → Prop} (hrk : RK σ) (h0 : MR σ 0 S0) (f0 : FTs S0) (h1 : MR σ 1 S') (hW : GW σ W 0 S') (hw : gI σ 730 0 = W.length) (h8 : W.length ≤ 8) (hk : k ≤ W.length)
    (hQ : ∀ τ, MR τ 0 S0 → MR τ 1 (laS S' (W.take k)) → GW τ (W.drop k) 0 (laS S' (W.take k)) → gI τ 730 0 = ((W.drop k).length : Int) → Fr mMb σ τ → RK τ → Q τ) : wp_Model_becomesSafe cf tv k Q σ := by
  unfold wp_Model_becomesSafe
  refine lQ1_rule (fun y τ => (0 ≤ y ∧ y ≤ k) ∧ RK τ ∧ Fr mMt σ τ ∧ MR τ 0 S0 ∧ MR τ 1 (laS S' (W.take y.toNat)) ∧ GW τ (W.drop y.toNat) y (laS S' (W.take y.toNat))) (fun y _ => (k - y).toNat) ?_ 0 σ ⟨by omega, hrk, Fr.rf _ _, h0, h1, hW⟩
  intro K y τ hI hK
  obtain ⟨hy, rk, fr, m0, m1, gw⟩ := hI
  have w1 : gI τ 730 0 = W.length := by rw [fr.i _ _ (fun q => by unfold mMt at q; omega)]; exact hw
  unfold wp_Model_becomesSafe_L2
  refine ⟨fun q => ?_, fun q => ?_⟩
  · have e : y.toNat = k := by omega
    rw [e] at m1 gw
    rw [show y = k by omega] at gw
    have dl : (W.drop k).length = W.length - k := List.length_drop
    -- rows come down
    refine lQ1_rule (fun z υ => ((k : Int) ≤ z ∧ z ≤ W.length) ∧ RK υ ∧ Fr (fun f o' => (731 ≤ f ∧ f ≤ 740) ∧ o' = 0) τ υ ∧ (∀ f, (731 ≤ f ∧ f ≤ 739) → ∀ j, gA υ f 0 j = if 0 ≤ j ∧ j < z - k then gA τ f 0 (j + k) else gA τ f 0 j) ∧ ∀ j, gA υ 740 0 j = if 0 ≤ j ∧ j < 64 * (z - k) then gA τ 740 0 (j + 64 * k) else gA τ 740 0 j) (fun z _ => (W.length - z).toNat) ?_ _ τ ⟨by omega, rk, Fr.rf _ _, fun f _ j => by rw [if_neg (by omega)], fun j => by rw [if_neg (by omega)]⟩
    intro K2 z υ hI2 hK2
    obtain ⟨hz, ku, fu, vu, ru⟩ := hI2
    have w2 : gI υ 730 0 = W.length := by rw [fu.i _ _ (fun q => by omega)]; exact w1
    unfold wp_Model_becomesSafe_L21
    rw [w2]
    refine ⟨fun q2 σ38 e38 => ?_, fun q2 y3 e3 => ?_⟩
    · have ez : z = W.length := by omega
      rw [w32_id (x := (W.length : Int) - k) (by unfold rI; omega)] at e38
      have f38 : Fr (fun f o' => f = 730 ∧ o' = 0) υ σ38 := by rw [e38]; exact (Fr.rf _ _).sI ⟨rfl, rfl⟩
      have F2 : Fr (fun f o' => (730 ≤ f ∧ f ≤ 740) ∧ o' = 0) τ σ38 := (fu.mono (fun f o' q => ⟨by omega, q.2⟩)).tr (f38.mono (fun f o' q => ⟨by omega, q.2⟩))
      refine hQ σ38 (m0.fr F2 (fun g a b q => by omega)) (m1.fr F2 (fun g a b q => by omega)) ?_ (by rw [e38, gI_sI1, dl]; omega) ((fr.mono (fun f o' q => by unfold mMt at q; exact ⟨by omega, q.2⟩)).tr (F2.mono (fun f o' q => ⟨by omega, q.2⟩))) (by rw [e38]; exact ku.sI (by show rI _; unfold rI; omega))
      refine GW.eq (σ := τ) (d := k) (by rw [Int.zero_add]; exact gw) (by omega) (by omega) (fun j j0 j1 => ⟨fun f hf => ?_, ?_⟩)
      · rw [f38.a f 0 (fun q => by omega), vu f hf j, if_pos (by omega)]
      · unfold rowB
        funext i
        by_cases u : 0 ≤ i ∧ i < 64
        · rw [if_pos u, if_pos u, f38.a _ _ (fun q => by omega), ru, if_pos (by omega), show 64 * j + i + 64 * k = 64 * (j + k) + i by omega]
        · rw [if_neg u, if_neg u]
    · rw [w32_id (by unfold rI; omega)] at e3
      have i8 : (0 : Int) ≤ z ∧ z < 8 := by omega
      have j8 : (0 : Int) ≤ y3 ∧ y3 < 8 := by omega
      refine ⟨i8, j8, fun σ40 e40 => ⟨i8, j8, fun σ41 e41 => ⟨i8, j8, fun σ42 e42 => ⟨i8, j8, fun σ43 e43 => ⟨i8, j8, fun σ44 e44 => ⟨i8, j8, fun σ45 e45 => ⟨i8, j8, fun σ46 e46 => ⟨i8, j8, fun σ47 e47 => ⟨i8, j8, fun σ48 e48 => ?_⟩⟩⟩⟩⟩⟩⟩⟩⟩
      have g40 : ∀ f, 732 ≤ f → gA σ40 f 0 = gA υ f 0 := fun f hf => by rw [e40, gA_sAo (by omega)]
      have g41 : ∀ f, 733 ≤ f → gA σ41 f 0 = gA υ f 0 := fun f hf => by rw [e41, gA_sAo (by omega)]; exact g40 f (by omega)
      have g42 : ∀ f, 734 ≤ f → gA σ42 f 0 = gA υ f 0 := fun f hf => by rw [e42, gA_sAo (by omega)]; exact g41 f (by omega)
      have g43 : ∀ f, 735 ≤ f → gA σ43 f 0 = gA υ f 0 := fun f hf => by rw [e43, gA_sAo (by omega)]; exact g42 f (by omega)
      have g44 : ∀ f, 736 ≤ f → gA σ44 f 0 = gA υ f 0 := fun f hf => by rw [e44, gA_sAo (by omega)]; exact g43 f (by omega)
      have g45 : ∀ f, 737 ≤ f → gA σ45 f 0 = gA υ f 0 := fun f hf => by rw [e45, gA_sAo (by omega)]; exact g44 f (by omega)
      have g46 : ∀ f, 738 ≤ f → gA σ46 f 0 = gA υ f 0 := fun f hf => by rw [e46, gA_sAo (by omega)]; exact g45 f (by omega)
      have g47 : ∀ f, 739 ≤ f → gA σ47 f 0 = gA υ f 0 := fun f hf => by rw [e47, gA_sAo (by omega)]; exact g46 f (by omega)
      have g48 : ∀ f, 740 ≤ f → gA σ48 f 0 = gA υ f 0 := fun f hf => by rw [e48, gA_sAo (by omega)]; exact g47 f (by omega)
      rw [g40 _ (by decide)] at e41
      rw [g41 _ (by decide)] at e42
      rw [g42 _ (by decide)] at e43
      rw [g43 _ (by decide)] at e44
      rw [g44 _ (by decide)] at e45
      rw [g45 _ (by decide)] at e46
      rw [g46 _ (by decide)] at e47
      rw [g47 _ (by decide)] at e48
      have v48 : ∀ f, (731 ≤ f ∧ f ≤ 739) → ∀ j, gA σ48 f 0 j = if j = y3 then gA υ f 0 z else gA υ f 0 j := by
        intro f hf j
        have c : f = 731 ∨ f = 732 ∨ f = 733 ∨ f = 734 ∨ f = 735 ∨ f = 736 ∨ f = 737 ∨ f = 738 ∨ f = 739 := by omega
        rcases c with rfl | rfl | rfl | rfl | rfl | rfl | rfl | rfl | rfl
        · rw [e48, gA_sAo (by decide), e47, gA_sAo (by decide), e46, gA_sAo (by decide), e45, gA_sAo (by decide), e44, gA_sAo (by decide), e43, gA_sAo (by decide), e42, gA_sAo (by decide), e41, gA_sAo (by decide), e40, sA_if]
        · rw [e48, gA_sAo (by decide), e47, gA_sAo (by decide), e46, gA_sAo (by decide), e45, gA_sAo (by decide), e44, gA_sAo (by decide), e43, gA_sAo (by decide), e42, gA_sAo (by decide), e41, sA_if, g40 _ (by decide)]
        · rw [e48, gA_sAo (by decide), e47, gA_sAo (by decide), e46, gA_sAo (by decide), e45, gA_sAo (by decide), e44, gA_sAo (by decide), e43, gA_sAo (by decide), e42, sA_if, g41 _ (by decide)]
        · rw [e48, gA_sAo (by decide), e47, gA_sAo (by decide), e46, gA_sAo (by decide), e45, gA_sAo (by decide), e44, gA_sAo (by decide), e43, sA_if, g42 _ (by decide)]
        · rw [e48, gA_sAo (by decide), e47, gA_sAo (by decide), e46, gA_sAo (by decide), e45, gA_sAo (by decide), e44, sA_if, g43 _ (by decide)]
        · rw [e48, gA_sAo (by decide), e47, gA_sAo (by decide), e46, gA_sAo (by decide), e45, sA_if, g44 _ (by decide)]
        · rw [e48, gA_sAo (by decide), e47, gA_sAo (by decide), e46, sA_if, g45 _ (by decide)]
        · rw [e48, gA_sAo (by decide), e47, sA_if, g46 _ (by decide)]
        · rw [e48, sA_if, g47 _ (by decide)]
      have f48 : Fr (fun f o' => (731 ≤ f ∧ f ≤ 740) ∧ o' = 0) υ σ48 := by
        rw [e48, e47, e46, e45, e44, e43, e42, e41, e40]
        exact (((((((((Fr.rf _ _).sA ⟨by omega, rfl⟩).sA ⟨by omega, rfl⟩).sA ⟨by omega, rfl⟩).sA ⟨by omega, rfl⟩).sA ⟨by omega, rfl⟩).sA ⟨by omega, rfl⟩).sA ⟨by omega, rfl⟩).sA ⟨by omega, rfl⟩).sA ⟨by omega, rfl⟩
      have k48 : RK σ48 := by
        rw [e48, e47, e46, e45, e44, e43, e42, e41, e40]
        have a1 := ku.sA (f := 731) (o := 0) (i := y3) (v := _) (ku.2 731 0 z)
        have a2 := a1.sA (f := 732) (o := 0) (i := y3) (v := _) (ku.2 732 0 z)
        have a3 := a2.sA (f := 733) (o := 0) (i := y3) (v := _) (ku.2 733 0 z)
        have a4 := a3.sA (f := 734) (o := 0) (i := y3) (v := _) (ku.2 734 0 z)
        have a5 := a4.sA (f := 735) (o := 0) (i := y3) (v := _) (ku.2 735 0 z)
        have a6 := a5.sA (f := 736) (o := 0) (i := y3) (v := _) (ku.2 736 0 z)
        have a7 := a6.sA (f := 737) (o := 0) (i := y3) (v := _) (ku.2 737 0 z)
        have a8 := a7.sA (f := 738) (o := 0) (i := y3) (v := _) (ku.2 738 0 z)
        exact a8.sA (f := 739) (ku.2 739 0 z)
      have r48 : gA σ48 740 0 = gA υ 740 0 := g48 _ (by decide)
      clear e40 e41 e42 e43 e44 e45 e46 e47 e48
      refine lQ3_rule (fun a b i ω => a = z ∧ b = y3 ∧ (0 ≤ i ∧ i ≤ 64) ∧ RK ω ∧ Fr (fun f o' => f = 740 ∧ o' = 0) σ48 ω ∧ ∀ j, gA ω 740 0 j = if 64 * y3 ≤ j ∧ j < 64 * y3 + i then gA υ 740 0 (j + 64 * k) else gA υ 740 0 j) (fun _ _ i _ => (64 - i).toNat) ?_ _ _ 0 σ48 ⟨rfl, rfl, by omega, k48, Fr.rf _ _, fun j => by rw [r48, if_neg (by omega)]⟩
      intro K3 a b i ω hI3 hK3
      obtain ⟨ea, eb, hi, kω, fω, rω⟩ := hI3
      subst ea; subst eb
      unfold wp_Model_becomesSafe_L144
      refine ⟨fun q3 y2 e2 => ?_, fun q3 => ?_⟩
      · have ei : i = 64 := by omega
        rw [ei] at rω
        rw [w32_id (by unfold rI; omega)] at e2
        rw [e2]
        refine hK2 (a + 1) ω ⟨by omega, kω, (fu.tr f48).tr (fω.mono (fun f o' q => ⟨by omega, q.2⟩)), fun f hf j => ?_, fun j => ?_⟩ (by omega)
        · rw [fω.a f 0 (fun q => by omega), v48 f hf]
          by_cases e5 : j = b
          · rw [if_pos e5, if_pos (by omega), vu f hf a, if_neg (by omega), show j + k = a by omega]
          · rw [if_neg e5, vu f hf j]
            by_cases e6 : 0 ≤ j ∧ j < a - k
            · rw [if_pos e6, if_pos (by omega)]
            · rw [if_neg e6, if_neg (by omega)]
        · rw [rω]
          by_cases e5 : 64 * b ≤ j ∧ j < 64 * b + 64
          · rw [if_pos e5, if_pos (by omega), ru, if_neg (by omega)]
          · rw [if_neg e5, ru]
            by_cases e6 : 0 ≤ j ∧ j < 64 * (a - k)
            · rw [if_pos e6, if_pos (by omega)]
            · rw [if_neg e6, if_neg (by omega)]
      · rw [w32_id (x := 64 * a) (by unfold rI; omega), w32_id (x := 64 * b) (by unfold rI; omega), w32_id (x := 64 * a + i) (by unfold rI; omega), w32_id (x := 64 * b + i) (by unfold rI; omega)]
        refine ⟨by omega, by omega, fun σ36 e36 y4 e4 => ?_⟩
        rw [w32_id (by unfold rI; omega)] at e4
        rw [e4]
        refine hK3 a b (i + 1) σ36 ⟨rfl, rfl, by omega, by rw [e36]; exact kω.sA (f := 740) (kω.2 740 0 _), fω.tr (by rw [e36]; exact (Fr.rf _ _).sA ⟨rfl, rfl⟩), fun j => ?_⟩ (by omega)
        have src : gA ω 740 0 (64 * a + i) = gA υ 740 0 (64 * a + i) := by
          rw [rω]
          by_cases e5 : 64 * b ≤ 64 * a + i ∧ 64 * a + i < 64 * b + i
          · omega
          · rw [if_neg e5]
        rw [e36, sA_if, src, rω]
        by_cases e5 : j = 64 * b + i
        · rw [if_pos e5, if_pos (by omega), e5, show 64 * b + i + 64 * k = 64 * a + i by omega]
        · rw [if_neg e5]
          by_cases e6 : 64 * b ≤ j ∧ j < 64 * b + i
          · rw [if_pos e6, if_pos (by omega)]
          · rw [if_neg e6, if_neg (by omega)]
  · have yl : y.toNat < W.length := by omega
    have dd : W.drop y.toNat = W[y.toNat] :: W.drop (y.toNat + 1) := (List.drop_eq_getElem_cons yl)
    rw [dd] at gw
    obtain ⟨g1, ⟨op, a, b, c, d, gn, x, y', bs, g2, g3⟩, g4⟩ := gw
    refine g3 tv cf τ 1 y _ (Or.inr rfl) rk m1 g2 (fun υ mu O ku _ y2 e2 => ?_)
    rw [w32_id (by unfold rI; omega)] at e2
    rw [e2]
    have tk : W.take (y + 1).toNat = W.take y.toNat ++ [W[y.toNat]] := by
      rw [show (y + 1).toNat = y.toNat + 1 by omega]
      exact List.take_succ_eq_append_getElem yl
    have ls : laS S' (W.take (y + 1).toNat) = W[y.toNat].2 := by rw [tk, laS_app]; rfl
    refine hK (y + 1) υ ⟨by omega, ku, fr.tr O.1, O.tr2 (by decide) ⟨Or.inr rfl, Or.inl rfl⟩ m0 f0, by rw [ls]; exact mu, ?_⟩ (by omega)
    rw [ls, show (y + 1).toNat = y.toNat + 1 by omega]
    exact g4.fr (by have : (W.drop (y.toNat + 1)).length = W.length - (y.toNat + 1) := List.length_drop; omega) O.1 (fun f a b q => by unfold mMt at q; omega)
