/-! Store.beginCommit, from the flush of the mover on -/
theorem fS_cat2 {σ : St} {f g : Int → List Int} : ∀ n : Nat, (∀ i : Int, 0 ≤ i → i < n → fS σ (f i) = fS σ (g i)) → fS σ (cat f n) = fS σ (cat g n)
  | 0, _ => rfl
  | n + 1, h => by
    show fS σ (cat f n ++ f n) = fS σ (cat g n ++ g n)
    rw [fS_app, fS_app, fS_cat2 n (fun i a b => h i a (by omega)), h n (by omega) (by omega)]
theorem lnL_fS {σ : St} : ∀ (l : Nat) (z : Int), fS σ (lnL σ l z) = fS σ (kl σ l z)
  | 0, z => by
    show fS σ (if gI σ 584 z = 0 then [] else [z]) = fS σ [z]
    by_cases q : gI σ 584 z = 0
    · rw [if_pos q, fS_cons, if_pos q]; rfl
    · rw [if_neg q]
  | l + 1, z => by
    show fS σ (cat (fun k => lnL σ l (be σ z k)) (gI σ 577 z).toNat ++ (if gI σ 584 z = 0 then [] else [z])) = fS σ (z :: cat (fun k => kl σ l (be σ z k)) (gI σ 577 z).toNat)
    rw [fS_app, fS_cons, fS_cat2 (g := fun k => kl σ l (be σ z k)) _ (fun i _ _ => lnL_fS l _)]
    by_cases q : gI σ 584 z = 0
    · rw [if_pos q, if_pos q, show fS σ [] = 0 from rfl]; omega
    · rw [if_neg q, if_neg q, fS_cons, if_neg q, show fS σ [] = 0 from rfl]; omega
def mB2 (f : Nat) (o' : Int) : Prop := (f = 220 ∨ f = 221 ∨ f = 222 ∨ f = 213) ∧ o' = 0
theorem sp_bc261 {tv : Nat → Int} {cf : Cf} {σ : St} {L : List (Int × Int × Int × Int × Int × Int)} {Q : St → Prop} (hrk : RK σ) (hI : IX σ 0 L) (hL : L.length ≤ 890)
    (hQ : ∀ τ l z, krt σ 0 = kl σ l z → WT σ l (if l = 0 then 0 else 2) 8 z (-BIG) BIG → (kl σ l z).length ≤ 300 → odL τ 0 = lnL σ l z → gI τ 221 0 = (lnL σ l z).length → gI τ 222 0 = 0 → gI τ 213 0 = 1 → Fr mB2 σ τ → RK τ → Q τ) : wp_Store_beginCommit_b261 cf tv 0 Q σ := by
  obtain ⟨l, z, a1, a2, a3, a4, a5⟩ := hI.krt
  have few := a2.few (by rw [a5]; omega)
  have ll := lnL_len (σ := σ) l z
  unfold wp_Store_beginCommit_b261
  intro σ1 e1 σ2 e2
  have f2 : Fr mB2 σ σ2 := by rw [e2, e1]; exact ((Fr.rf _ _).sI ⟨Or.inr (Or.inl rfl), rfl⟩).sI ⟨Or.inr (Or.inr (Or.inl rfl)), rfl⟩
  have k2 : RK σ2 := by rw [e2, e1]; exact (hrk.sI (by show rI 0; unfold rI; omega)).sI (by show rI 0; unfold rI; omega)
  have nk : ∀ f x, 576 ≤ f → f ≤ 587 → ¬ mB2 f x := fun f x a b q => by unfold mB2 at q; omega
  have ke : ∀ x, KE σ σ2 x := fun x => KE.fr f2 (fun f a b => nk f x a (Nat.le_trans b (by decide)))
  have lne : lnL σ2 l z = lnL σ l z := lnL_fr (fun x => f2.i _ _ (nk _ _ (by decide) (by decide))) (fun x => f2.i _ _ (nk _ _ (by decide) (by decide))) (fun x k => (ke x).b k) l z
  have o2 : gI σ2 221 0 = 0 := by rw [e2, gI_sIo (by decide), e1, gI_sI1]
  have od2 : odL σ2 0 = [] := by unfold odL; rw [o2]; rfl
  rw [show gI σ2 387 0 = z by rw [f2.i _ _ (fun q => by unfold mB2 at q; omega)]; exact a4]
  refine sp_line l 12 σ2 z _ _ _ _ (by omega) k2 (a2.fr (fun x _ => ke x)) (by omega) (by rw [o2, lne]; omega) (fun τ od oc fr rk _ τ' e' => ?_)
  rw [od2, List.nil_append, lne] at od
  rw [o2, lne] at oc
  have ft : Fr (fun f o' => f = 213 ∧ o' = 0) τ τ' := by rw [e']; exact (Fr.rf _ _).sI ⟨rfl, rfl⟩
  refine hQ τ' l z a1 a2 few.2 ?_ ?_ ?_ (by rw [e', gI_sI1]) ((f2.tr (fr.mono (fun f o' q => by unfold mOd at q; exact ⟨by omega, q.2⟩))).tr (ft.mono (fun f o' q => ⟨by omega, q.2⟩))) (by rw [e']; exact rk.sI (by show rZ 1; unfold rZ; omega))
  · unfold odL
    rw [ft.a _ _ (fun q => by omega), ft.i _ _ (fun q => by omega)]; exact od
  · rw [ft.i _ _ (fun q => by omega), oc]; omega
  · rw [ft.i _ _ (fun q => by omega), fr.i _ _ (fun q => by unfold mOd at q; omega), e2, gI_sI1]
def mBg (f : Nat) (o' : Int) : Prop := mWr 2 f o' ∨ mMl f o' ∨ mRow 4 f o' ∨ mB2 f o' ∨ ((f = 219 ∨ f = 208 ∨ f = 212 ∨ f = 202 ∨ f = 209 ∨ f = 210 ∨ f = 211 ∨ f = 323) ∧ o' = 0)
/-- a commit may begin -/
def BCn (tv : Nat → Int) (cf : Cf) (σ : St) (dk : Int → Int) (db : Int → Int → Int) (L : List (Int × Int × Int × Int × Int × Int)) (c0 cO lO s : Int) : Prop := (gI σ 208 0 = lO ∧ (lO = 2 ∨ lO = 3) ∧ gI σ 212 0 = cO ∧ 0 ≤ cO ∧ cO + 1 < 1073741824) ∧ ((1 ≤ dk (5 - lO) → rI4 (db (5 - lO)) 24 ≤ c0) ∧ (1 ≤ dk lO → rI4 (db lO) 24 ≤ cO + 1)) ∧ (∀ m, (m = 0 ∨ m = 1) → ∀ k, 0 ≤ k → k < dk m → srl (db m) (128 * k) ≤ s) ∧ (NSb cf σ dk db s ∧ KSr σ db s) ∧ flu σ 0 ∧ ((orL σ 0).Perm (nlL (AM db L)) ∧ 0 ≤ gI σ 218 0 ∧ gI σ 218 0 ≤ 8) ∧ ((0 ≤ gI σ 211 0 ∧ gI σ 211 0 ≤ 8) ∧ ∀ k, 0 ≤ k → k < gI σ 211 0 → (4 + cf.2.2 ≤ gA σ 210 0 k ∧ gA σ 210 0 k < cf.1 - 6) ∧ gA σ 323 0 (gA σ 210 0 k) ≠ 0 ∧ (gA σ 210 0 k = gI σ 451 0 ∨ ¬ hld σ 0 (gA σ 210 0 k))) ∧ gI σ 390 0 + nfr σ (krt σ 0) ≤ 320 ∧ ∀ k, 4 + cf.2.2 ≤ k → k < cf.1 - 6 → gA σ 325 0 k ≠ 0 → gA σ 323 0 k = 2 → k = gI σ 451 4
/-- the new log: its page 0, and the head's bud -/
def NBd (tv : Nat → Int) (σ : St) (dk : Int → Int) (db : Int → Int → Int) (lg s : Int) : Prop := gI σ 209 0 = dk lg ∧ ((gI σ 451 0 = -1 ∧ dk lg = 1 ∧ gI σ 202 0 = s + 1 ∧ gI σ 211 0 = 0) ∨ (gI σ 451 0 ≠ -1 ∧ dk lg = 2 ∧ shP tv (db lg) 128 8 (s + 2) (gI σ 451 0) (gI σ 452 0) ∧ gI σ 202 0 = s + 2 ∧ gI σ 211 0 = 1 ∧ gA σ 210 0 0 = gI σ 451 0))
/-- behind its beginning -/
def BCo (cf : Cf) (σ τ : St) (dk dk' : Int → Int) (db db' : Int → Int → Int) (lO : Int) : Prop := (∀ m, 0 ≤ m → m < cf.1 - 6 → m ≠ 5 - lO → (m ≠ gI σ 451 2 → dk' m = dk m) ∧ lmF dk m ≤ lmF dk' m ∧ eE σ 0 dk m ≤ eE τ 0 dk' m ∧ ∀ p, p < eE σ 0 dk m → db' m p = db m p) ∧ (krt τ 0 = krt σ 0 ∧ ∀ x, KE σ τ x ∧ OE σ τ x) ∧ ((emp cf (gA τ 323 0) = emp cf (gA σ 323 0) ∧ (gI σ 451 2 ≠ -1 → gI τ 452 2 ≤ gI σ 452 2 + 127)) ∧ rmy cf (gA τ 323 0) (gA τ 325 0) = rmy cf (gA σ 323 0) (gA σ 325 0)) ∧ (∀ m, gA τ 323 0 m = gA σ 323 0 m ∨ (gA τ 323 0 m = 1 ∧ gA σ 323 0 m ≠ 0)) ∧ (∀ k, 0 ≤ k → k < gI σ 211 0 → gA σ 210 0 k ≠ gI σ 451 0 → gA τ 323 0 (gA σ 210 0 k) = 1) ∧ gI τ 213 0 = 1 ∧ Fr mBg σ τ
def mB3 (f : Nat) (o' : Int) : Prop := mMl f o' ∨ mRow 4 f o' ∨ mB2 f o' ∨ ((f = 219 ∨ f = 208 ∨ f = 212 ∨ f = 202 ∨ f = 209 ∨ f = 210 ∨ f = 211 ∨ f = 323) ∧ o' = 0)
theorem sp_bcfin {tv : Nat → Int} {cf : Cf} {σ σ1 σ13 : St} {dk dk1 dk' : Int → Int} {db db1 db' : Int → Int → Int} {B c0 b0 cO lO s G : Int} {r : RT} {L : List (Int × Int × Int × Int × Int × Int)} {Q : St → Prop} (hc : CfOK cf) (h : SA tv cf σ dk db L) (hL : L.length ≤ 880) (hN : BCn tv cf σ dk db L c0 cO lO s) (hG : cst cf (fS σ (krt σ 0)) + G ≤ emp cf (gA σ 323 0)) (fl1 : flu σ1 2) (pl1 : gI σ 451 2 ≠ -1 → gI σ1 452 2 ≤ gI σ 452 2 + 127) (lg1 : LGo cf σ σ1 dk dk1 db db1) (d1 : ∀ m, m ≠ gI σ 451 2 → dk1 m = dk m ∧ ∀ p, db1 m p = db m p) (dd : ∀ m, m ≠ 5 - lO → dk' m = dk1 m ∧ ∀ p, db' m p = db1 m p) (S13 : SA tv cf σ13 dk' db' L) (D13 : DJ tv cf σ13 0 dk' db' (SpC cf c0 b0 r) (B + 6)) (F13 : Fr mBg σ σ13) (f113 : Fr mB3 σ1 σ13)
    (u11 : ∀ m, gA σ13 323 0 m = gA σ 323 0 m ∨ (gA σ13 323 0 m = 1 ∧ ∃ k, (0 ≤ k ∧ k < gI σ 211 0) ∧ gA σ 210 0 k = m ∧ m ≠ gI σ 451 0)) (v11 : ∀ k, 0 ≤ k → k < gI σ 211 0 → gA σ 210 0 k ≠ gI σ 451 0 → gA σ13 323 0 (gA σ 210 0 k) = 1) (lp : lgP tv dk' db' (5 - lO) (s + 1) (cO + 1) (AM db' L)) (sge : s + 1 ≤ gI σ13 202 0) (l12 : gI σ13 208 0 = 5 - lO) (ol3 : gI σ13 219 0 = lO) (c5 : gI σ13 212 0 = cO + 1) (nbd : NBd tv σ13 dk' db' (5 - lO) s) (k13 : RK σ13)
    (hQ : ∀ τ dk' db' R NW, SA tv cf τ dk' db' L → DJ tv cf τ 0 dk' db' (SpC cf c0 b0 r) (B + 6) → CI tv cf τ dk' db' L (cO + 1) (5 - lO) (s + 1) (gI τ 202 0) 0 0 G R NW ((krt σ 0).filter (fun x => decide (gI σ 584 x = 0))) → fS τ R = fS σ (krt σ 0) → NBd tv τ dk' db' (5 - lO) s → BCo cf σ τ dk dk' db db' lO → RK τ → Q τ) : wp_Store_beginCommit_b261 cf tv 0 Q σ13 := by
  have hR : 0 ≤ cf.2.2 ∧ cf.2.2 ≤ 4 := hc.2.2
  have hBl : 24 ≤ cf.1 ∧ cf.1 ≤ 64 := hc.1
  obtain ⟨⟨g1, g2, g3, g4⟩, ⟨g5, g6⟩, g7, ⟨g8, g9⟩, g10, ⟨g11, g12⟩, ⟨g13, g14⟩, g15, g16⟩ := hN
  have nwB : ∀ w, (w = 0 ∨ w = 2 ∨ w = 4) → ¬ mBg 451 w := fun w hw q => by unfold mBg mWr mMl mBw mMv mRow mB2 at q; omega
  have n2 : gI σ 451 2 = -1 ∨ 4 + cf.2.2 ≤ gI σ 451 2 := by
    rcases h.1.1.all.1 2 (Or.inr (Or.inl rfl)) with q | q
    · exact Or.inl q
    · exact Or.inr q.1.1
  refine sp_bc261 k13 S13.2.1.1.1 (by omega) (fun τ l z w1 w2 w3 w4 w5 w6 w7 ft kt => ?_)
  have St := S13.fr ft (fun f o' a q => by unfold mSA isW at a; unfold mB2 at q; omega) kt
  have Dt := D13.fr ft (fun f o' a q => by unfold rBI at a; unfold mB2 at q; omega)
  have Ft : Fr mBg σ τ := F13.tr (ft.mono (fun f o' q => Or.inr (Or.inr (Or.inr (Or.inl q)))))
  have nkB : ∀ f x, 576 ≤ f → f ≤ 587 → ¬ mBg f x := fun f x a b q => by unfold mBg mWr mMl mBw mMv mRow mB2 at q; omega
  obtain ⟨kr, ko⟩ := krt_fr (o := 0) Ft nkB (fun q => by unfold mBg mWr mMl mBw mMv mRow mB2 at q; omega)
  have nk13 : ∀ f x, 576 ≤ f → f ≤ 587 → ¬ mB2 f x := fun f x a b q => by unfold mB2 at q; omega
  obtain ⟨kr3, ko3⟩ := krt_fr (o := 0) ft nk13 (fun q => by unfold mB2 at q; omega)
  have ust : gA τ 323 0 = gA σ13 323 0 := by
    exact ft.a _ _ (fun q => by unfold mB2 at q; omega)
  have oxt : gA τ 325 0 = gA σ 325 0 := Ft.a _ _ (fun q => by unfold mBg mWr mMl mBw mMv mRow mB2 at q; omega)
  have wnt : ∀ w, isW 0 w → gI τ 451 w = gI σ 451 w := fun w hw => Ft.i _ _ (nwB w (by unfold isW at hw; omega))
  have srt : gI τ 202 0 = gI σ13 202 0 := ft.i _ _ (fun q => by unfold mB2 at q; omega)
  have use0 : ∀ m, gA τ 323 0 m = 0 ↔ gA σ 323 0 m = 0 := fun m => by
    rw [ust]
    rcases u11 m with q | ⟨q1, k, q2, q3, q4⟩
    · rw [q]
    · have w := (g14 k q2.1 q2.2).2.1
      rw [q3] at w
      exact ⟨fun y => absurd y (by omega), fun y => absurd y w⟩
  have emt : emp cf (gA τ 323 0) = emp cf (gA σ 323 0) := by
    have := cnt_eq (p := fun k => 4 + cf.2.2 ≤ k ∧ gA τ 323 0 k = 0) (q := fun k => 4 + cf.2.2 ≤ k ∧ gA σ 323 0 k = 0) (cf.1 - 6).toNat (fun i _ _ => and_congr_right (fun _ => use0 i))
    unfold emp; omega
  have rmt : rmy cf (gA τ 323 0) (gA τ 325 0) = rmy cf (gA σ 323 0) (gA σ 325 0) := by
    have := cnt_eq (p := fun k => 4 + cf.2.2 ≤ k ∧ (gA τ 323 0 k = 0 ∨ gA τ 325 0 k ≠ 0)) (q := fun k => 4 + cf.2.2 ≤ k ∧ (gA σ 323 0 k = 0 ∨ gA σ 325 0 k ≠ 0)) (cf.1 - 6).toNat (fun i _ _ => and_congr_right (fun _ => or_congr (use0 i) (by rw [oxt])))
    unfold rmy; omega
  -- numbers from the beginning on
  have nh5 : ∀ m, m < 4 + cf.2.2 → 0 ≤ m → eE σ 0 dk m = lmF dk m := fun m m1 m0 => h.nhl m0 m1
  have f1t : Fr mB3 σ1 τ := f113.tr (ft.mono (fun f o' q => Or.inr (Or.inr (Or.inl q))))
  have nw1t : ∀ (f : Nat) (w : Int), (w = 0 ∨ w = 0 + 2 ∨ w = 0 + 4) → 450 ≤ f → f ≤ 452 → ¬ mB3 f w := fun f w hw a b q => by unfold mB3 mMl mBw mMv mRow mB2 at q; omega
  have BD : ∀ m, 0 ≤ m → m < cf.1 - 6 → m ≠ 5 - lO → (m ≠ gI σ 451 2 → dk' m = dk m) ∧ lmF dk m ≤ lmF dk' m ∧ eE σ 0 dk m ≤ eE τ 0 dk' m ∧ ∀ p, p < eE σ 0 dk m → db' m p = db m p := by
    intro m m0 m1 ne
    have de : dk' m = dk1 m := (dd m ne).1
    obtain ⟨y1, y2, y3⟩ := lg1.1 m m0 m1
    have ee : eE τ 0 dk' m = eE σ1 0 dk1 m := by rw [eE_fr f1t nw1t]; unfold eE; rw [de]
    refine ⟨fun q => by rw [de]; exact (d1 m q).1, ?_, by rw [ee]; exact y1, fun p p1 => by rw [(dd m ne).2]; exact y3 p p1⟩
    have : lmF dk' m = lmF dk1 m := by unfold lmF; rw [de]
    rw [this]; exact y2
  have fsE : fS τ (lnL σ13 l z) = fS σ (krt σ 0) := by
    have e1 : ∀ K : List Int, fS τ K = fS σ13 K := fun K => by
      unfold fS
      congr 1
      exact List.map_congr_left (fun y _ => by rw [(ko3 y).2.1, (ko3 y).1.2.1])
    have e2 : ∀ K : List Int, fS τ K = fS σ K := fun K => by
      unfold fS
      congr 1
      exact List.map_congr_left (fun y _ => by rw [(ko y).2.1, (ko y).1.2.1])
    rw [e1, lnL_fS, ← w1, ← kr3, ← e1, e2, kr]
  refine hQ τ dk' db' (lnL σ13 l z) (if gI σ 451 4 = -1 then [] else [gI σ 451 4]) St Dt ⟨⟨⟨lnL_nd w2, fun x => ?_, ?_⟩, ?_, [], ?_, ?_, ?_, ?_⟩, ⟨⟨?_, ?_⟩, ⟨?_, by omega, ?_, ?_, by omega, by omega⟩, lp, ⟨by rw [srt]; exact sge, fun m hm k k0 k1 => ?_⟩, fun q => ?_, fun m m0 m1 hm => ?_, fun m m0 m1 hm => ?_⟩, ⟨⟨by omega, by omega, ?_⟩, Or.inl rfl, ?_, ⟨?_, fun q => ?_, fun x hx hf => Or.inl ?_⟩, fun k k0 k1 a b => ?_⟩, fun x hx hf => ?_⟩ ?_ ?_ ⟨BD, ⟨kr, ko⟩, ⟨⟨emt, fun q => by rw [f1t.i 452 2 (nw1t _ 2 (Or.inr (Or.inl rfl)) (by decide) (by decide))]; exact pl1 q⟩, rmt⟩, fun m => ?_, fun k k0 k1 ne => by rw [ust]; exact v11 k k0 k1 ne, w7, Ft⟩ kt
  · rw [kr3, w1, (ko3 x).2.1]
    exact ⟨fun q => lnL_kl _ _ _ q, fun q => kl_lnL _ _ _ q.1 q.2⟩
  · exact lnO.step (fun x => (ko3 x).1.2.1) (fun x k => (ko3 x).1.b k) (fun x q => by rw [(ko3 x).2.1]; exact q) (lnL_O w2 (fun _ => False)) (fun y hy => Or.inr hy)
  · have a := lnL_len (σ := σ13) l z
    rw [Ft.i 390 0 (fun q => by unfold mBg mWr mMl mBw mMv mRow mB2 at q; omega), kr, nfr_ext (σ := σ) (τ := τ) (fun x _ => (ko x).2.1)]
    omega
  · rw [w4]; rfl
  · rw [w6]; rfl
  · rw [w5]; show _ = ((0 : Nat) : Int) + _; omega
  · have a := lnL_len (σ := σ13) l z
    rw [w5]; omega
  · unfold flu
    rw [wnt 0 (Or.inl rfl), Ft.i 452 0 (fun q => by unfold mBg mWr mMl mBw mMv mRow mB2 at q; omega)]; exact g10
  · unfold flu
    rw [f1t.i 451 2 (nw1t _ 2 (by omega) (by decide) (by decide)), f1t.i 452 2 (nw1t _ 2 (by omega) (by decide) (by decide))]; exact fl1
  · rw [ft.i _ _ (fun q => by unfold mB2 at q; omega)]; exact l12
  · rw [ft.i _ _ (fun q => by unfold mB2 at q; omega), ol3]; omega
  · rw [ft.i _ _ (fun q => by unfold mB2 at q; omega)]; exact c5
  · obtain ⟨y1, -, -, y4⟩ := BD m (by omega) (by omega) (by omega)
    rw [y1 (by omega)] at k1
    have e : srl (db' m) (128 * k) = srl (db m) (128 * k) := srl_ext (n := 128) (by omega) (fun p p0 p1 => y4 p (by rw [nh5 m (by omega) (by omega)]; unfold lmF; omega))
    have := g7 m hm k k0 k1
    omega
  · rw [show 5 - (5 - lO) = lO by omega] at q ⊢
    obtain ⟨y1, -, -, y4⟩ := BD lO (by omega) (by omega) (by omega)
    rw [y1 (by omega)] at q
    rw [rI4_ext (h := db lO) (fun i i0 i1 => y4 i (by rw [nh5 lO (by omega) (by omega)]; unfold lmF; omega))]
    exact g6 q
  · have hm' : gA σ 323 0 m ≠ 0 := fun z => hm ((use0 m).mpr z)
    obtain ⟨y1, y2, y3, y4⟩ := BD m (by omega) m1 (by omega)
    obtain ⟨x1, x2, x3⟩ := g8 m m0 m1 hm'
    obtain ⟨e1, e2⟩ := nSr (g := db m) (h := db' m) (fun p p0 p1 => y4 p (by omega))
    rw [e1, e2]
    exact ⟨by omega, x2, by omega⟩
  · have hm' : gA σ 323 0 m ≠ 0 := fun z => hm ((use0 m).mpr z)
    obtain ⟨y1, y2, y3, y4⟩ := BD m (by omega) m1 (by omega)
    obtain ⟨x1, x2, x3⟩ := g8 m m0 m1 hm'
    obtain ⟨e1, e2⟩ := nSr (g := db m) (h := db' m) (fun p p0 p1 => y4 p (by omega))
    rw [e2]
    exact Or.inl (by omega)
  · exact (fS_rng (σ := τ) (K := lnL σ13 l z) (fun y hy => krt_cnt St.2.1.1.1 y (by rw [kr3, w1]; exact (lnL_kl _ _ _ hy).1))).1
  · rw [emt, Int.zero_add, fsE]; omega
  · split
    · show ((0 : Nat) : Int) ≤ 0 + 1; omega
    · show ((1 : Nat) : Int) ≤ 0 + 1; omega
  · rw [wnt 4 (Or.inr (Or.inr rfl))] at q ⊢
    rw [if_neg q]; exact List.mem_singleton.mpr rfl
  · rw [kr] at hx
    rw [(ko x).2.1] at hf
    exact List.mem_filter.mpr ⟨hx, decide_eq_true hf⟩
  · rw [wnt 4 (Or.inr (Or.inr rfl))]
    rw [oxt] at a
    refine g16 k k0 k1 a ?_
    rw [ust] at b
    rcases u11 k with q | q
    · rw [← q]; exact b
    · omega
  · have hx' : x ∈ krt σ 0 := by rw [← kr]; exact hx
    have hf' : gI σ 584 x = 0 := by rw [← (ko x).2.1]; exact hf
    obtain ⟨b1, b2⟩ := h.2.2.2.2.1 x hx' hf'
    have sz := b1.sz (krt_cnt h.2.1.1.1 x hx')
    have rr := b1.2.2.1
    obtain ⟨y1, y2, y3, y4⟩ := BD (gI σ 585 x) (by omega) rr.2 (by omega)
    rw [(ko x).2.2.1, (ko x).2.2.2.1, srl_ext (g := db (gI σ 585 x)) (n := gI σ 587 x) (by omega) (fun p p0 p1 => y4 p (by have := b1.2.2.2.2.1; omega))]
    have := g9 x hx' hf'
    omega
  · exact fsE
  · unfold NBd
    rw [ft.i 209 0 (fun q => by unfold mB2 at q; omega), ft.i 451 0 (fun q => by unfold mB2 at q; omega), ft.i 452 0 (fun q => by unfold mB2 at q; omega), srt, ft.i 211 0 (fun q => by unfold mB2 at q; omega), ft.a 210 0 (fun q => by unfold mB2 at q; omega)]
    exact nbd
  · rw [ust]
    rcases u11 m with q | ⟨q1, k, q2, q3, q4⟩
    · exact Or.inl q
    · have w := (g14 k q2.1 q2.2).2.1
      rw [q3] at w
      exact Or.inr ⟨q1, w⟩
theorem mLb_Bg : ∀ f o', mLb 0 f o' → mBg f o' := fun f o' q => by
  unfold mLb at q
  rcases q with q | q | q
  · exact Or.inr (Or.inl (Or.inl q))
  · exact Or.inr (Or.inr (Or.inl q))
  · exact Or.inr (Or.inr (Or.inr (Or.inr ⟨by omega, q.2⟩)))
theorem mLb_B3 : ∀ f o', mLb 0 f o' → mB3 f o' := fun f o' q => by
  unfold mLb at q
  rcases q with q | q | q
  · exact Or.inl (Or.inl q)
  · exact Or.inr (Or.inl q)
  · exact Or.inr (Or.inr (Or.inr ⟨by omega, q.2⟩))
