/-! the table is put at the head of the knots -/
def mWt (f : Nat) (o' : Int) : Prop := mMd 0 f o' ∨ mWr 4 f o' ∨ ((f = 324 ∨ f = 214 ∨ f = 215) ∧ o' = 0)
theorem sp_tabput {tv : Nat → Int} {cf : Cf} {σ : St} {dk : Int → Int} {db : Int → Int → Int} {Sp : Int → Int → (Int → Int → Int) → Prop} {B s n p : Int} {U : Int → Int} {L : List (Int × Int × Int × Int × Int × Int)} {Q : St → Prop} (hc : CfOK cf) (hU : gA σ 324 0 = U) (hk : RK σ) (h : SA tv cf (gh U σ) dk db L) (hD : DJ tv cf σ 0 dk db Sp B) (hn : gI σ 451 4 = n) (n1 : n ≠ -1) (hp : gI σ 452 4 = p) (hS : p + tbl cf ≤ (cf.2.1 - 2) * 128) (hz : gI σ 216 0 = tbl cf) (hs : gI σ 202 0 = s) (hr : 0 ≤ s ∧ s < 4611686018427387904)
    (hQ : ∀ τ dk' db', SA tv cf τ dk' db' L → DJ tv cf τ 0 dk' db' Sp B → gI τ 214 0 = n → gI τ 215 0 = p → gI τ 451 4 = n → gI τ 452 4 = p + tbl cf → tbG tv cf (gA τ 324 0) (db' n) p → srl (db' n) p = s + 1 → gI τ 202 0 = s + 1 → gA τ 324 0 = upF U n (U n + tbl cf) → LGo cf σ τ dk dk' db db' → Fr mWt σ τ → Q τ) :
    ∀ σ_35, σ_35 = sI σ 214 0 (gI σ 451 (0 + 4)) → ((0 : Int) ≤ gI σ_35 214 0 ∧ gI σ_35 214 0 < (cf.1 - 6)) ∧ ((0 : Int) ≤ gI σ_35 214 0 ∧ gI σ_35 214 0 < (cf.1 - 6)) ∧ ∀ σ_36, σ_36 = sA σ_35 324 0 (gI σ_35 214 0) (w32 ((gA σ_35 324 0 (gI σ_35 214 0)) + (gI σ_35 216 0))) → wp_Row_clear cf tv (0 + 2) (fun σ_38 => RK σ_38 → wp_Row_begin cf tv (0 + 2) 10 (gI σ_38 216 0) (fun σ_40 => RK σ_40 → ∀ y1_41, y1_41 = (4 + cf.2.2) → lQ1 (wp_Store_writeTable_L106 cf tv 0 (fun σ9 => RK σ9 → Q σ9)) y1_41 σ_40) σ_38) σ_36 := by
  have hR : 0 ≤ cf.2.2 ∧ cf.2.2 ≤ 4 := hc.2.2
  have hP : 8 ≤ cf.2.1 ∧ cf.2.1 ≤ 32 := hc.2.1
  have hB : 24 ≤ cf.1 ∧ cf.1 ≤ 64 := hc.1
  have isw : isW 0 4 := Or.inr (Or.inr rfl)
  have W0 : WW cf σ 0 dk db := h.1.1.fr (gh_fr σ).2 mAc_w
  have gw : ∀ (x : St) f, (f = 451 ∨ f = 452) → gI (gh U x) f 4 = gI x f 4 := fun x f hf => by rw [gh_i, if_neg (fun q => by omega)]
  have rn : (4 + cf.2.2 ≤ n ∧ n < cf.1 - 6) ∧ 0 ≤ p := by
    rcases W0.all.1 4 isw with z | z
    · rw [hn] at z; exact absurd z n1
    · rw [hn, hp] at z; exact ⟨z.1, z.2.1.1⟩
  have en0 : eE (gh U σ) 0 dk n = p := by rw [eE_fr (gh_fr σ).1 mAc_w, eE_at W0 isw hn n1]; exact hp
  have lvn : 0 ≤ U n ∧ U n ≤ p := by
    have a := h.2.2.1 n rn.1.1 rn.1.2
    have b := a.2.2.2.1
    have c := a.2.2.1
    have d := h.nn hc (m := n) (by omega)
    rw [en0, gh_a, if_pos ⟨rfl, rfl⟩] at b
    rw [gh_a, if_pos ⟨rfl, rfl⟩] at c
    omega
  have tr := tbl_r hc
  intro σ35 e35
  have t35 : gI σ35 214 0 = n := by rw [e35, gI_sI1]; exact hn
  have z35 : gI σ35 216 0 = tbl cf := by rw [e35, gI_sI, if_neg (fun q => absurd q.1 (by decide))]; exact hz
  have l35 : gA σ35 324 0 = U := by rw [e35]; exact hU
  rw [t35, z35, l35, w32_id (by unfold rI; omega)]
  refine ⟨by omega, by omega, fun σ36 e36 => ?_⟩
  have f36 : Fr (fun f o' => (f = 324 ∨ f = 214) ∧ o' = 0) σ σ36 := by
    rw [e36, e35]; exact ((Fr.rf _ _).sI ⟨Or.inr rfl, rfl⟩).sA ⟨Or.inl rfl, rfl⟩
  have k36 : RK σ36 := by
    rw [e36, e35]
    exact (hk.sI (by show rI (gI σ 451 4); rw [hn]; unfold rI; omega)).sA (by show rI _; unfold rI; omega)
  have l36 : gA σ36 324 0 = upF U n (U n + tbl cf) := by
    funext i
    rw [e36, gA_sA]
    unfold upF
    by_cases q : i = n
    · rw [if_pos ⟨rfl, rfl, q⟩, if_pos q]
    · rw [if_neg (fun z => q z.2.2), if_neg q, l35]
  have ns36 : ∀ f o', mSA f o' → f ≠ 324 → f ≠ 214 → ¬ ((f = 324 ∨ f = 214) ∧ o' = 0) := fun f o' _ a b q => by omega
  refine sp_tbrow (u := upF U n (U n + tbl cf)) hc (Or.inl rfl) k36 (by rw [f36.i _ _ (fun q => by omega)]; exact hs) hr (by rw [f36.i _ _ (fun q => by omega)]; exact hz) l36 (fun τ1 g1 g2 g4 f1 k1 => ?_)
  have F1 : Fr (fun f o' => mMd 0 f o' ∨ ((f = 324 ∨ f = 214) ∧ o' = 0)) σ τ1 := (f36.mono (fun f o' q => Or.inr q)).tr (f1.mono (fun f o' q => Or.inl q))
  have z1 : gI τ1 216 0 = tbl cf := by rw [F1.i _ _ (fun q => by unfold mMd mRow at q; omega)]; exact hz
  have t1 : gI τ1 214 0 = n := by rw [f1.i _ _ (fun q => by unfold mMd mRow at q; omega), e36]; exact t35
  have lv1 : gA τ1 324 0 = upF U n (U n + tbl cf) := by rw [f1.a _ _ (fun q => by unfold mMd mRow at q; omega)]; exact l36
  have nw1 : ∀ f w, (w = 0 ∨ w = 0 + 2 ∨ w = 0 + 4) → 450 ≤ f → f ≤ 452 → ¬ (mMd 0 f w ∨ ((f = 324 ∨ f = 214) ∧ w = 0)) := fun f w _ a b q => by unfold mMd mRow at q; omega
  have D1 := hD.fr F1 (fun f o' a q => by unfold rBI at a; unfold mMd mRow at q; omega)
  have W1 := W0.fr F1 nw1
  have hn1 : gI τ1 451 4 = n := by rw [F1.i _ _ (fun q => by unfold mMd mRow at q; omega)]; exact hn
  have hp1 : gI τ1 452 4 = p := by rw [F1.i _ _ (fun q => by unfold mMd mRow at q; omega)]; exact hp
  have rU : ∀ i, rI (U i) := fun i => by rw [← hU]; exact hk.ai _ _ _ (by decide)
  have kgh : ∀ {x : St}, RK x → RK (gh U x) := fun k => (RK.sAr (f := 324) (o := 0) (g := U) k (fun i => rU i)).sI (by show rI (-1); unfold rI; omega)
  have gi1 : gI τ1 324 0 = gI σ 324 0 := by
    rw [(f1 324 0 (fun q => by unfold mMd mRow at q; omega)).1, e36, e35]; rfl
  have ga1 : ∀ i, gA τ1 214 0 i = gA σ 214 0 i := fun i => by
    rw [(f1 214 0 (fun q => by unfold mMd mRow at q; omega)).2 i, e36, e35]; rfl
  have S1 : SA tv cf (gh U τ1) dk db L := h.fr (Fr.asd2 F1 gi1 ga1) (fun f o' a q => by unfold mSA isW at a; unfold mMd mRow at q; omega) (kgh k1)
  generalize hg : gA τ1 512 (0 + 2) = g at g1 g2
  have r2 : rowL (0 + 2) = 320 := by unfold rowL; rw [if_pos (by omega)]
  rw [z1]
  refine sp_put3 (w := 4) (f := 512) (q := 0 + 2) (a := 0) (len := tbl cf) hc (Or.inl rfl) k1 isw D1 W1 hn1 n1 hp1 (by omega) hS (by decide) (by omega) (by rw [aln_row, r2]; omega) (by omega) (fun q => by unfold mWr mBw at q; omega) (fun τ3 dk3 D3 W3 G3 hn3 hp3 f3 k3 _ _ σ28 e28 k28 => ?_)
  rw [hg] at D3 W3 G3
  generalize hdb3 : putB db n p (tbl cf) (fun i => g (0 + i)) = db3 at D3 W3 G3
  have c3 : ∀ i, 0 ≤ i → i < tbl cf → g (0 + i) = db3 n (p + i) := fun i i0 i1 => by
    rw [← hdb3]; unfold putB
    rw [if_pos ⟨rfl, by omega, by omega⟩]
    congr 1
    omega
  have td : tbl cf = (24 + 4 * (cf.1 - 10 - cf.2.2) + 7) / 8 * 8 := rfl
  have tb3 : tbG tv cf (upF U n (U n + tbl cf)) (db3 n) p := by
    refine ⟨g1.1.ext c3, ?_, fun m m0 m1 => ?_⟩
    · rw [← c3 16 (by omega) (by omega)]; exact g1.2.1
    · rw [← g1.2.2 m m0 m1]
      refine (rI4_sh (fun i i0 i1 => ?_)).symm
      rw [show (0 : Int) + (24 + 4 * (m - (4 + cf.2.2))) + i = 0 + (24 + 4 * (m - (4 + cf.2.2)) + i) by omega, show p + (24 + 4 * (m - (4 + cf.2.2))) + i = p + (24 + 4 * (m - (4 + cf.2.2)) + i) by omega]
      exact c3 _ (by omega) (by omega)
  have sr3 : srl (db3 n) p = s + 1 := by
    rw [← g2]
    unfold srl
    refine (rL8_sh (fun i i0 i1 => ?_)).symm
    rw [Int.add_assoc, Int.add_assoc]
    exact c3 _ (by omega) (by omega)
  have ee1 : eE (gh U τ1) 0 dk n = p := by rw [eE_fr (gh_fr τ1).1 mAc_w, eE_at W1 isw hn1 n1]; exact hp1
  have ee3 : eE (gh U τ3) 0 dk3 n = p + tbl cf := by rw [eE_fr (gh_fr τ3).1 mAc_w, eE_at W3 isw hn3 n1]; exact hp3
  have ch3 : chn tv (db3 n) [tbl cf] (eE (gh U τ1) 0 dk n) (eE (gh U τ3) 0 dk3 n) := by
    rw [ee1, ee3]
    show if tbl cf = 0 then _ else _
    rw [if_neg (by omega)]
    exact ⟨tb3.v hc, rfl⟩
  have S3 : SA tv cf (gh U τ3) dk3 db3 L := S1.grow hc isw (by rw [gw _ _ (by omega)]; exact hn1) n1 (by rw [gw _ _ (by omega)]; exact hn3) W3.asd G3.asd f3.asd (kgh k3) ch3
  have fa : Fr mAc (gh U τ3) σ28 := by rw [e28]; exact (gh_fr τ3).2.sI ⟨by omega, rfl⟩
  have f28 : Fr (fun f o' => f = 215 ∧ o' = 0) τ3 σ28 := by rw [e28]; exact (Fr.rf _ _).sI ⟨rfl, rfl⟩
  have lv28 : gA σ28 324 0 = upF U n (U n + tbl cf) := by rw [f28.a _ _ (fun q => by omega), f3.a _ _ (fun q => by unfold mWr mBw at q; omega)]; exact lv1
  have t28 : gI σ28 214 0 = n := by rw [f28.i _ _ (fun q => by omega), f3.i _ _ (fun q => by unfold mWr mBw at q; omega)]; exact t1
  have z28 : gI σ28 216 0 = tbl cf := by rw [f28.i _ _ (fun q => by omega), f3.i _ _ (fun q => by unfold mWr mBw at q; omega)]; exact z1
  have od : gI σ28 390 0 = gI (gh U τ3) 390 0 := by rw [f28.i _ _ (fun q => by omega), gh_i, if_neg (fun q => by omega)]
  have os : ∀ m, oS σ28 0 m = oS (gh U τ3) 0 m := fun m => by
    unfold oS
    rw [od, fa.a 388 0 (fun q => by unfold mAc at q; omega), fa.a 389 0 (fun q => by unfold mAc at q; omega)]
  have tb0 : ∀ m, 0 ≤ m → tbS (gh U τ3) m = 0 := fun m m0 => by 
    have e : gI (gh U τ3) 214 0 = -1 := by rw [gh_i]; exact if_pos ⟨rfl, rfl⟩
    unfold tbS
    rw [e]
    exact if_neg (by omega)
  have tb1 : ∀ m, tbS σ28 m = if m = n then tbl cf else 0 := fun m => by unfold tbS; rw [t28, z28]
  have lg : ∀ m, gA (gh U τ3) 324 0 m = U m := fun m => by rw [gh_a, if_pos ⟨rfl, rfl⟩]
  have wu := S3.2.2.2.1 4 isw (by rw [gw _ _ (by omega), hn3]; exact n1)
  rw [gw _ _ (by omega), hn3, if_pos rfl] at wu
  have SF : SA tv cf σ28 dk3 db3 L := by
    refine S3.acc fa k28 hR.1 (Or.inl od) (fun m m0 m1 => ?_) (fun m m0 m1 => ?_) (fun m m0 m1 => ?_) (Or.inr ⟨by rw [t28]; exact rn.1, z28, by rw [t28, wu.2]; omega⟩)
    · have a := S3.2.2.1 m m0 m1
      have a3 := a.2.2.1
      have a4 := a.2.2.2.1
      rw [lg, tb0 m (by omega)] at a3
      rw [lg] at a4
      rw [lv28, os, tb1]
      unfold upF
      by_cases q : m = n
      · rw [if_pos q, if_pos q]
        rw [q] at a3 a4 ⊢
        exact ⟨by omega, by rw [ee3]; omega, fun z => by rw [wu.1] at z; omega⟩
      · rw [if_neg q, if_neg q]
        refine ⟨by omega, a4, fun z => ?_⟩
        have := (a.2.1 z).2.1
        rw [lg] at this; exact this
    · have a := S3.2.1.1.2.2 m m0 m1
      rw [lg] at a
      rw [lv28]
      unfold upF
      by_cases q : m = n
      · rw [if_pos q, ← q]
        have := S3.nn hc (m := m) m0
        rw [q] at a this ⊢
        omega
      · rw [if_neg q]; exact a
    · have a := S3.2.2.2.2.2.2.2 m m0 m1
      rw [lg] at a
      rw [lv28]
      unfold upF
      rw [if_neg (by omega)]; exact a
  refine hQ σ28 dk3 db3 SF (D3.fr f28 (fun f o' a q => by unfold rBI at a; omega)) t28 (by rw [e28, gI_sI1]) (by rw [f28.i _ _ (fun q => by omega)]; exact hn3) (by rw [f28.i _ _ (fun q => by omega)]; exact hp3) (by rw [lv28]; exact tb3) sr3 (by rw [f28.i _ _ (fun q => by omega), f3.i _ _ (fun q => by unfold mWr mBw at q; omega)]; exact g4) lv28 (((LGo.fr F1 nw1).tr (G3.lg (by omega))).tr (LGo.fr f28 (fun f w _ a b q => by omega))) (((F1.mono ?_).tr (f3.mono (fun f o' q => Or.inr (Or.inl q)))).tr (f28.mono (fun f o' q => Or.inr (Or.inr ⟨by omega, q.2⟩))))
  intro f o' q
  rcases q with q | q
  · exact Or.inl q
  · exact Or.inr (Or.inr ⟨by omega, q.2⟩)
