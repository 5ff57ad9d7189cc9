/-! what a bud has is done again -/
/-- no head writes -/
def noW (σ : St) (o : Int) : Prop := gI σ 451 o = -1 ∧ gI σ 451 (o + 2) = -1 ∧ gI σ 451 (o + 4) = -1
theorem noW.w {σ : St} {o : Int} (h : noW σ o) (cf : Cf) (dk : Int → Int) (db : Int → Int → Int) : WW cf σ o dk db := ⟨Or.inl h.1, Or.inl h.2.1, Or.inl h.2.2, Or.inl h.1, Or.inl h.2.1⟩
theorem noW.fr {σ τ : St} {o : Int} {M : Nat → Int → Prop} (h : noW σ o) (f : Fr M σ τ) (n : ∀ w, (w = o ∨ w = o + 2 ∨ w = o + 4) → ¬ M 451 w) : noW τ o := by
  unfold noW
  rw [f.i _ _ (n o (Or.inl rfl)), f.i _ _ (n (o + 2) (Or.inr (Or.inl rfl))), f.i _ _ (n (o + 4) (Or.inr (Or.inr rfl)))]
  exact h
def mRp (o : Int) (f : Nat) (o' : Int) : Prop := mRd2 o o f o' ∨ mAp o f o' ∨ ((f = 228 ∨ f = 202) ∧ o' = o)
/-- keys and counted bytes, from one state to another -/
def XP (cf : Cf) (σ τ : St) (o : Int) (L L' : List (Int × Int × Int × Int × Int × Int)) : Prop := CK σ τ o ∧ (∀ m, 0 ≤ m → m < cf.1 - 6 → gA τ 324 o m - lS L' m = gA σ 324 o m - lS L m) ∧ Fr (mRp o) σ τ
theorem XP.tr {cf : Cf} {a b c : St} {o : Int} {L M N : List (Int × Int × Int × Int × Int × Int)} (h : XP cf a b o L M) (k : XP cf b c o M N) : XP cf a c o L N := ⟨h.1.tr k.1, fun m m0 m1 => (k.2.1 m m0 m1).trans (h.2.1 m m0 m1), h.2.2.tr k.2.2⟩
theorem XQ.p {cf : Cf} {σ τ : St} {o : Int} {L L' : List (Int × Int × Int × Int × Int × Int)} (h : XQ cf σ τ o L L') : XP cf σ τ o L L' := ⟨h.1, h.2.1, h.2.2.mono (fun f o' q => Or.inr (Or.inl q))⟩
def mRq (o : Int) (f : Nat) (o' : Int) : Prop := mRd2 o o f o' ∨ ((f = 228 ∨ f = 202) ∧ o' = o)
theorem mRq_no {o : Int} : ∀ f o', mRs o f o' → ¬ mRq o f o' := fun f o' a q => by unfold mRs at a; unfold mRq mRd2 mPg mRow at q; omega
theorem XP.q {cf : Cf} {σ τ : St} {o : Int} {L : List (Int × Int × Int × Int × Int × Int)} (f : Fr (mRq o) σ τ) : XP cf σ τ o L L := by
  refine ⟨CK.fr f (fun f x a b => mRq_no f x (Or.inr (Or.inl ⟨a, b⟩))) (fun f a b => mRq_no f o (Or.inr (Or.inr (Or.inl ⟨⟨a, b⟩, rfl⟩)))), fun m _ _ => ?_, f.mono (fun f o' q => by
    rcases q with q | q
    · exact Or.inl q
    · exact Or.inr (Or.inr q))⟩
  rw [f.a 324 o (mRq_no _ _ (Or.inr (Or.inr (Or.inr ⟨rfl, rfl⟩))))]
theorem mRp_b {o : Int} : ∀ f o', rBI o f o' → ¬ mRp o f o' := fun f o' a q => by
  unfold rBI at a
  unfold mRp mRd2 mPg mRow mAp mIx mOr at q
  omega
theorem mRp_w {o : Int} : ∀ f w, 450 ≤ f → f ≤ 452 → ¬ mRp o f w := fun f w a b q => by
  unfold mRp mRd2 mPg mRow mAp mIx mOr at q
  omega
/-- where numbers end on the flash -/
def lmF (dk : Int → Int) : Int → Int := fun n => 128 * max 0 (dk n)
theorem sp_redo {tv : Nat → Int} {cf : Cf} {σ : St} {o : Int} {dk : Int → Int} {db : Int → Int → Int} {Sp : Int → Int → (Int → Int → Int) → Prop} {B : Int} (hc : CfOK cf) (ho : o = 0 ∨ o = 1) (hrk : RK σ) {n a m X : Int} {S : List (Int × Int × Int × (Int → Int)) × Int} {L : List (Int × Int × Int × Int × Int × Int)} {Q : Int → St → Prop} (hD : DJ tv cf σ o dk db Sp B) (hW : noW σ o) (h : RS tv cf db (lmF dk) X σ o S L) (hS : okS S) (hm : 4 + cf.2.2 ≤ m ∧ m < cf.1 - 6) (ha : 0 ≤ a) (hl : a + n ≤ lmF dk m) (w : jnV tv (db m) a n) (hon : onC tv (db m) a) (hX : srl (db m) a ≤ X)
    (hQ : ∀ τ L', RS tv cf db (lmF dk) X τ o (apS (db m) a n S) L' → XP cf σ τ o L L' → (∀ k, lS L' k ≤ lS L k + (if k = m then n else 0)) → gI τ 228 o = gI σ 228 o → gI τ 202 o = gI σ 202 o → Q n τ) : wp_Store_redo cf tv o m a Q σ := by
  have hR : 0 ≤ cf.2.2 ∧ cf.2.2 ≤ 4 := hc.2.2
  have hP : 8 ≤ cf.2.1 ∧ cf.2.1 ≤ 32 := hc.2.1
  have nn := w.n
  have dm := hD.k hc (n := m) ⟨by omega, hm.2⟩
  have lme : lmF dk m = 128 * max 0 (dk m) := rfl
  have no := rowL_r o
  have ro : rowL o = 320 := by unfold rowL; rw [if_pos (by omega)]
  unfold wp_Store_redo
  refine sp_look hc hD (hW.w cf dk db) ⟨by omega, hm.2⟩ ha (by omega) (by omega) (lim := lmF dk m) rfl (fun τ q f => ?_) (fun τ q1 q2 f => ?_) (fun τ k q1 q2 q3 q4 q5 q6 q7 f _ rk => ?_)
  · exfalso
    have e := w.1.2.1
    rcases q with q | q
    · omega
    · rw [e] at q
      rcases q.2 with q | q | q | q
      · omega
      · omega
      · omega
      · exact q w.1
  · exfalso
    have e := w.1.2.1
    omega
  · have ek : k = n := by rw [← q1]; exact w.1.2.1
    rw [ek] at q5 ⊢
    have fq : Fr (mRq o) σ τ := f.mono (fun f o' q => Or.inl q)
    have e0 : ∀ j, 0 ≤ j → j < n → gA τ 512 o (0 + j) = db m (a + j) := fun j j0 j1 => by rw [Int.zero_add]; exact q5 j j0 j1
    have w' : jnV tv (gA τ 512 o) 0 n := w.sh (fun j j0 j1 => (e0 j j0 j1).symm)
    refine sp_ap1 (p := a) (n := n) ho rk (h.fr fq mRq_no) hS rfl q6 (by omega) (by omega) w' hm hR.1 ⟨ha, hl⟩ e0 hon (by
      have : srl (gA τ 512 o) 0 = srl (db m) a := rL8_sh (fun i i0 i1 => by
        rw [show (0 : Int) + 8 + i = 0 + (8 + i) by omega, show a + 8 + i = a + (8 + i) by omega]
        exact e0 _ (by omega) (by omega))
      rw [this]; exact hX) (fun υ r x _ => ?_)
    have es : apS (gA τ 512 o) 0 n S = apS (db m) a n S := by
      unfold apS
      rw [apM_sh (b := a) (h := db m) (apM_n w') e0, ← e0 16 (by omega) (by omega), rI4_sh (g := gA τ 512 o) (h := db m) (a := 0 + 24) (b := a + 24) (fun i i0 i1 => by rw [show (0 : Int) + 24 + i = 0 + (24 + i) by omega, show a + 24 + i = a + (24 + i) by omega]; exact e0 _ (by omega) (by omega))]
    rw [es] at r
    have nx : ∀ f, (f = 228 ∨ f = 202) → ¬ mAp o f o := fun f a q => by unfold mAp mIx mOr at q; omega
    have ny : ∀ f, (f = 228 ∨ f = 202) → ¬ mRd2 o o f o := fun f a q => by unfold mRd2 mPg mRow at q; omega
    refine hQ υ _ r ((XP.q fq).tr x.p) (fun k => lS_ap h.1.2.1 (by omega) k) ?_ ?_
    · rw [x.2.2.i _ _ (nx _ (Or.inl rfl)), f.i _ _ (ny _ (Or.inl rfl))]
    · rw [x.2.2.i _ _ (nx _ (Or.inr rfl)), f.i _ _ (ny _ (Or.inr rfl))]
/-- what is kept all through -/
def BD0 (tv : Nat → Int) (cf : Cf) (σ τ : St) (o : Int) (dk : Int → Int) (db : Int → Int → Int) (X m a : Int) (S : List (Int × Int × Int × (Int → Int)) × Int) (L L' : List (Int × Int × Int × Int × Int × Int)) : Prop := RK τ ∧ RS tv cf db (lmF dk) X τ o S L' ∧ XP cf σ τ o L L' ∧ (gA τ 324 o m ≤ max (gA σ 324 o m) a) ∧ (∀ k, 0 ≤ k → k < cf.1 - 6 → k ≠ m → gA τ 324 o k ≤ gA σ 324 o k)
theorem sp_redos {tv : Nat → Int} {cf : Cf} {σ : St} {o : Int} {dk : Int → Int} {db : Int → Int → Int} {Sp : Int → Int → (Int → Int → Int) → Prop} {B : Int} (hc : CfOK cf) (ho : o = 0 ∨ o = 1) {m X : Int} {L : List (Int × Int × Int × Int × Int × Int)} {x2 x3 : Int} {Q : St → Prop} {K141 : Int → Int → Int → St → Prop} (hD : DJ tv cf σ o dk db Sp B) (hW : noW σ o) (hm : 4 + cf.2.2 ≤ m ∧ m < cf.1 - 6) {u : List Int} {a b s s' y7 : Int} {S S' : List (Int × Int × Int × (Int → Int)) × Int} {τ : St} {L1 : List (Int × Int × Int × Int × Int × Int)} (hu : gN tv (db m) u a s S b s' S') (ha : 0 ≤ a) (hb : b ≤ lmF dk m) (h0 : BD0 tv cf σ τ o dk db X m a S L L1) (hlv : gA σ 324 o m ≤ a) (hy7 : rJ y7) (hon : onC tv (db m) a) (hX : s' ≤ X)
    (hQ : ∀ υ L2, BD0 tv cf σ υ o dk db X m b S' L L2 → gI υ 228 o = y7 → gI υ 202 o = max (gI τ 202 o) y7 → K141 b b y7 υ) : lQ3 (wp_Store_replayBud_L100 cf tv o m x2 x3 Q K141) a b y7 τ := by
  have hR : 0 ≤ cf.2.2 ∧ cf.2.2 ≤ 4 := hc.2.2
  refine lQ3_rule (fun z5 z6 z7 υ => z6 = b ∧ z7 = y7 ∧ gI υ 202 o = gI τ 202 o ∧ ∃ S1 L2, BD0 tv cf σ υ o dk db X m z5 S1 L L2 ∧ (a ≤ z5 ∧ onC tv (db m) z5) ∧ ((z5 = b ∧ S1 = S') ∨ ∃ v s1, gN tv (db m) v z5 s1 S1 b s' S')) (fun z5 _ _ _ => (b - z5).toNat) ?_ a b y7 τ ⟨rfl, rfl, rfl, S, L1, h0, ⟨by omega, hon⟩, Or.inr ⟨u, s, hu⟩⟩
  intro K z5 z6 z7 υ hI hK
  obtain ⟨e6, e7, es, S1, L2, ⟨rk, rs, xp, lv1, lv2⟩, az, hv⟩ := hI
  rw [e6, e7]
  unfold wp_Store_replayBud_L100
  refine ⟨fun z σ18 e18 σ19 e19 => ?_, fun z => ?_⟩
  · rcases hv with ⟨v1, v2⟩ | ⟨v, s1, v1⟩
    · have f19 : Fr (mRq o) υ σ19 := by rw [e19, e18]; exact ((Fr.rf _ _).sI (Or.inr ⟨Or.inl rfl, rfl⟩)).sI (Or.inr ⟨Or.inr rfl, rfl⟩)
      have s18 : gI σ18 202 o = gI υ 202 o := by rw [e18, gI_sI, if_neg (fun q => absurd q.1 (by decide))]
      have a19 : gI σ19 228 o = y7 := by rw [e19, gI_sI, if_neg (fun q => absurd q.1 (by decide)), e18, gI_sI1]
      have s19 : gI σ19 202 o = max (gI τ 202 o) y7 := by rw [e19, gI_sI1, s18, es]
      have lv : gA σ19 324 o = gA υ 324 o := f19.a _ _ (mRq_no _ _ (Or.inr (Or.inr (Or.inr ⟨rfl, rfl⟩))))
      rw [v1]
      refine hQ σ19 L2 ⟨?_, ?_, xp.tr (XP.q f19), ?_, ?_⟩ a19 s19
      · have k18 : RK σ18 := by rw [e18]; exact rk.sI (by show rJ y7; exact hy7)
        rw [e19]
        refine k18.sI ?_
        show rJ _
        have := k18.j 202 o (by decide)
        unfold rJ at this hy7 ⊢
        omega
      · rw [← v2]; exact rs.fr f19 mRq_no
      · rw [lv, ← v1]; exact lv1
      · rw [lv]; exact lv2
    · have := gN_le v1
      omega
  · rcases hv with ⟨v1, v2⟩ | ⟨v, s1, v1⟩
    · omega
    · have Dv := hD.fr xp.2.2 mRp_b
      have Wv := hW.fr xp.2.2 (fun w _ => mRp_w _ w (by decide) (by decide))
      obtain ⟨n, v', nv, okv, nx, sX⟩ : ∃ n v', jnV tv (db m) z5 n ∧ okS S1 ∧ ((v' = [] ∧ b = z5 + n ∧ S' = apS (db m) z5 n S1) ∨ ∃ s2, gN tv (db m) v' (z5 + n) s2 (apS (db m) z5 n S1) b s' S') ∧ srl (db m) z5 ≤ s' := by
        match v, v1 with
        | [n], ⟨h1, h2, h3, h4, h5, h6, h7⟩ => exact ⟨n, [], h1, h2, Or.inl ⟨rfl, h5, h7⟩, by omega⟩
        | n :: k :: t, ⟨h1, h2, h3, h4, h5⟩ => exact ⟨n, k :: t, h1, h2, Or.inr ⟨_, h5⟩, by have := gN_le h5; omega⟩
      have nb : z5 + n ≤ b := by
        rcases nx with q | ⟨s2, q⟩
        · omega
        · have := gN_le q; omega
      have nn := nv.n
      refine sp_redo hc ho rk Dv Wv rs okv hm (by omega) (by omega) nv az.2 (Int.le_trans sX hX) (fun υ2 L3 r3 x3' l3 a3 s3 _ k3 y5 e5 => ?_)
      have lmb : lmF dk m ≤ 4000 := by
        have := hD.k hc (n := m) ⟨by omega, hm.2⟩
        have hP : 8 ≤ cf.2.1 ∧ cf.2.1 ≤ 32 := hc.2.1
        unfold lmF; omega
      rw [w32_id (by unfold rI; omega)] at e5
      rw [e5]
      refine hK _ _ _ _ ⟨rfl, rfl, s3.trans es, _, L3, ⟨k3, r3, xp.tr x3', ?_, ?_⟩, ⟨by omega, az.2.n nv.v⟩, ?_⟩ (by omega)
      · have a1 := x3'.2.1 m (by omega) hm.2
        have a2 := l3 m
        rw [if_pos rfl] at a2
        omega
      · intro k k0 k1 ne
        have a1 := x3'.2.1 k k0 k1
        have a2 := l3 k
        rw [if_neg ne] at a2
        have := lv2 k k0 k1 ne
        omega
      · rcases nx with ⟨q1, q2, q3⟩ | ⟨s2, q⟩
        · exact Or.inl ⟨q2.symm, q3.symm⟩
        · exact Or.inr ⟨v', s2, q⟩
