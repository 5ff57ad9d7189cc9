/-! a log is done again -/
/-- buds (number, from, to, groups) that a log tells from page k on: from s and S to s' and S' -/
def bR (tv : Nat → Int) (cf : Cf) (dk : Int → Int) (db : Int → Int → Int) (lg ls : Int) : List (Int × Int × Int × List (List Int)) → Int → Int → List (Int × Int × Int × (Int → Int)) × Int → Int → List (Int × Int × Int × (Int → Int)) × Int → Prop
  | [], _, s, S, s', S' => s = s' ∧ S = S'
  | (n, a, b, t) :: bl, k, s, S, s', S' => (whN tv (db lg) (128 * k) 64 ∧ db lg (128 * k + 16) = 8 ∧ ls < srl (db lg) (128 * k) ∧ rI4 (db lg) (128 * k + 24) = n ∧ rI4 (db lg) (128 * k + 28) = a) ∧ (4 + cf.2.2 ≤ n ∧ n < cf.1 - 6) ∧ (0 ≤ a ∧ a % 8 = 0 ∧ onC tv (db n) a) ∧ b ≤ lmF dk n ∧ ∃ s1 S1 v, sM tv (db n) t a s S b s1 S1 ∧ gT tv (db n) (lmF dk n) v b s1 ∧ bR tv cf dk db lg ls bl (k + 1) s1 S1 s' S'
theorem bR.le {tv : Nat → Int} {cf : Cf} {dk : Int → Int} {db : Int → Int → Int} {lg ls : Int} : ∀ {bl : List (Int × Int × Int × List (List Int))} {k s s' : Int} {S S' : List (Int × Int × Int × (Int → Int)) × Int}, bR tv cf dk db lg ls bl k s S s' S' → s ≤ s'
  | [], _, _, _, _, _, h => by have := h.1; omega
  | (n, a, b, t) :: bl, k, s, s', S, S', h => by
    obtain ⟨-, -, -, -, s1, S1, v, sm, -, r⟩ := h
    have := sM_le sm
    have := bR.le r
    omega
def mRx (o : Int) (f : Nat) (o' : Int) : Prop := mRp o f o' ∨ ((f = 135 ∧ o' = 0) ∨ mRow (o + 4) f o')
theorem mRx_b {o : Int} : ∀ f o', rBI o f o' → ¬ mRx o f o' := fun f o' a q => by
  rcases q with q | q
  · exact mRp_b f o' a q
  · unfold rBI at a; unfold mRow at q; omega
theorem mRx_w {o : Int} : ∀ f w, 450 ≤ f → f ≤ 452 → ¬ mRx o f w := fun f w a b q => by
  rcases q with q | q
  · exact mRp_w f w a b q
  · unfold mRow at q; omega
/-- index, counted bytes and serial numbers behind a replay -/
def RPo (tv : Nat → Int) (cf : Cf) (σ τ : St) (o : Int) (dk : Int → Int) (db : Int → Int → Int) (X ls s' : Int) (S' : List (Int × Int × Int × (Int → Int)) × Int) (L L' : List (Int × Int × Int × Int × Int × Int)) : Prop := RK τ ∧ RS tv cf db (lmF dk) X τ o S' L' ∧ CK σ τ o ∧ (∀ m, 0 ≤ m → m < cf.1 - 6 → gA τ 324 o m - lS L' m = gA σ 324 o m - lS L m) ∧ Fr (mRx o) σ τ ∧ max (gI τ 228 o) ls = s' ∧ gI σ 202 o ≤ gI τ 202 o ∧ gI τ 228 o ≤ gI τ 202 o
theorem sp_replay {tv : Nat → Int} {cf : Cf} {σ : St} {o : Int} {dk : Int → Int} {db : Int → Int → Int} {Sp : Int → Int → (Int → Int → Int) → Prop} {B : Int} (hc : CfOK cf) (ho : o = 0 ∨ o = 1) (hrk : RK σ) {lm : Int → Int} {lg wh ls s' X : Int} {bl : List (Int × Int × Int × List (List Int))} {S S' : List (Int × Int × Int × (Int → Int)) × Int} {L : List (Int × Int × Int × Int × Int × Int)} {Q : St → Prop} (hD : DJ tv cf σ o dk db Sp B) (hW : noW σ o) (hlg : 0 ≤ lg ∧ lg < cf.1 - 6) (hdk : dk lg = 1 + bl.length) (hls : srl (db lg) 0 = ls) (hp0 : whN tv (db lg) 0 64) (hp1 : db lg 16 = 7) (hp2 : rI4 (db lg) 24 = wh) (hb : bR tv cf dk db lg ls bl 1 (max (gI σ 228 o) ls) S s' S') (hR : RS tv cf db (lmF dk) X σ o S L) (hnd : (bl.map (fun b => b.1)).Nodup) (hlv : ∀ b, b ∈ bl → gA σ 324 o b.1 ≤ b.2.1) (hag : gI σ 228 o ≤ gI σ 202 o) (hX : gI σ 202 o ≤ X ∧ s' ≤ X ∧ ls ≤ X ∧ ∀ k, 0 ≤ k → k < dk lg → srl (db lg) (128 * k) ≤ X) (hlim : ∀ m, 0 ≤ m → m < cf.1 - 6 → gA σ 324 o m ≤ lm m) (hblm : ∀ b, b ∈ bl → b.2.2.1 ≤ lm b.1)
    (hQ : ∀ τ L', RPo tv cf σ τ o dk db X ls s' S' L L' → gI τ 202 o ≤ X → (∀ k, 0 ≤ k → k < dk lg → srl (db lg) (128 * k) ≤ gI τ 202 o) → (∀ m, 0 ≤ m → m < cf.1 - 6 → gA τ 324 o m ≤ lm m) → (∀ m, 0 ≤ m → m < cf.1 - 6 → (∀ b, b ∈ bl → b.1 ≠ m) → gA τ 324 o m ≤ gA σ 324 o m) → Q τ) : wp_Store_replay cf tv o lg wh Q σ := by
  have hP : 8 ≤ cf.2.1 ∧ cf.2.1 ≤ 32 := hc.2.1
  have hR0 : 0 ≤ cf.2.2 ∧ cf.2.2 ≤ 4 := hc.2.2
  have dl := hD.k hc hlg
  have r4 : rowL (o + 4) = 128 := by unfold rowL; rw [if_neg (by omega), if_pos (by omega)]
  have fsx : ∀ {a b : St}, Fr (fun f o' => (f = 135 ∧ o' = 0) ∨ mRow (o + 4) f o') a b → Fr (mRx o) a b := fun f => f.mono (fun f o' q => Or.inr q)
  have nsx : ∀ f o', mRs o f o' → ¬ ((f = 135 ∧ o' = 0) ∨ mRow (o + 4) f o') := fun f o' a q => by unfold mRs at a; unfold mRow at q; omega
  unfold wp_Store_replay
  refine sp_jwritten hc hD hlg (fun _ _ => ⟨fun _ => ?_, fun z => absurd z (by omega)⟩)
  refine sp_sheet hc ho hD hlg ⟨by omega, by omega⟩ (fun τ b1 b2 f1 k1 => ?_)
  have sheet : ∀ (τ : St) (k : Int), (∀ i, 0 ≤ i → i < 128 → gA τ 512 (o + 4) i = db lg (128 * k + i)) → (∀ j, 0 ≤ j → j + 4 ≤ 128 → rI4 (gA τ 512 (o + 4)) (0 + j) = rI4 (db lg) (128 * k + j)) ∧ rL8 (gA τ 512 (o + 4)) (0 + 8) = srl (db lg) (128 * k) ∧ ∀ m, m ≤ 128 → (whN tv (gA τ 512 (o + 4)) 0 m ↔ whN tv (db lg) (128 * k) m) := by
    intro τ k b1
    exact ⟨fun j j0 j1 => rI4_sh (fun i i0 i1 => by rw [b1 _ (by omega) (by omega)]; congr 1; omega), rL8_sh (fun i i0 i1 => by rw [b1 _ (by omega) (by omega)]; congr 1; omega), fun m hm => ⟨fun w => w.ext (fun i i0 i1 => by rw [b1 _ (by omega) (by omega)]; congr 1; omega), fun w => w.ext (fun i i0 i1 => by rw [b1 _ (by omega) (by omega)]; congr 1; omega)⟩⟩
  obtain ⟨R4, R8, wc⟩ := sheet τ 0 b1
  rw [show (128 : Int) * 0 = 0 by omega] at R4 R8 wc b1
  have e4 : rI4 (gA τ 512 (o + 4)) (0 + 4) = 64 := by rw [R4 4 (by omega) (by omega)]; exact hp0.2.1
  refine sp_rwhole b2 (by omega) (by omega) (by omega) (by omega) (fun _ w _ _ => ?_) (fun _ _ _ _ _ => ⟨fun z => absurd z (by omega), fun _ => ?_⟩)
  · exfalso
    rw [e4] at w
    exact w ⟨(wc 64 (by omega)).mpr hp0, by omega⟩
  refine sp_rtype b2 (by omega) (by omega) (fun _ _ => ?_)
  rw [b1 _ (by omega) (by omega), show (0 : Int) + (0 + 16) = 16 by omega]
  refine ⟨fun z => absurd hp1 z, fun _ => ?_⟩
  refine sp_rget b2 (by omega) (by omega) (by omega) (fun _ _ _ => ?_)
  rw [show (0 : Int) + 24 + 0 = 0 + 24 by omega, R4 24 (by omega) (by omega), show (0 : Int) + 24 = 24 by omega, hp2]
  refine ⟨fun _ => ?_, fun z => absurd rfl z⟩
  refine sp_rser b2 (by omega) (by omega) (fun _ jl _ σ1 e1 => ?_)
  rw [R8, hls] at jl e1 ⊢
  have es1 : gI τ 202 o = gI σ 202 o := f1.i _ _ (fun q => by unfold mRow at q; omega)
  have F1 : Fr (mRx o) σ σ1 := by
    refine (fsx f1).tr ?_
    rw [e1]; exact (Fr.rf _ _).sI (Or.inl (Or.inr (Or.inr ⟨Or.inr rfl, rfl⟩)))
  have k1' : RK σ1 := by
    rw [e1]
    refine k1.sI ?_
    show rJ _
    have := k1.j 202 o (by decide)
    unfold rJ at this jl ⊢
    omega
  have s1 : gI σ1 202 o = max (gI σ 202 o) ls := by rw [e1, gI_sI1, es1]
  have a1 : gI σ1 228 o = gI σ 228 o := by rw [e1, gI_sI, if_neg (fun q => absurd q.1 (by decide)), f1.i _ _ (fun q => by unfold mRow at q; omega)]
  have fq1 : Fr (fun f o' => ((f = 135 ∧ o' = 0) ∨ mRow (o + 4) f o') ∨ (f = 202 ∧ o' = o)) σ σ1 := by
    refine (f1.mono (fun f o' q => Or.inl q)).tr ?_
    rw [e1]; exact (Fr.rf _ _).sI (Or.inr ⟨rfl, rfl⟩)
  have nq1 : ∀ f o', mRs o f o' → ¬ (((f = 135 ∧ o' = 0) ∨ mRow (o + 4) f o') ∨ (f = 202 ∧ o' = o)) := fun f o' a q => by unfold mRs at a; unfold mRow at q; omega
  have lv1 : gA σ1 324 o = gA σ 324 o := fq1.a _ _ (nq1 _ _ (Or.inr (Or.inr (Or.inr ⟨rfl, rfl⟩))))
  have ck1 : CK σ σ1 o := CK.fr fq1 (fun f x a b => nq1 f x (Or.inr (Or.inl ⟨a, b⟩))) (fun f a b => nq1 f o (Or.inr (Or.inr (Or.inl ⟨⟨a, b⟩, rfl⟩))))
  refine lQ3_rule (fun y3 y5 y6 υ => y3 = ls ∧ y5 = 1 ∧ 1 ≤ y6 ∧ ∃ s S1 L1 bl1, RPo tv cf σ υ o dk db X ls s S1 L L1 ∧ bR tv cf dk db lg ls bl1 y6 s S1 s' S' ∧ y6 + bl1.length = dk lg ∧ (bl1.map (fun b => b.1)).Nodup ∧ (∀ b, b ∈ bl1 → gA υ 324 o b.1 ≤ b.2.1) ∧ gI υ 202 o ≤ X ∧ (∀ k, 0 ≤ k → k < y6 → srl (db lg) (128 * k) ≤ gI υ 202 o) ∧ (∀ m, 0 ≤ m → m < cf.1 - 6 → gA υ 324 o m ≤ lm m) ∧ (∀ b, b ∈ bl1 → b ∈ bl) ∧ (∀ m, 0 ≤ m → m < cf.1 - 6 → (∀ b, b ∈ bl → b.1 ≠ m) → gA υ 324 o m ≤ gA σ 324 o m)) (fun _ _ y6 _ => (dk lg - y6).toNat) ?_ ls 1 1 σ1 ⟨rfl, rfl, by omega, _, S, L, bl, ⟨k1', hR.fr fq1 nq1, ck1, fun m _ _ => by rw [lv1], F1, by rw [a1], by omega, by omega⟩, hb, by omega, hnd, by rw [lv1]; exact hlv, by omega, ?_, by rw [lv1]; exact hlim, fun b h => h, fun m _ _ _ => by rw [lv1]; omega⟩
  rotate_left
  · intro k k0 k2
    have : k = 0 := by omega
    rw [this, show (128 : Int) * 0 = 0 by omega, hls]; omega
  intro K y3 y5 y6 υ hI hK
  obtain ⟨e3, e5, h6, s, S1, L1, bl1, ⟨rk, rs, ck, lvr, fr, ag, sr, asr⟩, br, len, nd, lvb, sX, sk, lmm, bsub, lmo⟩ := hI
  have Dv := hD.fr fr mRx_b
  have Wv := hW.fr fr (fun w _ => mRx_w _ w (by decide) (by decide))
  rw [e3, e5]
  unfold wp_Store_replay_L100
  refine sp_jwritten hc Dv hlg (fun _ _ => ?_)
  rw [show max 0 (dk lg) = dk lg by omega]
  refine ⟨fun q => ?_, fun q => ⟨fun z => absurd z (by omega), fun _ => ?_⟩⟩
  · have bn : bl1 = [] := by
      match bl1, len with
      | [], _ => rfl
      | _ :: _, h => rw [List.length_cons] at h; omega
    rw [bn] at br len
    obtain ⟨es, eS⟩ := br
    rw [es] at ag
    rw [eS] at rs
    have l0 : y6 = dk lg := by rw [List.length_nil] at len; omega
    exact hQ υ L1 ⟨rk, rs, ck, lvr, fr, ag, sr, asr⟩ sX (fun k k0 k2 => sk k k0 (by omega)) lmm lmo
  · match bl1, len, br, nd, lvb, bsub with
    | [], h, _, _, _, _ => rw [List.length_nil] at h; omega
    | (n, a, b, t) :: bl2, len, br, nd, lvb, bsub =>
      obtain ⟨⟨p1, p2, p3, p4, p5⟩, hn, ha, hbl, s2, S2, v, sm, gt, br2⟩ := br
      rw [List.length_cons] at len
      refine sp_sheet hc ho Dv hlg ⟨by omega, by omega⟩ (fun τ1 b1 b2 f1 k1 => ?_)
      obtain ⟨R4, R8, wc⟩ := sheet τ1 y6 b1
      have e4 : rI4 (gA τ1 512 (o + 4)) (0 + 4) = 64 := by rw [R4 4 (by omega) (by omega)]; exact p1.2.1
      refine sp_rwhole b2 (by omega) (by omega) (by omega) (by omega) (fun _ w _ _ => ?_) (fun _ _ _ _ _ => ⟨fun z => absurd z (by omega), fun _ => ?_⟩)
      · exfalso
        rw [e4] at w
        exact w ⟨(wc 64 (by omega)).mpr p1, by omega⟩
      refine sp_rtype b2 (by omega) (by omega) (fun _ _ => ?_)
      rw [b1 _ (by omega) (by omega), show 128 * y6 + (0 + 16) = 128 * y6 + 16 by omega]
      refine ⟨fun z => absurd p2 z, fun _ => ?_⟩
      refine sp_rser b2 (by omega) (by omega) (fun _ j8 _ => ?_)
      rw [R8] at j8 ⊢
      refine ⟨fun z => absurd p3 (by omega), fun _ => ?_⟩
      unfold wp_Store_replay_b185
      refine ⟨fun z => absurd z (by omega), fun _ => ?_⟩
      refine sp_rser b2 (by omega) (by omega) (fun _ _ _ σ2 e2 => ?_)
      rw [R8] at e2
      have es2 : gI τ1 202 o = gI υ 202 o := f1.i _ _ (fun q => by unfold mRow at q; omega)
      have F2 : Fr (fun f o' => ((f = 135 ∧ o' = 0) ∨ mRow (o + 4) f o') ∨ (f = 202 ∧ o' = o)) υ σ2 := by
        refine (f1.mono (fun f o' q => Or.inl q)).tr ?_
        rw [e2]; exact (Fr.rf _ _).sI (Or.inr ⟨rfl, rfl⟩)
      have k2' : RK σ2 := by
        rw [e2]
        refine k1.sI ?_
        show rJ _
        have := k1.j 202 o (by decide)
        unfold rJ at this j8 ⊢
        omega
      have ss2 : gI σ2 202 o = max (gI υ 202 o) (srl (db lg) (128 * y6)) := by rw [e2, gI_sI1, es2]
      have sa2 : gI σ2 228 o = gI υ 228 o := F2.i _ _ (fun q => by unfold mRow at q; omega)
      have at2 : gI σ2 513 (o + 4) = 0 := by rw [e2, gI_sI, if_neg (fun q => absurd q.1 (by decide))]; exact b2
      have gb2 : gA σ2 512 (o + 4) = gA τ1 512 (o + 4) := by rw [e2]; rfl
      have lv2 : gA σ2 324 o = gA υ 324 o := F2.a _ _ (nq1 _ _ (Or.inr (Or.inr (Or.inr ⟨rfl, rfl⟩))))
      have ck2 : CK υ σ2 o := CK.fr F2 (fun f x a b => nq1 f x (Or.inr (Or.inl ⟨a, b⟩))) (fun f a b => nq1 f o (Or.inr (Or.inr (Or.inl ⟨⟨a, b⟩, rfl⟩))))
      have F2x : Fr (mRx o) υ σ2 := F2.mono (fun f o' q => by
        rcases q with q | q
        · exact Or.inr q
        · exact Or.inl (Or.inr (Or.inr ⟨Or.inr q.1, q.2⟩)))
      refine sp_rget at2 (by omega) (by omega) (by omega) (fun _ _ _ => sp_rget at2 (by omega) (by omega) (by omega) (fun _ _ _ => ?_))
      rw [gb2, show (0 : Int) + 24 + 0 = 0 + 24 by omega, show (0 : Int) + 24 + 4 = 0 + 28 by omega, R4 24 (by omega) (by omega), R4 28 (by omega) (by omega), p4, p5]
      have hlvn : gA υ 324 o n ≤ a := lvb (n, a, b, t) List.mem_cons_self
      rw [← ag] at sm
      refine sp_replayBud (ls := ls) (t := t) (v := v) (b := b) (s1 := s2) (S1 := S2) (L := L1) hc ho k2' (Dv.fr F2x mRx_b) (Wv.fr F2x (fun w _ => mRx_w _ w (by decide) (by decide))) hn ha.1 ha.2.1 jl (by rw [sa2]; exact sm) hbl gt (rs.fr F2 nq1) (by rw [lv2]; exact hlvn) ha.2.2 (Int.le_trans br2.le hX.2.1) (fun τ3 L3 bd ag3 sr3 as3 su3 _ => ?_)
      obtain ⟨c1, c2, c3, c4, c5⟩ := bd
      unfold wp_Store_replay_b231
      intro y ey
      rw [w32_id (by unfold rI; omega)] at ey
      rw [ey]
      have s2X : s2 ≤ X := by
        have mono : ∀ (bl : List (Int × Int × Int × List (List Int))) (k s : Int) (S : List (Int × Int × Int × (Int → Int)) × Int), bR tv cf dk db lg ls bl k s S s' S' → s ≤ s' := by
          intro bl
          induction bl with
          | nil => intro k s S h; obtain ⟨h1, _⟩ := h; omega
          | cons x bl ih =>
            obtain ⟨n, a, b, t⟩ := x
            intro k s S h
            obtain ⟨_, _, _, _, s1, S1, v, h1, _, h2⟩ := h
            have := ih _ _ _ h2
            have := sM_le h1
            omega
        have := mono _ _ _ _ br2
        omega
      have pX := hX.2.2.2 y6 (by omega) (by omega)
      have nd' := List.nodup_cons.mp nd
      refine hK _ _ _ _ ⟨rfl, rfl, by omega, s2, S2, L3, bl2, ⟨c1, c2, (ck.tr ck2).tr c3.1, ?_, (fr.tr F2x).tr (c3.2.2.mono (fun f o' q => Or.inl q)), ag3, by omega, by omega⟩, br2, by omega, nd'.2, ?_, by omega, ?_, ?_, fun b h => bsub b (List.mem_cons_of_mem _ h), ?_⟩ (by omega)
      · intro m m0 m1
        rw [c3.2.1 m m0 m1, lv2]; exact lvr m m0 m1
      · intro b' hb'
        have ne : b'.1 ≠ n := fun e => nd'.1 (by rw [← e]; exact List.mem_map.mpr ⟨b', hb', rfl⟩)
        have h0 := lvb b' (List.mem_cons_of_mem _ hb')
        have rg : 0 ≤ b'.1 ∧ b'.1 < cf.1 - 6 := by
          have rng : ∀ (bl : List (Int × Int × Int × List (List Int))) (k s : Int) (S : List (Int × Int × Int × (Int → Int)) × Int), bR tv cf dk db lg ls bl k s S s' S' → ∀ x, x ∈ bl → 4 + cf.2.2 ≤ x.1 ∧ x.1 < cf.1 - 6 := by
            intro bl
            induction bl with
            | nil => intro k s S h x hx; exact absurd hx List.not_mem_nil
            | cons y bl ih =>
              obtain ⟨n, a, b, t⟩ := y
              intro k s S h x hx
              obtain ⟨_, h1, _, _, s1, S1, v, _, _, h2⟩ := h
              rcases List.mem_cons.mp hx with e | e
              · rw [e]; exact h1
              · exact ih _ _ _ h2 x e
          have := rng _ _ _ _ br2 b' hb'
          omega
        have := c5 b'.1 rg.1 rg.2 ne
        rw [lv2] at this
        omega
      · intro k k0 k2
        by_cases e : k = y6
        · rw [e]; omega
        · have := sk k k0 (by omega); omega
      · intro m m0 m1
        by_cases e : m = n
        · rw [e]
          rw [lv2] at c4
          have := (sM_le sm).1
          have hbl2 : b ≤ lm n := hblm (n, a, b, t) (bsub _ List.mem_cons_self)
          omega
        · have := c5 m m0 m1 e
          rw [lv2] at this
          have := lmm m m0 m1
          omega
      · intro m m0 m1 hm
        have := c5 m m0 m1 (fun e => hm _ (bsub _ List.mem_cons_self) e.symm)
        rw [lv2] at this
        have := lmo m m0 m1 hm
        omega
/-- a log that is not that of the commit -/
theorem sp_replay0 {tv : Nat → Int} {cf : Cf} {σ : St} {o : Int} {dk : Int → Int} {db : Int → Int → Int} {Sp : Int → Int → (Int → Int → Int) → Prop} {B : Int} (hc : CfOK cf) (ho : o = 0 ∨ o = 1) {lg wh : Int} {Q : St → Prop} (hD : DJ tv cf σ o dk db Sp B) (hlg : 0 ≤ lg ∧ lg < cf.1 - 6) (h : dk lg ≤ 0 ∨ rI4 (db lg) 24 ≠ wh)
    (hQ : ∀ τ, Fr (fun f o' => (f = 135 ∧ o' = 0) ∨ mRow (o + 4) f o') σ τ → RK τ → Q τ) : wp_Store_replay cf tv o lg wh Q σ := by
  have r4 : rowL (o + 4) = 128 := by unfold rowL; rw [if_neg (by omega), if_pos (by omega)]
  unfold wp_Store_replay
  refine sp_jwritten hc hD hlg (fun _ k0 => ⟨fun z => ?_, fun _ => hQ σ (Fr.rf _ _) k0⟩)
  have h' : rI4 (db lg) 24 ≠ wh := h.resolve_left (by omega)
  refine sp_sheet hc ho hD hlg ⟨by omega, by omega⟩ (fun τ b1 b2 f1 k1 => ?_)
  have R4 : rI4 (gA τ 512 (o + 4)) (0 + 24 + 0) = rI4 (db lg) 24 := rI4_sh (fun i i0 i1 => by rw [b1 _ (by omega) (by omega)]; congr 1; omega)
  refine sp_rwhole b2 (by omega) (by omega) (by omega) (by omega) (fun _ w _ _ => ⟨fun _ => hQ τ f1 k1, fun z => absurd rfl z⟩) (fun _ _ _ _ _ => ⟨fun z => absurd z (by omega), fun _ => ?_⟩)
  refine sp_rtype b2 (by omega) (by omega) (fun _ _ => ⟨fun _ => hQ τ f1 k1, fun _ => ?_⟩)
  refine sp_rget b2 (by omega) (by omega) (by omega) (fun _ _ _ => ?_)
  rw [R4]
  exact ⟨fun e => absurd e h', fun _ => hQ τ f1 k1⟩
