/-! one step of emptying a number -/
/-- nothing moved, or one node of n bytes -/
def CSo (cf : Cf) (σ τ : St) (v : Int) : Prop := ((gA τ 323 0 = gA σ 323 0 ∧ gA τ 325 0 = gA σ 325 0) ∧ (gI τ 451 2 = gI σ 451 2 ∧ gI τ 452 2 = gI σ 452 2) ∧ ∀ m, 4 + cf.2.2 ≤ m → m < cf.1 - 6 → gA τ 324 0 m = gA σ 324 0 m) ∨ ∃ n, (40 ≤ n ∧ n ≤ 96) ∧ MHo cf σ τ n ∧ ∀ m, 4 + cf.2.2 ≤ m → m < cf.1 - 6 → gA τ 324 0 m = gA σ 324 0 m - (if m = v then n else 0) + (if m = gI τ 451 2 then n else 0)
def mCs (f : Nat) (o' : Int) : Prop := mRd2 0 0 f o' ∨ mMn f o' ∨ ((f = 224 ∨ f = 225) ∧ o' = 0)
theorem Srt.uniq {L : List (Int × Int × Int × Int × Int × Int)} (h : Srt L) {a b : Int × Int × Int × Int × Int × Int} (ha : a ∈ L) (hb : b ∈ L) (e : kyE a = kyE b) : a = b := by
  induction L with
  | nil => exact absurd ha (List.not_mem_nil)
  | cons x L ih =>
    obtain ⟨h1, h2⟩ := List.pairwise_cons.mp h
    rcases List.mem_cons.mp ha with p | p <;> rcases List.mem_cons.mp hb with q | q
    · rw [p, q]
    · have := h1 b q; rw [p] at e; omega
    · have := h1 a p; rw [q] at e; omega
    · exact ih h2 p q
theorem sp_collectStep {tv : Nat → Int} {cf : Cf} {σ : St} {dk : Int → Int} {db : Int → Int → Int} {Sp : Int → Int → (Int → Int → Int) → Prop} {B v p : Int} {L : List (Int × Int × Int × Int × Int × Int)} {Q : St → Prop} (hc : CfOK cf) (h : SA tv cf σ dk db L) (hD : DJ tv cf σ 0 dk db Sp B) (hE : 1 ≤ emp cf (gA σ 323 0)) (hv : gI σ 223 0 = v) (hp : gI σ 224 0 = p) (hV : VC tv cf σ dk db L v p)
    (hQ1 : ∀ τ, (∀ e, e ∈ L → e.2.2.1 ≠ v) → SA tv cf τ dk db L → DJ tv cf τ 0 dk db Sp B → gI τ 225 0 = 1 → Fr (fun f o' => mRd2 0 0 f o' ∨ (f = 225 ∧ o' = 0)) σ τ → Q τ)
    (hQ2 : ∀ τ dk' db' L' p', p < p' → gI τ 224 0 = p' → SA tv cf τ dk' db' L' → DJ tv cf τ 0 dk' db' Sp B → AM db' L' = AM db L → CK σ τ 0 → LGo cf σ τ dk dk' db db' → (∀ m, m ≠ gI σ 451 2 → m ≠ gI τ 451 2 → dk' m = dk m) → CSo cf σ τ v → VC tv cf τ dk' db' L' v p' → gI τ 225 0 = gI σ 225 0 → SRo σ τ db db' L L' → Fr mCs σ τ → Q τ) : wp_Store_collectStep cf tv 0 Q σ := by
  have hR : 0 ≤ cf.2.2 ∧ cf.2.2 ≤ 4 := hc.2.2
  have hP : 8 ≤ cf.2.1 ∧ cf.2.1 ≤ 32 := hc.2.1
  have hB : 24 ≤ cf.1 ∧ cf.1 ≤ 64 := hc.1
  obtain ⟨⟨v1, v2⟩, ⟨v3, v4⟩, v5⟩ := hV
  obtain ⟨cn, ee⟩ := h.cn hc v1 v2
  have r0 : rowL 0 = 320 := by unfold rowL; rw [if_pos (by omega)]
  have dv := hD.k hc (n := v) ⟨by omega, v1.2⟩
  have lme : lmF dk v = 128 * max 0 (dk v) := rfl
  have m8 := v4.m8
  have oe : ∀ e, e ∈ L → e.2.2.1 = v → onC tv (db v) e.2.2.2.1 ∧ e.2.2.2.1 + e.2.2.2.2.1 ≤ lmF dk v ∧ jnV tv (db v) e.2.2.2.1 e.2.2.2.2.1 ∧ lfT (db v (e.2.2.2.1 + 16)) ∧ hiN (db v) e.2.2.2.1 = e.1 ∧ loN (db v) e.2.2.2.1 = e.2.1 := by
    intro e he hn
    obtain ⟨a1, a2, a3, a4, a5, a6, a7⟩ := h.2.1.2.2 e he
    rw [hn] at a2 a3 a4 a5 a6 a7
    rw [ee] at a7
    exact ⟨a6.2, a7, a2, a3, a4, a5⟩
  have nrd : ∀ f o', mSA f o' → ¬ mRd2 0 0 f o' := fun f o' a q => by unfold mSA isW at a; unfold mRd2 mPg mRow at q; omega
  have brd : ∀ f o', rBI 0 f o' → ¬ mRd2 0 0 f o' := fun f o' a q => by unfold rBI at a; unfold mRd2 mPg mRow at q; omega
  -- the place goes on
  have fin : ∀ υ dk' db' L' p', p < p' → p' ≤ 1000000 → SA tv cf υ dk' db' L' → DJ tv cf υ 0 dk' db' Sp B → AM db' L' = AM db L → CK σ υ 0 → LGo cf σ υ dk dk' db db' → (∀ m, m ≠ gI σ 451 2 → m ≠ gI υ 451 2 → dk' m = dk m) → CSo cf σ υ v → VC tv cf υ dk' db' L' v p' → gI υ 225 0 = gI σ 225 0 → SRo σ υ db db' L L' → Fr mCs σ υ → Q (sI υ 224 0 p') := by
    intro υ dk' db' L' p' lt le S D am ck lg dke cs vc co sro fr
    have f1 : Fr (fun f o' => f = 224 ∧ o' = 0) υ (sI υ 224 0 p') := (Fr.rf _ _).sI ⟨rfl, rfl⟩
    have rk : RK (sI υ 224 0 p') := S.1.2.sI (by show rI p'; unfold rI; omega)
    refine hQ2 _ dk' db' L' p' lt (by rw [gI_sI1]) (S.fr f1 (fun f o' a q => by unfold mSA isW at a; omega) rk) (D.fr f1 (fun f o' a q => by unfold rBI at a; omega)) am (ck.tr (CK.fr f1 (fun f x a b q => by omega) (fun f a b q => by omega))) (lg.tr (LGo.fr f1 (fun f w _ a b q => by omega))) (fun m a b => dke m a (fun z => b (by rw [z]; exact (f1.i _ _ (fun q => by omega)).symm))) ?_ vc ?_ ⟨sro.1, by rw [f1.i 451 2 (fun q => by omega)]; exact sro.2⟩ (fr.tr (f1.mono (fun f o' q => Or.inr (Or.inr ⟨Or.inl q.1, q.2⟩))))
    · have e1 : gI (sI υ 224 0 p') 451 2 = gI υ 451 2 := f1.i _ _ (fun q => by omega)
      have e2 : gI (sI υ 224 0 p') 452 2 = gI υ 452 2 := f1.i _ _ (fun q => by omega)
      unfold CSo MHo at *
      rw [e1, e2]
      exact cs
    · rw [f1.i _ _ (fun q => by omega)]; exact co
  have cs0 : ∀ {υ : St} {M : Nat → Int → Prop}, Fr M σ υ → (∀ f o', (((f = 323 ∨ f = 325 ∨ f = 324) ∧ o' = 0) ∨ ((f = 451 ∨ f = 452) ∧ o' = 2)) → ¬ M f o') → CSo cf σ υ v := by
    intro υ M f n
    refine Or.inl ⟨⟨f.a _ _ (n _ _ (by omega)), f.a _ _ (n _ _ (by omega))⟩, ⟨f.i _ _ (n _ _ (by omega)), f.i _ _ (n _ _ (by omega))⟩, fun m _ _ => ?_⟩
    rw [f.a 324 0 (n _ _ (by omega))]
  unfold wp_Store_collectStep
  rw [hv, hp]
  refine sp_look (r := 0) hc hD h.1.1 ⟨by omega, v1.2⟩ v3.1 (by omega) (by omega) (lim := lmF dk v) rfl (fun τ q f _ k => ⟨fun z => absurd rfl z, fun _ σ58 e58 => ?_⟩) (fun τ q1 q2 f _ k => ⟨fun _ => ⟨fun z => absurd rfl z, fun _ => ?_⟩, fun z => absurd z (by omega)⟩) (fun τ m q1 q2 q3 q4 q5 q6 q7 f _ k => ⟨fun _ => ⟨fun _ => ?_, fun z => absurd z (by omega)⟩, fun z => absurd z (by omega)⟩)
  · have f1 : Fr (fun f o' => mRd2 0 0 f o' ∨ (f = 225 ∧ o' = 0)) σ σ58 := by
      rw [e58]; exact (f.mono (fun f o' q => Or.inl q)).sI (Or.inr ⟨rfl, rfl⟩)
    have rk : RK σ58 := by rw [e58]; exact k.sI (by show rZ 1; unfold rZ; omega)
    refine hQ1 σ58 (fun e he hn => ?_) (h.fr f1 (fun f o' a q => by
      rcases q with q | q
      · exact nrd f o' a q
      · unfold mSA isW at a; omega) rk) (hD.fr f1 (fun f o' a q => by
      rcases q with q | q
      · exact brd f o' a q
      · unfold rBI at a; omega)) (by rw [e58, gI_sI1]) f1
    obtain ⟨o1, o2, o3, -⟩ := oe e he hn
    have nn := o3.n
    have ge := v5 e he hn
    by_cases lt : p < e.2.2.2.1
    · exact q.no v4 o1 lt (by omega)
    · rw [show e.2.2.2.1 = p by omega] at o2 o3
      have w := o3.1.2.1
      rcases q with q | ⟨q1, q2⟩
      · omega
      · rw [w] at q2
        rcases q2 with q | q | q | q
        · omega
        · omega
        · omega
        · exact q o3.1
  · have fS := h.fr f nrd k
    have nno : ¬ noN tv (db v) p (lmF dk v) := by
      intro z
      rcases z with z | z
      · omega
      · exact z.1 q2
    obtain ⟨pz, pl⟩ : pdZ (db v) p ∧ (p + 127) / 128 * 128 ≤ lmF dk v := by
      rcases cn.at v4 v3.2 nno with ⟨n, a, b⟩ | a
      · have := a.1.2.1; have := a.2.1; omega
      · exact a
    have p1 := pz.1
    have vp : gI τ 224 0 = p := by rw [f.i _ _ (fun q => by unfold mRd2 mPg mRow at q; omega)]; exact hp
    unfold wp_Store_behindPage
    rw [vp, jrm_nn (by omega) (by omega) (by omega), w32_id (x := p - p % 128) (by unfold rI; omega), w32_id (x := p - p % 128 + 128) (by unfold rI; omega)]
    intro _ _ σ57 e57
    rw [e57]
    have eu : (p + 127) / 128 * 128 = p - p % 128 + 128 := by omega
    refine fin τ dk db L _ (by omega) (by omega) fS (hD.fr f brd) rfl (CK.fr f (fun f x a b q => by unfold mRd2 mPg mRow at q; omega) (fun f a b q => by unfold mRd2 mPg mRow at q; omega)) (LGo.fr f (fun f w _ a b q => by unfold mRd2 mPg mRow at q; omega)) (fun _ _ _ => rfl) (cs0 f (fun f o' a q => by unfold mRd2 mPg mRow at q; omega)) ⟨⟨v1, ?_⟩, ⟨⟨by omega, by omega⟩, by rw [← eu]; exact v4.p pz⟩, fun e he hn => ?_⟩ (f.i _ _ (fun q => by unfold mRd2 mPg mRow at q; omega)) ⟨fun _ q => q, Or.inl (f.i _ _ (fun q => by unfold mRd2 mPg mRow at q; omega))⟩ (f.mono (fun f o' q => Or.inl q))
    · rw [f.a 323 0 (fun q => by unfold mRd2 mPg mRow at q; omega)]; exact v2
    · obtain ⟨o1, o2, o3, -⟩ := oe e he hn
      have ge := v5 e he hn
      have nn := o3.n
      by_cases lt : p < e.2.2.2.1
      · rcases v4.lt o1 lt with ⟨n, a, b⟩ | ⟨a, b⟩
        · have := a.1.2.1; have := a.2.1; omega
        · omega
      · rw [show e.2.2.2.1 = p by omega] at o3
        have := o3.1.2.1
        omega
  · have fS := h.fr f nrd k
    have nr0 : ∀ {g : Nat} {w : Int}, ¬ ((g = 135 ∧ w = 0) ∨ (g = 201 ∧ w = 0) ∨ ((g = 512 ∨ g = 513 ∨ g = 514) ∧ w = 0)) → ¬ mRd2 0 0 g w := fun a q => by unfold mRd2 mPg mRow at q; omega
    have ckf : CK σ τ 0 := CK.fr f (fun f x a b q => by unfold mRd2 mPg mRow at q; omega) (fun f a b q => by unfold mRd2 mPg mRow at q; omega)
    have nno : ¬ noN tv (db v) p (lmF dk v) := by
      intro z
      rcases z with z | ⟨_, z⟩
      · omega
      · rw [q1] at z
        rcases z with z | z | z | z
        · omega
        · omega
        · omega
        · exact z q4
    have nd : ndV tv (db v) p m := by
      rcases cn.at v4 v3.2 nno with ⟨n, a, b⟩ | ⟨a, b⟩
      · have e := a.1.2.1
        rw [show m = n by omega]; exact a
      · have := a.z m8; omega
    have g16 : gA τ 512 0 (0 + 16) = db v (p + 16) := q5 16 (by omega) (by omega)
    have e0 : ∀ j, 0 ≤ j → j < m → gA τ 512 0 (0 + j) = db v (p + j) := fun j j0 j1 => by rw [Int.zero_add]; exact q5 j j0 j1
    have on' : onC tv (db v) (p + m) := v4.n nd
    have lvf : gA τ 324 0 = gA σ 324 0 := f.a _ _ (nr0 (by omega))
    have beh : ∀ e, e ∈ L → e.2.2.1 = v → e.2.2.2.1 ≠ p → p + m ≤ e.2.2.2.1 := by
      intro e he hn ne
      obtain ⟨o1, -⟩ := oe e he hn
      have ge := v5 e he hn
      rcases v4.lt o1 (by omega) with ⟨n, a, b⟩ | ⟨a, b⟩
      · have := a.1.2.1; omega
      · have := a.z m8; omega
    have skip : ∀ {υ : St}, SA tv cf υ dk db L → (∀ e, e ∈ L → e.2.2.1 = v → e.2.2.2.1 ≠ p) → CK σ υ 0 → gA υ 324 0 = gA σ 324 0 → Fr (fun f o' => mRd2 0 0 f o' ∨ mIx 0 f o') σ υ → wp_Store_collectStep_b169 cf tv 0 Q m υ := by
      intro υ S ne ck lv fr
      have vp : gI υ 224 0 = p := by rw [fr.i _ _ (fun q => by unfold mRd2 mPg mRow mIx at q; omega)]; exact hp
      unfold wp_Store_collectStep_b169
      intro σ30 e30
      rw [vp, w32_id (by unfold rI; omega)] at e30
      rw [e30]
      refine fin υ dk db L _ (by omega) (by omega) S (hD.fr fr (fun f o' a q => by unfold rBI at a; unfold mRd2 mPg mRow mIx at q; omega)) rfl ck (LGo.fr fr (fun f w _ a b q => by unfold mRd2 mPg mRow mIx at q; omega)) (fun _ _ _ => rfl) (Or.inl ⟨⟨fr.a _ _ (fun q => by unfold mRd2 mPg mRow mIx at q; omega), fr.a _ _ (fun q => by unfold mRd2 mPg mRow mIx at q; omega)⟩, ⟨fr.i _ _ (fun q => by unfold mRd2 mPg mRow mIx at q; omega), fr.i _ _ (fun q => by unfold mRd2 mPg mRow mIx at q; omega)⟩, fun m _ _ => by rw [lv]⟩) ⟨⟨v1, ?_⟩, ⟨⟨by omega, q3⟩, on'⟩, fun e he hn => beh e he hn (ne e he hn)⟩ (fr.i _ _ (fun q => by unfold mRd2 mPg mRow mIx at q; omega)) ⟨fun _ q => q, Or.inl (fr.i _ _ (fun q => by unfold mRd2 mPg mRow mIx at q; omega))⟩ (fr.mono (fun f o' q => by
        rcases q with q | q
        · exact Or.inl q
        · exact Or.inr (Or.inl (Or.inr (Or.inr q)))))
      rw [fr.a 323 0 (fun q => by unfold mRd2 mPg mRow mIx at q; omega)]; exact v2
    refine sp_rtype q6 (by omega) (by omega) (fun _ _ => ⟨fun n5 => ?_, fun e5 => ?_⟩)
    · refine sp_rtype q6 (by omega) (by omega) (fun _ _ => sp_isLeaf (fun lf _ _ => ⟨fun z => absurd z (by decide), fun _ => ?_⟩) (fun nlf _ _ => ⟨fun _ => ?_, fun z => absurd rfl z⟩))
      · have kk : ∀ e, e ∈ L → e.2.2.1 = v → e.2.2.2.1 = p → kyE e = kap (hiN (gA τ 512 0) 0) (loN (gA τ 512 0) 0) ∧ e.2.2.2.2.1 = m := by
          intro e he hn ep
          obtain ⟨o1, o2, o3, o4, o5, o6⟩ := oe e he hn
          rw [ep] at o3 o5 o6
          have w := o3.1.2.1
          have em : e.2.2.2.2.1 = m := by omega
          rw [em] at o3
          have nn := o3.n
          have w' : jnV tv (gA τ 512 0) 0 m := o3.sh (fun j j0 j1 => (e0 j j0 j1).symm)
          refine ⟨?_, em⟩
          unfold kyE
          rw [← o5, ← o6, hiN_sh (n := m) (by omega) e0, loN_sh w' lf e0]
        refine sp_highOf q6 (by omega) (by omega) (fun rj1 _ => sp_lowOf q6 (by omega) (by omega) (fun rj2 _ => ?_))
        have nis : ∀ f o', mSA f o' → ¬ mIs 0 f o' := fun f o' a q => by unfold mSA isW at a; unfold mIs at q; omega
        have go : ∀ {υ : St}, Fr (mIs 0) τ υ → RK υ → (∀ e, e ∈ L → e.2.2.1 = v → e.2.2.2.1 ≠ p) → wp_Store_collectStep_b169 cf tv 0 Q m υ := by
          intro υ f2 k2 ne
          refine skip (fS.fr f2 nis k2) ne (ckf.tr (CK.fr f2 (fun f x a b q => by unfold mIs at q; omega) (fun f a b q => by unfold mIs at q; omega))) ?_ ((f.mono (fun f o' q => Or.inl q)).tr (f2.mono (fun f o' q => Or.inr (mIs_mIx f o' q))))
          rw [f2.a _ _ (fun q => by unfold mIs at q; omega)]; exact lvf
        have vic : ∀ {υ : St}, Fr (mIs 0) τ υ → gI υ 223 0 = v ∧ gI υ 224 0 = p := by
          intro υ f2
          rw [f2.i _ _ (fun q => by unfold mIs at q; omega), f2.i 224 0 (fun q => by unfold mIs at q; omega), f.i _ _ (nr0 (by omega)), f.i 224 0 (nr0 (by omega))]
          exact ⟨hv, hp⟩
        refine sp_find k rj1 rj2 fS.2.1.1.1 (fun υ A C hL hA hC f2 _ k2 => ⟨fun _ => ?_, fun z => absurd rfl z⟩) (fun υ A C x i hL hk hx hi hl0 hlf hat hnum hpl hsz hkk hhi hlo f2 _ k2 => ⟨fun z => absurd z (by decide), fun _ => ?_⟩)
        · refine go f2 k2 (fun e he hn ep => ?_)
          have q := (kk e he hn ep).1
          rw [hL] at he
          rcases List.mem_append.mp he with w | w
          · have := hA e w; omega
          · have := hC e w; omega
        · obtain ⟨w1, w2⟩ := vic f2
          generalize hee : en τ x i = ex at hL hk hnum hpl hsz hkk
          have mx : ex ∈ L := by rw [hL]; exact List.mem_append_right _ List.mem_cons_self
          have srt := fS.2.1.1.1.srt
          have uq : ∀ e, e ∈ L → e.2.2.1 = v → e.2.2.2.1 = p → e = ex := fun e he hn ep => Srt.uniq srt he mx (((kk e he hn ep).1).trans hk.symm)
          rw [w1, w2, hnum, hpl]
          refine ⟨fun z => go f2 k2 (fun e he hn ep => z (by rw [← uq e he hn ep]; exact hn)), fun z => ⟨fun z2 => go f2 k2 (fun e he hn ep => z2 (by rw [← uq e he hn ep]; exact ep)), fun z2 => ?_⟩⟩
          have ex1 : ex.2.2.1 = v := z
          have ex2 : ex.2.2.2.1 = p := z2
          have exm := (kk ex mx ex1 ex2).2
          obtain ⟨-, -, o3, -⟩ := oe ex mx ex1
          rw [exm] at o3
          have nn := o3.n
          have f12 : Fr (fun f o' => mRd2 0 0 f o' ∨ mIs 0 f o') σ υ := (f.mono (fun f o' q => Or.inl q)).tr (f2.mono (fun f o' q => Or.inr q))
          have su := fS.fr f2 nis k2
          have usu : gA υ 323 0 = gA σ 323 0 := f12.a _ _ (fun q => by unfold mRd2 mPg mRow mIs at q; omega)
          have oiu : gA υ 325 0 = gA σ 325 0 := f12.a _ _ (fun q => by unfold mRd2 mPg mRow mIs at q; omega)
          have lvu : gA υ 324 0 = gA σ 324 0 := f12.a _ _ (fun q => by unfold mRd2 mPg mRow mIs at q; omega)
          have wnu : gI υ 451 2 = gI σ 451 2 := f12.i _ _ (fun q => by unfold mRd2 mPg mRow mIs at q; omega)
          have wpu : gI υ 452 2 = gI σ 452 2 := f12.i _ _ (fun q => by unfold mRd2 mPg mRow mIs at q; omega)
          have bu : gA υ 512 0 = gA τ 512 0 := f2.a _ _ (fun q => by unfold mIs at q; omega)
          refine sp_moveNode (n := m) (e := ex) (A := A) (C := C) hc su (hD.fr f12 (fun f o' a q => by unfold rBI at a; unfold mRd2 mPg mRow mIs at q; omega)) (fun _ => by rw [usu]; exact hE) (by rw [f2.i _ _ (fun q => by unfold mIs at q; omega)]; exact q6) rfl hL exm (fun j j0 j1 => by rw [bu, ex1, ex2]; exact e0 j j0 j1) (fun τ2 dk' db' S2 D2 am ck2 mh lg2 dk2e lv2 sr2 fr2 k3 => ?_)
          have lg : LGo cf σ τ2 dk dk' db db' := (LGo.fr f12 (fun f w _ a b q => by unfold mRd2 mPg mRow mIs at q; omega)).tr lg2
          have lgv := lg.1 v (by omega) v1.2
          have vp : gI τ2 224 0 = p := by rw [fr2.i _ _ (fun q => by unfold mMn mRm mWc mSf mWr mBw mMv mIx at q; omega)]; exact w2
          have mh' : MHo cf σ τ2 m := by
            unfold MHo at mh ⊢
            rw [usu, oiu, wnu, wpu] at mh
            exact mh
          have us2 : gA τ2 323 0 v = 1 := by
            rcases mh' with y | y
            · rw [y.2.2.2.2.1]; exact v2
            · have u0 := y.2.2.1
              rw [y.2.2.2.2.1 v (by omega), if_neg (fun w => by rw [← w] at u0; omega)]
              split
              · rfl
              · exact v2
          unfold wp_Store_collectStep_b169
          intro σ30 e30
          rw [vp, w32_id (by unfold rI; omega)] at e30
          rw [e30]
          refine fin τ2 dk' db' _ _ (by omega) (by omega) S2 D2 am ((ckf.tr (CK.fr f2 (fun f x a b q => by unfold mIs at q; omega) (fun f a b q => by unfold mIs at q; omega))).tr ck2) lg (fun k a b => dk2e k (by rw [wnu]; exact a) b) (Or.inr ⟨m, by omega, mh', fun k m0 m1 => by rw [lv2 k m0 m1, lvu, ex1]⟩) ⟨⟨v1, us2⟩, ⟨⟨by omega, by have := lgv.2.1; omega⟩, on'.ext (fun i i0 i1 => lgv.2.2 i (by rw [ee]; omega))⟩, fun e he hn => ?_⟩ ?_ ⟨sr2.1, by rw [← wnu]; exact sr2.2⟩ ((f12.mono ?_).tr (fr2.mono (fun f o' q => Or.inr (Or.inl q))))
          · rw [hL] at srt
            obtain ⟨s1, s2, s3⟩ := List.pairwise_append.mp srt
            rcases List.mem_append.mp he with w | w
            · refine beh e (by rw [hL]; exact List.mem_append_left _ w) hn (fun ep => ?_)
              have := s3 e w ex List.mem_cons_self
              rw [uq e (by rw [hL]; exact List.mem_append_left _ w) hn ep] at this
              omega
            · rcases List.mem_cons.mp w with w | w
              · rw [w] at hn
                have hn' : gI τ2 451 2 = v := hn
                have := (S2.2.2.2.1 2 (Or.inr (Or.inl rfl)) (by rw [hn']; omega)).1
                rw [hn'] at this
                omega
              · have me : e ∈ L := by rw [hL]; exact List.mem_append_right _ (List.mem_cons_of_mem _ w)
                refine beh e me hn (fun ep => ?_)
                have := (List.pairwise_cons.mp s2).1 e w
                rw [uq e me hn ep] at this
                omega
          · rw [fr2.i _ _ (fun q => by unfold mMn mRm mWc mSf mWr mBw mMv mIx at q; omega)]
            exact f12.i _ _ (fun q => by unfold mRd2 mPg mRow mIs at q; omega)
          · intro f o' q
            rcases q with q | q
            · exact Or.inl q
            · exact Or.inr (Or.inl (Or.inr (Or.inr (mIs_mIx f o' q))))
      · refine skip fS (fun e he hn ep => ?_) ckf lvf (f.mono (fun f o' q => Or.inl q))
        obtain ⟨o1, o2, o3, o4, -⟩ := oe e he hn
        rw [ep] at o4
        rw [g16] at nlf
        exact nlf o4
    · rw [g16] at e5
      have ne0 : ∀ e, e ∈ L → e.2.2.1 = v → e.2.2.2.1 ≠ p := by
        intro e he hn ep
        obtain ⟨o1, o2, o3, o4, -⟩ := oe e he hn
        rw [ep, e5] at o4
        unfold lfT at o4
        omega
      refine sp_rget q6 (by omega) (by omega) (by omega) (fun _ _ _ => sp_rgetL q6 (by omega) (by omega) (by omega) (fun _ jl1 _ => sp_rgetL q6 (by omega) (by omega) (by omega) (fun _ jl2 _ => ?_)))
      have lev : 0 ≤ rI4 (gA τ 512 0) (0 + 24 + 0) := by
        rw [rI4_sh (g := gA τ 512 0) (h := db v) (a := 0 + 24 + 0) (b := p + 24) (fun i i0 i1 => by rw [show (0 : Int) + 24 + 0 + i = 24 + i by omega, show p + 24 + i = p + (24 + i) by omega]; exact q5 _ (by omega) (by have := nd.2.1; omega))]
        exact nd.2.2 e5
      refine sp_stir k jl2 lev fS.2.1.1.1 (fun _ => skip fS ne0 ckf lvf (f.mono (fun f o' q => Or.inl q))) (fun υ ix ck ke kr lv fr2 k2 => ?_)
      have S2 : SA tv cf υ dk db L := by
        refine SA.ix hc fS ⟨ix, fS.2.1.1.2.1, by rw [lv]; exact fS.2.1.1.2.2⟩ ck (fun m _ _ => by rw [lv]) (fr2.mono (fun f o' q => Or.inl q)) k2 fS.2.1.2.1 fS.2.1.2.2 (fun m m0 m1 => by rw [lv]; exact (fS.2.2.1 m m0 m1).2.2.2.1) (fun y w => ?_)
        have p := lS_pos fS.2.1.1.2.1 w (by have := (fS.2.1.2.2 y w).2.1.n; omega)
        have rg := (fS.2.1.2.2 y w).1
        have nmy := fS.2.2.1 y.2.2.1 rg.1 rg.2
        have q := fS.nn hc (m := y.2.2.1) (by omega)
        refine ⟨fun z => ?_, ?_⟩
        · have := (nmy.2.1 z).2.1
          have := nmy.2.2.1
          omega
        · apply Classical.byContradiction
          intro z
          have := nmy.2.2.2.2.1 z
          omega
      exact skip S2 ne0 (ckf.tr ck) (by rw [lv]; exact lvf) ((f.mono (fun f o' q => Or.inl q)).tr (fr2.mono (fun f o' q => Or.inr q)))
