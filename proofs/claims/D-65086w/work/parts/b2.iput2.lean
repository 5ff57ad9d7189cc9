theorem WT.lf {σ : St} : ∀ {l : Nat} {mn mx z lo hi : Int}, WT σ l mn mx z lo hi → ∀ {x k : Int}, x ∈ kl σ l z → gI σ 576 x = 0 → 0 ≤ k → k < gI σ 577 x → be σ x k = -1 ∧ (0 ≤ x ∧ x < 640) ∧ gI σ 577 x ≤ max mx 8
  | 0, mn, mx, z, lo, hi, h, x, k, hx, _, k0, k1 => by
    have e : x = z := List.mem_singleton.mp hx
    rw [e] at k1 ⊢
    exact ⟨(h.2.2.2 k k0 k1).2, h.1, by have := h.cnt; omega⟩
  | l + 1, mn, mx, z, lo, hi, h, x, k, hx, h0, k0, k1 => by
    rcases List.mem_cons.mp hx with e | hx
    · have := h.2.1
      rw [e] at h0; omega
    · obtain ⟨i, hi', hx'⟩ := cat_mem hx
      have c := h.cnt
      have a := (h.2.2.2 i hi'.1 (by omega)).2.2.lf hx' h0 k0 k1
      exact ⟨a.1, a.2.1, by omega⟩
theorem NC.eq {σ τ : St} (h1 : ∀ w, gI τ 577 w = gI σ 577 w) (h2 : ∀ w i, be τ w i = be σ w i) (h3 : ∀ w, gI τ 584 w = gI σ 584 w) : ∀ {l : Nat} {z : Int}, NC σ l z → NC τ l z
  | 0, _, _ => trivial
  | l + 1, z, h => by
    intro k k0 k1
    rw [h1] at k1
    rw [h2, h3, h3]
    exact ⟨(h k k0 k1).1, NC.eq h1 h2 h3 (h k k0 k1).2⟩
theorem sp_b71 {tv : Nat → Int} {cf : Cf} {υ : St} {o h lw n p s x k : Int} {A B L : List (Int × Int × Int × Int × Int × Int)} {Q : St → Prop} (hI : IX υ o L) (hL : L = A ++ en υ x k :: B) (e1 : (en υ x k).1 = h ∧ (en υ x k).2.1 = lw) (hx : x ∈ krt υ o) (hk : 0 ≤ k ∧ k < gI υ 577 x) (lx : gI υ 576 x = 0) (q1 : gI υ 396 o = x) (q2 : gI υ 397 o = k) (hf : gI υ 584 x ≠ 0) (hn : 0 ≤ n ∧ n < cf.1 - 6) (hlv : rI (gA υ 324 o n + s))
    (hQ : ∀ τ, IX τ o (A ++ (h, lw, n, p, s, -1) :: B) → CK υ τ o → (∀ m, gA τ 324 o m = if m = n then gA υ 324 o n + s else gA υ 324 o m) → Fr (mIx o) υ τ → Q τ) : wp_Index_put_b71 cf tv o h lw n p s Q υ := by
  obtain ⟨l, z, i1, i2, i3, i4, i5, i6, i7, i8, i9⟩ := hI
  have kr : krt υ o = kl υ l z := krt_eq i1 i2.cnt.2.1
  rw [kr] at hx
  have lf := i2.lf hx lx hk.1 hk.2
  have k9 : 0 ≤ k ∧ k < 9 := by omega
  have xk : ky υ x k = kap h lw := by show kyE (en υ x k) = _; unfold kyE; rw [e1.1, e1.2]
  unfold wp_Index_put_b71
  rw [q1, q2]
  refine ⟨lf.2.1.1, k9, fun σ22 e22 => ?_⟩
  have q1' : gI σ22 396 o = x := by rw [e22]; exact q1
  have q2' : gI σ22 397 o = k := by rw [e22]; exact q2
  rw [q1', q2']
  refine ⟨lf.2.1.1, k9, fun σ24 e24 => ?_⟩
  have q1'' : gI σ24 396 o = x := by rw [e24]; exact q1'
  have q2'' : gI σ24 397 o = k := by rw [e24]; exact q2'
  rw [q1'', q2'']
  refine ⟨lf.2.1.1, k9, fun σ26 e26 => ⟨hn, hn, fun σ27 e27 => ?_⟩⟩
  have l26 : gA σ26 324 o = gA υ 324 o := by
    funext m
    rw [e26, sA_of (by decide), e24, sA_of (by decide), e22, sA_of (by decide)]
  rw [l26, w32_id hlv] at e27
  have eE : ∀ z' k', en σ26 z' k' = if z' = x ∧ k' = k then (h, lw, n, p, s, -1) else en υ z' k' := by
    intro z' k'
    rw [e26, e24, e22]
    unfold en
    simp only [gA_sA]
    by_cases q : z' = x ∧ k' = k
    · obtain ⟨rfl, rfl⟩ := q
      have b : gA υ 583 z' k' = -1 := lf.1
      have a1 : gA υ 578 z' k' = h := e1.1
      have a2 : gA υ 579 z' k' = lw := e1.2
      simp [a1, a2, b]
    · simp [q]
  have fu : Fr (mKu [x]) υ σ26 := by
    rw [e26, e24, e22]
    have m : x ∈ [x] := List.mem_singleton.mpr rfl
    exact (((Fr.rf _ _).sA ⟨by omega, m⟩).sA ⟨by omega, m⟩).sA ⟨by omega, m⟩
  have nku : ∀ f w, (f < 577 ∨ 583 < f) → ¬ mKu [x] f w := fun f w a q => by unfold mKu at q; omega
  have cc : ∀ w, gI σ26 577 w = gI υ 577 w := fun w => by rw [e26, gI_sA, e24, gI_sA, e22, gI_sA]
  obtain ⟨s1, s2, s3⟩ := WT.setE (σ := υ) (τ := σ26) (x := x) (k := k) (κ := kap h lw) (e' := (h, lw, n, p, s, -1)) eE (fun w => fu.i _ _ (nku _ _ (by decide))) cc rfl xk rfl lx hk i2 hx
  have C : CH υ σ26 o (kl υ l z) (kl σ26 l z) := by rw [s2]; exact CH.updS i5 (fun w hw => (i6 w hw).1) i8 hx hf fu
  have bb : ∀ w i, be σ26 w i = be υ w i := by
    intro w i
    unfold be
    rw [eE]
    by_cases q : w = x ∧ i = k
    · rw [if_pos q, q.1, q.2]; exact lf.1.symm
    · rw [if_neg q]
  have N : NC σ26 l z := NC.eq cc bb (fun w => fu.i _ _ (nku _ _ (by decide))) i3
  have srt := i2.srt
  rw [i4, hL] at srt
  obtain ⟨m1, m2⟩ := srt_mid srt
  have ekx : kyE (en υ x k) = kap h lw := xk
  have eL : ls σ26 l z = A ++ (h, lw, n, p, s, -1) :: B := by
    have hA' : ∀ a, a ∈ A → kyE a ≠ kap h lw := fun a ha => by have := m1 a ha; omega
    have hB' : ∀ a, a ∈ B → kyE a ≠ kap h lw := fun a ha => by have := m2 a ha; omega
    rw [s3, i4, hL, List.map_append, List.map_cons, if_pos ekx, map_no hA', map_no hB']
  obtain ⟨r1, r2, r3⟩ := IX.of (υ := σ26) i1 i2.cnt.2.1 i7 i9 i6 i5 (Fr.rf _ _) (by rw [fu.i _ _ (nku _ _ (by decide))]; exact i1) s1 N eL C
  have f27 : Fr (fun f o' => f = 324 ∧ o' = o) σ26 σ27 := by rw [e27]; exact (Fr.rf _ _).sA ⟨rfl, rfl⟩
  refine hQ σ27 (r1.fr f27 (fun f x a b q => by omega) (fun f a b q => by omega)) (r2.tr (CK.fr f27 (fun f x a b q => by omega) (fun f a b q => by omega))) (fun m => ?_) (r3.tr (f27.mono (fun f o' q => Or.inr (Or.inr q))))
  rw [e27, sA_if, l26]
def szOK (cf : Cf) (L : List (Int × Int × Int × Int × Int × Int)) : Prop := ∀ e, e ∈ L → (0 ≤ e.2.2.1 ∧ e.2.2.1 < cf.1 - 6) ∧ 0 ≤ e.2.2.2.2.1 ∧ e.2.2.2.2.1 ≤ 1000000
theorem sp_iput {tv : Nat → Int} {cf : Cf} {σ : St} {o h lw n p s : Int} {L : List (Int × Int × Int × Int × Int × Int)} {Q : St → Prop} (ho : o = 0 ∨ o = 1) (hrk : RK σ) (hh : rJ h) (hlw : rJ lw) (hI : IX σ o L) (hlen : L.length ≤ 890) (hsz : szOK cf L) (hn : 0 ≤ n ∧ n < cf.1 - 6) (hs : 0 ≤ s ∧ s ≤ 1000000) (hlv : ∀ m, 0 ≤ m → m < cf.1 - 6 → -1000000000 ≤ gA σ 324 o m ∧ gA σ 324 o m ≤ 1000000000)
    (hQ : ∀ τ L', IX τ o L' → PUT L L' (kap h lw) (h, lw, n, p, s, -1) → CK σ τ o → (∀ m, 0 ≤ m → m < cf.1 - 6 → gA τ 324 o m - lS L' m = gA σ 324 o m - lS L m) → Fr (mIx o) σ τ → Q τ) : wp_Index_put cf tv o h lw n p s Q σ := by
  have kb := kap_big (l := lw) hh
  have msI : ∀ f o', mIs o f o' → mIx o f o' := fun f o' q => by unfold mIs at q; exact Or.inl ⟨by omega, q.2⟩
  have nI1 : ∀ f x, 576 ≤ f → f ≤ 587 → ¬ mIs o f x := fun f x a b q => by unfold mIs at q; omega
  have nI2 : ∀ f, 385 ≤ f → f ≤ 390 → ¬ mIs o f o := fun f a b q => by unfold mIs at q; omega
  -- behind an insertion the key is found
  have again : ∀ (υ : St) (A B : List (Int × Int × Int × Int × Int × Int)) (e : Int × Int × Int × Int × Int × Int), RK υ → IX υ o (A ++ e :: B) → L = A ++ B → (∀ a, a ∈ A → kyE a < kap h lw) → (∀ b, b ∈ B → kap h lw < kyE b) → (e.1 = h ∧ e.2.1 = lw) → CK σ υ o → Fr (mIx o) σ υ → gA υ 324 o = gA σ 324 o → (∀ x, x ∈ krt υ o → gI υ 576 x = 0 → (∃ k, (0 ≤ k ∧ k < gI υ 577 x) ∧ ky υ x k = kap h lw) → gI υ 584 x ≠ 0) → wp_Index_put_b64 cf tv o h lw n p s Q (wp_Index_put_b71 cf tv o h lw n p s Q) υ := by
    intro υ A B e kυ hIυ hL hA hB he hck hfr hl hfsh
    have ek : kyE e = kap h lw := by unfold kyE; rw [he.1, he.2]
    unfold wp_Index_put_b64
    refine sp_find kυ hh hlw hIυ (fun τ A' B' q1 q2 q3 _ _ _ => ?_) (fun τ A' B' x k q1 q2 q3 q4 q5 q6 q7 q8 q9 q10 q11 q12 q13 q14 _ kτ => ?_)
    · have m : e ∈ A' ++ B' := by rw [← q1]; exact List.mem_append.mpr (Or.inr List.mem_cons_self)
      rcases List.mem_append.mp m with w | w
      · have := q2 e w; omega
      · have := q3 e w; omega
    · have IXτ : IX τ o (A ++ e :: B) := hIυ.fr q14 nI1 nI2
      have CKτ : CK υ τ o := CK.fr q14 nI1 nI2
      have ken : ∀ w i, en τ w i = en υ w i := fun w i => en_fr q14 (fun f a b q => by unfold mIs at q; omega) i
      have kcn : ∀ f w, 576 ≤ f → gI τ f w = gI υ f w := fun f w a => q14.i _ _ (fun q => by unfold mIs at q; omega)
      have lvτ : gA τ 324 o = gA υ 324 o := q14.a _ _ (fun q => by unfold mIs at q; omega)
      have krτ : krt τ o = krt υ o := by
        unfold krt
        rw [q14.i _ _ (nI2 _ (by decide) (by decide)), kcn _ _ (by decide)]
        exact (tr_fr _ _ (fun x _ => KE.fr q14 (fun f a b q => by unfold mIs at q; omega))).2
      -- where it is, the row is parted alike
      obtain ⟨l, z, -, j2, -, j4, -⟩ := id hIυ
      have srt := j2.srt
      rw [j4] at srt
      have srt2 := srt
      rw [q1] at srt2
      obtain ⟨m1, m2⟩ := srt_mid srt2
      have X : ∃ A2 B2, [e] = A2 ++ en υ x k :: B2 ∧ A' = A ++ A2 ∧ B' = B2 ++ B := by
        refine spl_mid2 (κ := kap h lw) q2 (X := A) (L := [e]) (Y := B) q1.symm (fun a ha => ?_) hA hB
        have := m1 a ha; omega
      obtain ⟨A2, B2, x1, x2, x3⟩ := X
      have x4 : A2 = [] ∧ B2 = [] ∧ e = en υ x k := by
        cases A2 with
        | nil =>
          obtain ⟨u1, u2⟩ := List.cons.inj x1
          exact ⟨rfl, u2.symm, u1⟩
        | cons a A2 =>
          obtain ⟨u1, u2⟩ := List.cons.inj x1
          cases A2 <;> cases u2
      rw [x4.1, List.append_nil] at x2
      rw [x4.2.1, List.nil_append] at x3
      have lvn := hlv n hn.1 hn.2
      refine sp_b71 IXτ (by rw [ken, x4.2.2]) (by rw [ken]; exact q11) (by rw [krτ]; exact q3) (by rw [kcn _ _ (by decide)]; exact q4) (by rw [kcn _ _ (by decide)]; exact q5) q6 q7 (by rw [kcn _ _ (by decide)]; exact hfsh x q3 q5 ⟨k, q4, q2⟩) hn (by rw [lvτ, hl]; unfold rI; omega) (fun φ r1 r2 r3 r4 => ?_)
      refine hQ φ _ r1 ⟨A, B, rfl, Or.inl ⟨hL, hA, hB⟩⟩ ((hck.tr CKτ).tr r2) (fun m m0 m1 => ?_) ((hfr.tr (q14.mono msI)).tr r4)
      rw [r3, lvτ, hl, hL, lS_app, lS_app, lS_cons]
      by_cases w : m = n
      · rw [if_pos w, if_pos w.symm, w]
        show _ + s - (_ + (s + _)) = _
        omega
      · rw [if_neg w, if_neg (fun q => w q.symm)]
        omega
  unfold wp_Index_put
  refine sp_find hrk hh hlw hI (fun τ A B q1 q2 q3 q4 _ kτ => ⟨fun _ => ?_, fun q => absurd rfl q⟩) (fun τ A B x k q1 q2 q3 q4 q5 q6 q7 q8 q9 q10 q11 q12 q13 q14 _ kτ => ⟨fun q => by omega, fun _ => ?_⟩)
  · have IXτ : IX τ o L := hI.fr q4 nI1 nI2
    have CKτ : CK σ τ o := CK.fr q4 nI1 nI2
    have lvτ : gA τ 324 o = gA σ 324 o := q4.a _ _ (fun q => by unfold mIs at q; omega)
    obtain ⟨l, z, i1, i2, i3, i4, i5, i6, i7, i8, i9⟩ := IXτ
    have few := i2.few (by rw [i4]; omega)
    rw [i1]
    refine sp_insert ho hh hlw l 12 τ z _ (-BIG) BIG A B _ (by omega) kτ i2 kb.2 (i4.trans q1) q2 q3 i3 i5 (fun x hx => (i6 x hx).1) (by omega) i8 (by omega) (fun r υ e he ip rr kυ => ?_)
    obtain ⟨u1, u2, u3, u4⟩ := ip
    have mnl : min (-BIG) (kap h lw) = -BIG := by omega
    rw [mnl] at u3
    have leaff : ∀ (φ : St) (K1 : List Int), CH τ φ o (kl τ l z) K1 → (∀ x, x ∈ K1 → gI φ 576 x = 0 → (∃ k, (0 ≤ k ∧ k < gI φ 577 x) ∧ ky φ x k = kap h lw) → gI φ 584 x ≠ 0) := by
      intro φ K1 hc x hx lx ex fx
      obtain ⟨k, hk, ek⟩ := ex
      obtain ⟨d1, d2, d3⟩ := hc.2.2.2.2.2.2.1 x hx fx
      have m := i2.ent d1 (by rw [← d2.1]; exact lx) hk.1 (by rw [← d2.2.1]; exact hk.2)
      have ek' : kyE (en τ x k) = kap h lw := by rw [← d2.2.2]; exact ek
      rw [i4, q1] at m
      rcases List.mem_append.mp m with w | w
      · have := q2 _ w; omega
      · have := q3 _ w; omega
    rcases u3 with ⟨v0, v1, v2, v3, v4⟩ | ⟨v0, v1, v2, v3, v4, v5, v6, v7⟩
    · refine ⟨fun _ => ?_, fun q => by omega⟩
      have rt : gI υ 387 o = z := by rw [v4.2.2.2.2.2.2.2.2.i _ _ (fun q => by unfold mCh at q; omega)]; exact i1
      obtain ⟨r1, r2, r3⟩ := IX.of (υ := υ) i1 i2.cnt.2.1 i7 i9 i6 i5 (Fr.rf _ _) rt v1 v2 v3 v4
      refine again υ A B e kυ r1 q1 q2 q3 ⟨he.1, he.2.1⟩ (CKτ.tr r2) ((q4.mono msI).tr r3) ?_ ?_
      · rw [v4.2.2.2.2.2.2.2.2.a _ _ (fun q => by unfold mCh at q; omega), lvτ]
      · rw [krt_eq rt v1.cnt.2.1]; exact leaff υ _ v4
    · refine ⟨fun q => by omega, fun _ => ?_⟩
      have rt : gI υ 387 o = z := by rw [v7.2.2.2.2.2.2.2.2.i _ _ (fun q => by unfold mCh at q; omega)]; exact i1
      refine sp_grow rt v2 v3 v4 v5 v7 (by omega) ho (by omega) v0 (fun υ2 t w1 w2 w3 w4 w5 k2 => ?_)
      obtain ⟨r1, r2, r3⟩ := IX.of (υ := sI υ2 387 o t) i1 i2.cnt.2.1 i7 i9 i6 i5 ((Fr.rf _ _).sI ⟨rfl, rfl⟩) (by rw [gI_sI, if_pos ⟨rfl, rfl⟩]) (by rw [if_neg (by omega)]; exact w1) w2 (w3.trans v6) w4
      refine again _ A B e k2 r1 q1 q2 q3 ⟨he.1, he.2.1⟩ (CKτ.tr r2) ((q4.mono msI).tr r3) ?_ ?_
      · have : gA (sI υ2 387 o t) 324 o = gA υ2 324 o := rfl
        rw [this, w4.2.2.2.2.2.2.2.2.a _ _ (fun q => by unfold mCh at q; omega), lvτ]
      · have e1 : krt (sI υ2 387 o t) o = kl υ2 (l + 1) t := by
          have hu : Fr (fun f o' => f = 387 ∧ o' = o) υ2 (sI υ2 387 o t) := (Fr.rf _ _).sI ⟨rfl, rfl⟩
          rw [krt_eq (z := t) (l := l + 1) (by rw [gI_sI, if_pos ⟨rfl, rfl⟩]) (by rw [gI_sI, if_neg (fun q => absurd q.1 (by decide))]; exact w1.cnt.2.1)]
          exact (tr_fr _ _ (fun x _ => KE.fr hu (fun f' a b q => by omega))).2
        rw [e1]
        intro x hx lx ex
        have a := leaff υ2 _ w4 x hx
        exact a lx ex
  · have sx := hsz (en σ x k) (by rw [q1]; exact List.mem_append.mpr (Or.inr List.mem_cons_self))
    rw [q8, q10]
    refine ⟨sx.1, sx.1, fun σ34 e34 => ?_⟩
    have lvτ : gA τ 324 o = gA σ 324 o := q14.a _ _ (fun q => by unfold mIs at q; omega)
    have lv0 := hlv _ sx.1.1 sx.1.2
    rw [lvτ, w32_id (by unfold rI; omega)] at e34
    have f34 : Fr (fun f o' => f = 324 ∧ o' = o) τ σ34 := by rw [e34]; exact (Fr.rf _ _).sA ⟨rfl, rfl⟩
    have fm : Fr (fun f o' => mIs o f o' ∨ (f = 324 ∧ o' = o)) σ σ34 := (q14.mono (fun f o' q => Or.inl q)).tr (f34.mono (fun f o' q => Or.inr q))
    have n1' : ∀ f x, 576 ≤ f → f ≤ 587 → ¬ (mIs o f x ∨ (f = 324 ∧ x = o)) := fun f x a b q => by unfold mIs at q; omega
    have n2' : ∀ f, 385 ≤ f → f ≤ 390 → ¬ (mIs o f o ∨ (f = 324 ∧ o = o)) := fun f a b q => by unfold mIs at q; omega
    have IX34 : IX σ34 o L := hI.fr fm n1' n2'
    have CK34 : CK σ σ34 o := CK.fr fm n1' n2'
    have k34 : RK σ34 := by rw [e34]; exact kτ.sA (by show rI _; unfold rI; omega)
    have ke34 : ∀ w, KE σ σ34 w := fun w => KE.fr fm (fun f a b q => by unfold mIs at q; omega)
    refine sp_touchWay k34 hlw IX34 (fun φ l z g1 g2 g3 kφ => ?_)
    obtain ⟨l', z', i1, i2, i3, i4, i5, i6, i7, i8, i9⟩ := IX34
    have ez : z = z' := g1.symm.trans i1
    have el : l = l' := by
      have a := g2.cnt.2.1
      have b := i2.cnt.2.1
      rw [ez] at a; omega
    subst ez el
    obtain ⟨w1, w2, w3, w4⟩ := g3
    obtain ⟨t1, t2⟩ := tr_fr (σ := σ34) (τ := φ) l z (fun x _ => w1 x)
    have rt : gI φ 387 o = z := by rw [w2.2.2.2.2.2.2.2.2.i _ _ (fun q => by unfold mCh at q; omega)]; exact i1
    obtain ⟨r1, r2, r3⟩ := IX.of (υ := φ) i1 i2.cnt.2.1 i7 i9 i6 i5 (Fr.rf _ _) rt (i2.fr (fun x _ => w1 x)) w3 (t1.trans i4) (by rw [t2]; exact w2)
    have kk : ∀ w, KE σ φ w := fun w => (ke34 w).tr (w1 w)
    have kr34 : krt σ34 o = kl σ34 l z := krt_eq i1 i2.cnt.2.1
    have krσ : krt σ o = kl σ34 l z := by
      rw [← kr34]; unfold krt
      rw [fm.i _ _ (n2' _ (by decide) (by decide)), (ke34 _).1]
      exact ((tr_fr _ _ (fun x _ => ke34 x)).2).symm
    have krφ : krt φ o = kl σ34 l z := by rw [krt_eq rt (by rw [(w1 z).1]; exact i2.cnt.2.1), t2]
    have fcx : ∀ f, (f = 396 ∨ f = 397) → gI φ f o = gI τ f o := by
      intro f hf
      rw [w2.2.2.2.2.2.2.2.2.i _ _ (fun q => by unfold mCh at q; omega), f34.i _ _ (fun q => by omega)]
    have lvφ : gA φ 324 o = gA σ34 324 o := w2.2.2.2.2.2.2.2.2.a _ _ (fun q => by unfold mCh at q; omega)
    have l34 : ∀ m, gA σ34 324 o m = if m = (en σ x k).2.2.1 then gA σ 324 o (en σ x k).2.2.1 - (en σ x k).2.2.2.2.1 else gA σ 324 o m := fun m => by rw [e34, sA_if, lvτ]
    have lvn := hlv n hn.1 hn.2
    refine sp_b71 (A := A) (B := B) (x := x) (k := k) r1 (by rw [(kk x).2.2]; exact q1) (by rw [(kk x).2.2]; exact q11) (by rw [krφ, ← krσ]; exact q3) (by rw [(kk x).2.1]; exact q4) (by rw [(kk x).1]; exact q5) (by rw [fcx _ (Or.inl rfl)]; exact q6) (by rw [fcx _ (Or.inr rfl)]; exact q7) ?_ hn ?_ (fun ψ v1 v2 v3 v4 => ?_)
    · refine w4 x (by rw [← krσ]; exact q3) (by rw [(ke34 x).1]; exact q5) ⟨k, by rw [(ke34 x).2.1]; exact q4, ?_⟩
      rw [(ke34 x).k]; exact q2
    · rw [lvφ, l34]; unfold rI; split <;> omega
    · refine hQ ψ _ v1 ⟨A, B, rfl, Or.inr ⟨en σ x k, q2, q1⟩⟩ ((CK34.tr r2).tr v2) (fun m m0 m1 => ?_) (((fm.mono (fun f o' q => ?_)).tr r3).tr v4)
      · have c1 : lS ((h, lw, n, p, s, -1) :: B) m = (if n = m then s else 0) + lS B m := lS_cons _ _ _
        rw [v3, lvφ, l34, l34, q1, lS_app, lS_app, c1, lS_cons]
        generalize (en σ x k).2.2.1 = u1
        generalize (en σ x k).2.2.2.2.1 = u2
        by_cases w : m = n
        · subst w
          by_cases u : m = u1
          · subst u; simp; omega
          · have u' : ¬ u1 = m := fun q => u q.symm
            simp [u, u']; omega
        · have w' : ¬ n = m := fun q => w q.symm
          by_cases u : m = u1
          · subst u; simp [w, w']; omega
          · have u' : ¬ u1 = m := fun q => u q.symm
            simp [w, w', u, u']
      · rcases q with q | q
        · exact msI f o' q
        · exact Or.inr (Or.inr q)
