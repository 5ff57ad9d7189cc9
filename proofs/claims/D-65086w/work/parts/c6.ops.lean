/-! what keys there are: put, gone, cut -/
theorem fl_all {α : Type} {p : α → Prop} [DecidablePred p] {A : List α} (h : ∀ a, a ∈ A → p a) : A.filter (fun y => decide (p y)) = A := List.filter_eq_self.mpr (fun a ha => decide_eq_true (h a ha))
theorem fl_none {α : Type} {p : α → Prop} [DecidablePred p] {A : List α} (h : ∀ a, a ∈ A → ¬ p a) : A.filter (fun y => decide (p y)) = [] := List.filter_eq_nil_iff.mpr (fun a ha => by rw [decide_eq_true_iff]; exact h a ha)
theorem fl_mem {α : Type} {p : α → Prop} [DecidablePred p] {A : List α} {a : α} : a ∈ A.filter (fun y => decide (p y)) ↔ a ∈ A ∧ p a := by rw [List.mem_filter, decide_eq_true_iff]
def lput (e : Int × Int × Int × Int × Int × Int) (L : List (Int × Int × Int × Int × Int × Int)) : List (Int × Int × Int × Int × Int × Int) := L.filter (fun y => decide (kyE y < kyE e)) ++ e :: L.filter (fun y => decide (kyE e < kyE y))
def ldel (κ : Int) (L : List (Int × Int × Int × Int × Int × Int)) : List (Int × Int × Int × Int × Int × Int) := L.filter (fun y => decide (kyE y ≠ κ))
/-- those of h from a low key on go -/
def lcut (h l : Int) (L : List (Int × Int × Int × Int × Int × Int)) : List (Int × Int × Int × Int × Int × Int) := L.filter (fun y => decide (¬ (y.1 = h ∧ kap h l ≤ kyE y)))
abbrev Srt (L : List (Int × Int × Int × Int × Int × Int)) : Prop := L.Pairwise (fun a b => kyE a < kyE b)
theorem PUT.eq {L L' : List (Int × Int × Int × Int × Int × Int)} {κ : Int} {e : Int × Int × Int × Int × Int × Int} (hs : Srt L) (h : PUT L L' κ e) (hk : kyE e = κ) : L' = lput e L := by
  obtain ⟨A, B, rfl, h⟩ := h
  unfold lput
  rw [hk]
  rcases h with ⟨rfl, hA, hB⟩ | ⟨e0, k0, rfl⟩
  · rw [List.filter_append, List.filter_append, fl_all (p := fun y => kyE y < κ) hA, fl_none (p := fun y => kyE y < κ) (fun b hb => by have := hB b hb; omega), fl_none (p := fun y => κ < kyE y) (fun b hb => by have := hA b hb; omega), fl_all (p := fun y => κ < kyE y) hB, List.append_nil, List.nil_append]
  · obtain ⟨m1, m2⟩ := srt_mid hs
    rw [k0] at m1 m2
    rw [List.filter_append, List.filter_append, fl_all (p := fun y => kyE y < κ) m1, fl_none (p := fun y => kyE y < κ) (A := e0 :: B) (fun b hb => by
      rcases List.mem_cons.mp hb with w | w
      · rw [w, k0]; omega
      · have := m2 b w; omega), fl_none (p := fun y => κ < kyE y) (fun b hb => by have := m1 b hb; omega), List.append_nil, List.nil_append]
    congr 2
    rw [List.filter_cons, if_neg (by rw [decide_eq_true_iff, k0]; omega), fl_all (p := fun y => κ < kyE y) m2]
theorem ldel_eq {A B : List (Int × Int × Int × Int × Int × Int)} {e : Int × Int × Int × Int × Int × Int} {κ : Int} (hs : Srt (A ++ e :: B)) (hk : kyE e = κ) : ldel κ (A ++ e :: B) = A ++ B := by
  obtain ⟨m1, m2⟩ := srt_mid hs
  rw [hk] at m1 m2
  unfold ldel
  rw [List.filter_append, List.filter_cons, if_neg (by rw [decide_eq_true_iff]; exact fun q => q hk), fl_all (p := fun y => kyE y ≠ κ) (fun b hb => by have := m1 b hb; omega), fl_all (p := fun y => kyE y ≠ κ) (fun b hb => by have := m2 b hb; omega)]
theorem lS_r {cf : Cf} : ∀ {L : List (Int × Int × Int × Int × Int × Int)}, szOK cf L → ∀ m, 0 ≤ lS L m ∧ lS L m ≤ 1000000 * L.length
  | [], _, m => ⟨Int.le_refl _, Int.le_refl _⟩
  | e :: L, h, m => by
    have a := lS_r (L := L) (cf := cf) (fun x hx => h x (List.mem_cons_of_mem _ hx)) m
    have b := (h e List.mem_cons_self).2
    rw [lS_cons, List.length_cons]
    split <;> omega
theorem IX.srt {σ : St} {o : Int} {L : List (Int × Int × Int × Int × Int × Int)} (h : IX σ o L) : Srt L := by
  obtain ⟨l, z, i1, i2, i3, i4, -⟩ := h
  rw [← i4]; exact i2.srt
def ixL (σ : St) (o : Int) : List (Int × Int × Int × Int × Int × Int) := ls σ (gI σ 576 (gI σ 387 o)).toNat (gI σ 387 o)
theorem IX.eL {σ : St} {o : Int} {L : List (Int × Int × Int × Int × Int × Int)} (h : IX σ o L) : ixL σ o = L := by
  obtain ⟨l, z, i1, i2, i3, i4, -⟩ := h
  unfold ixL
  rw [i1, i2.cnt.2.1, show ((l : Nat) : Int).toNat = l by omega]
  exact i4
/-- the keys with the bytes that count -/
def XI (cf : Cf) (σ : St) (o : Int) (L : List (Int × Int × Int × Int × Int × Int)) : Prop := IX σ o L ∧ szOK cf L ∧ ∀ m, 0 ≤ m → m < cf.1 - 6 → 0 ≤ gA σ 324 o m - lS L m ∧ gA σ 324 o m - lS L m ≤ 100000000
def XR (cf : Cf) (σ τ : St) (o : Int) (L L' : List (Int × Int × Int × Int × Int × Int)) : Prop := CK σ τ o ∧ (∀ m, 0 ≤ m → m < cf.1 - 6 → gA τ 324 o m - lS L' m = gA σ 324 o m - lS L m) ∧ Fr (mIx o) σ τ
theorem XR.tr {cf : Cf} {a b c : St} {o : Int} {L M N : List (Int × Int × Int × Int × Int × Int)} (h : XR cf a b o L M) (k : XR cf b c o M N) : XR cf a c o L N := ⟨h.1.tr k.1, fun m m0 m1 => (k.2.1 m m0 m1).trans (h.2.1 m m0 m1), h.2.2.tr k.2.2⟩
theorem mIs_mIx {o : Int} : ∀ f o', mIs o f o' → mIx o f o' := fun f o' q => by unfold mIs at q; exact Or.inl ⟨by omega, q.2⟩
theorem XR.is {cf : Cf} {σ τ : St} {o : Int} {L : List (Int × Int × Int × Int × Int × Int)} (f : Fr (mIs o) σ τ) : XR cf σ τ o L L := by
  refine ⟨CK.fr f (fun f x a b q => by unfold mIs at q; omega) (fun f a b q => by unfold mIs at q; omega), fun m _ _ => ?_, f.mono mIs_mIx⟩
  rw [f.a 324 o (fun q => by unfold mIs at q; omega)]
theorem XI.is {cf : Cf} {σ τ : St} {o : Int} {L : List (Int × Int × Int × Int × Int × Int)} (h : XI cf σ o L) (f : Fr (mIs o) σ τ) : XI cf τ o L := by
  refine ⟨h.1.fr f (fun f x a b q => by unfold mIs at q; omega) (fun f a b q => by unfold mIs at q; omega), h.2.1, ?_⟩
  rw [f.a 324 o (fun q => by unfold mIs at q; omega)]
  exact h.2.2
theorem XI.of {cf : Cf} {σ τ : St} {o : Int} {L L' : List (Int × Int × Int × Int × Int × Int)} (h : XI cf σ o L) (r : XR cf σ τ o L L') (i : IX τ o L') (s : szOK cf L') : XI cf τ o L' :=
  ⟨i, s, fun m m0 m1 => by rw [r.2.1 m m0 m1]; exact h.2.2 m m0 m1⟩
theorem XI.lv {cf : Cf} {σ : St} {o : Int} {L : List (Int × Int × Int × Int × Int × Int)} (h : XI cf σ o L) (hl : L.length ≤ 890) : ∀ m, 0 ≤ m → m < cf.1 - 6 → -1000000000 ≤ gA σ 324 o m ∧ gA σ 324 o m ≤ 1000000000 := by
  intro m m0 m1
  have a := h.2.2 m m0 m1
  have b := lS_r h.2.1 m
  omega
theorem lput_len (e : Int × Int × Int × Int × Int × Int) (L : List (Int × Int × Int × Int × Int × Int)) : (lput e L).length ≤ L.length + 1 := by
  unfold lput
  rw [List.length_append, List.length_cons]
  have : ∀ M : List (Int × Int × Int × Int × Int × Int), (M.filter (fun y => decide (kyE y < kyE e))).length + (M.filter (fun y => decide (kyE e < kyE y))).length ≤ M.length := by
    intro M
    induction M with
    | nil => exact Nat.le_refl _
    | cons x M ih =>
      rw [List.filter_cons, List.filter_cons, List.length_cons]
      by_cases q : kyE x < kyE e
      · rw [if_pos (decide_eq_true q), if_neg (by rw [decide_eq_true_iff]; omega), List.length_cons]; omega
      · rw [if_neg (by rw [decide_eq_true_iff]; exact q)]
        split
        · rw [List.length_cons]; omega
        · omega
  have := this L
  omega
theorem lput_mem {e x : Int × Int × Int × Int × Int × Int} {L : List (Int × Int × Int × Int × Int × Int)} (h : x ∈ lput e L) : x = e ∨ (x ∈ L ∧ kyE x ≠ kyE e) := by
  unfold lput at h
  rcases List.mem_append.mp h with q | q
  · have := fl_mem.mp q
    exact Or.inr ⟨this.1, by omega⟩
  · rcases List.mem_cons.mp q with w | w
    · exact Or.inl w
    · have := fl_mem.mp w
      exact Or.inr ⟨this.1, by omega⟩
theorem sp_xput {tv : Nat → Int} {cf : Cf} {σ : St} {o h lw n p s : Int} {L : List (Int × Int × Int × Int × Int × Int)} {Q : St → Prop} (ho : o = 0 ∨ o = 1) (hrk : RK σ) (hh : rJ h) (hlw : rJ lw) (hI : XI cf σ o L) (hlen : L.length ≤ 889) (hn : 0 ≤ n ∧ n < cf.1 - 6) (hs : 0 ≤ s ∧ s ≤ 1000000)
    (hQ : ∀ τ, XI cf τ o (lput (h, lw, n, p, s, -1) L) → XR cf σ τ o L (lput (h, lw, n, p, s, -1) L) → Q τ) : wp_Index_put cf tv o h lw n p s Q σ := by
  refine sp_iput ho hrk hh hlw hI.1 (by omega) hI.2.1 hn hs (hI.lv (by omega)) (fun τ L' i P c l f => ?_)
  have e := P.eq hI.1.srt rfl
  rw [e] at i l
  have r : XR cf σ τ o L (lput (h, lw, n, p, s, -1) L) := ⟨c, l, f⟩
  refine hQ τ (hI.of r i (fun x hx => ?_)) r
  rcases lput_mem hx with w | w
  · rw [w]; exact ⟨hn, hs⟩
  · exact hI.2.1 x w.1
theorem sp_xdel {tv : Nat → Int} {cf : Cf} {σ : St} {o h lw : Int} {L : List (Int × Int × Int × Int × Int × Int)} {Q : St → Prop} (hrk : RK σ) (hh : rJ h) (hlw : rJ lw) (hI : XI cf σ o L) (hlen : L.length ≤ 890)
    (hQ : ∀ τ, XI cf τ o (ldel (kap h lw) L) → XR cf σ τ o L (ldel (kap h lw) L) → Q τ) : wp_Index_remove cf tv o h lw Q σ := by
  refine sp_iremove hrk hh hlw hI.1 hlen hI.2.1 (hI.lv hlen) (fun τ q f => ?_) (fun τ A B e i q k c l f => ?_)
  · have e : ldel (kap h lw) L = L := fl_all (p := fun y => kyE y ≠ kap h lw) q
    rw [e] at hQ
    exact hQ τ (hI.is f) (XR.is f)
  · have sr := hI.1.srt
    rw [q] at sr
    have e := ldel_eq sr k
    rw [← q] at e
    rw [e] at hQ
    have r : XR cf σ τ o L (A ++ B) := ⟨c, l, f⟩
    refine hQ τ (hI.of r i (fun x hx => hI.2.1 x ?_)) r
    rw [q]
    rcases List.mem_append.mp hx with w | w
    · exact List.mem_append_left _ w
    · exact List.mem_append_right _ (List.mem_cons_of_mem _ w)
theorem kap_hi {h l h' l' : Int} (q : h < h') : kap h l < kap h' l' := by unfold kap; omega
theorem kap_hi' {h l h' l' : Int} (q : kap h l ≤ kap h' l') : h ≤ h' := by unfold kap at q; omega
/-- a step of cutting: what is found goes -/
theorem lcut_step {h l : Int} {A B : List (Int × Int × Int × Int × Int × Int)} {e : Int × Int × Int × Int × Int × Int} (hs : Srt (A ++ e :: B)) (h1 : e.1 = h) (h2 : kap h l ≤ kyE e) : lcut h l (A ++ B) = lcut h l (A ++ e :: B) := by
  unfold lcut
  rw [List.filter_append, List.filter_append, List.filter_cons, if_neg (by rw [decide_eq_true_iff]; exact fun q => q ⟨h1, h2⟩)]
theorem lcut_end {h l : Int} {A B : List (Int × Int × Int × Int × Int × Int)} {e : Int × Int × Int × Int × Int × Int} (hs : Srt (A ++ e :: B)) (hA : ∀ a, a ∈ A → kyE a < kap h l) (h1 : e.1 ≠ h) (h2 : kap h l ≤ kyE e) : lcut h l (A ++ e :: B) = A ++ e :: B := by
  obtain ⟨m1, m2⟩ := srt_mid hs
  refine fl_all (p := fun y : Int × Int × Int × Int × Int × Int => ¬ (y.1 = h ∧ kap h l ≤ kyE y)) (fun y hy q => ?_)
  have lt : h < e.1 := by have : h ≤ e.1 := kap_hi' (l := l) (l' := e.2.1) h2; omega
  rcases List.mem_append.mp hy with w | w
  · have := hA y w; omega
  · rcases List.mem_cons.mp w with w | w
    · rw [w] at q; exact h1 q.1
    · have a := m2 y w
      have b : kyE y < kyE e := by
        show kap y.1 y.2.1 < kap e.1 e.2.1
        rw [q.1]; exact kap_hi lt
      omega
theorem lcut_mem {h l : Int} {L : List (Int × Int × Int × Int × Int × Int)} {x : Int × Int × Int × Int × Int × Int} (hx : x ∈ lcut h l L) : x ∈ L := (fl_mem.mp hx).1
theorem sp_xcutL {tv : Nat → Int} {cf : Cf} {σ : St} {o h l : Int} {L : List (Int × Int × Int × Int × Int × Int)} (hrk : RK σ) (hh : rJ h) (hl : rJ l) (hI : XI cf σ o L) (hlen : L.length ≤ 890) {R : Int → St → Prop}
    (h0 : ∀ r τ, XI cf τ o L → XR cf σ τ o L L → lcut h l L = L → (r = 0 ∨ (r = 1 ∧ gI τ 391 o ≠ h)) → R r τ)
    (h1 : ∀ τ, gI τ 391 o = h → (∀ K : St → Prop, RK τ → (∀ υ M, XI cf υ o M → XR cf σ υ o L M → lcut h l M = lcut h l L → M.length < L.length → K υ) → wp_Index_remove cf tv o (gI τ 391 o) (gI τ 392 o) K τ) → R 1 τ) : wp_Index_seek cf tv o h l R σ := by
  refine sp_iseek hrk hh hl hI.1 (fun q => h0 0 σ hI (XR.is (Fr.rf _ _)) (fl_all (p := fun y : Int × Int × Int × Int × Int × Int => ¬ (y.1 = h ∧ kap h l ≤ kyE y)) (fun y hy w => by have := q y hy; omega)) (Or.inl rfl)) (fun τ A B e q1 q2 q3 q4 q5 q6 q7 q8 f => ?_)
  have sr := hI.1.srt
  rw [q1] at sr
  by_cases z : e.1 = h
  · refine h1 τ (by rw [q4]; exact z) (fun K rk hK => ?_)
    rw [q4, q5]
    have r1 : rJ e.1 := by rw [z]; exact hh
    have r2 : rJ e.2.1 := by rw [← q5]; exact rk.j _ _ (by decide)
    refine sp_xdel rk r1 r2 (hI.is f) hlen (fun υ i r => ?_)
    have e1 : ldel (kap e.1 e.2.1) L = A ++ B := by rw [q1]; exact ldel_eq sr rfl
    rw [e1] at i r
    refine hK υ (A ++ B) i ((XR.is f).tr r) ?_ ?_
    · rw [q1]; exact lcut_step sr z q3
    · rw [q1, List.length_append, List.length_append, List.length_cons]; omega
  · exact h0 1 τ (hI.is f) (XR.is f) (by rw [q1]; exact lcut_end sr q2 z q3) (Or.inr ⟨rfl, by rw [q4]; exact z⟩)
theorem sp_shorten {tv : Nat → Int} {cf : Cf} {σ : St} {o x s : Int} {L : List (Int × Int × Int × Int × Int × Int)} {Q : St → Prop} (hrk : RK σ) (hx : rI x) (hs : 0 ≤ s ∧ s ≤ 16384) (hI : XI cf σ o L) (hlen : L.length ≤ 890)
    (hQ : ∀ τ, XI cf τ o (lcut (4 * x + 1) ((s + 63) / 64) L) → XR cf σ τ o L (lcut (4 * x + 1) ((s + 63) / 64) L) → Q τ) : wp_Store_shorten cf tv o x s Q σ := by
  have hx' := hx
  unfold rI at hx'
  have rj : rJ (4 * x + 1) := by unfold rJ; omega
  unfold wp_Store_shorten
  intro y3 e3
  rw [w32_id (x := s + 64) (by unfold rI; omega), w32_id (by unfold rI; omega), jdv_nn (by omega) (by omega) (by omega)] at e3
  have e3' : y3 = (s + 63) / 64 := by rw [e3]; congr 1; omega
  rw [e3']
  refine lQ1_rule (fun y τ => y = (s + 63) / 64 ∧ RK τ ∧ ∃ M, XI cf τ o M ∧ M.length ≤ 890 ∧ XR cf σ τ o L M ∧ lcut (4 * x + 1) ((s + 63) / 64) M = lcut (4 * x + 1) ((s + 63) / 64) L) (fun _ τ => (ixL τ o).length) ?_ _ σ ⟨rfl, hrk, L, hI, hlen, XR.is (Fr.rf _ _), rfl⟩
  intro K y τ hIv hK
  obtain ⟨ey, rk, M, i, ml, r, c⟩ := hIv
  rw [ey]
  unfold wp_Store_shorten_L11
  refine sp_keyOf hx ⟨by omega, by omega⟩ (fun _ _ => ?_)
  refine sp_xcutL rk rj (show rJ ((s + 63) / 64) by unfold rJ; omega) i ml (fun b υ iu ru e cb _ _ => ?_) (fun υ eh del _ ku => ⟨fun z => absurd z (by omega), fun _ => sp_keyOf hx ⟨by omega, by omega⟩ (fun _ _ => ⟨fun z => absurd eh z, fun _ => del _ ku (fun υ2 N i2 r2 e2 lt k2 => hK _ υ2 ⟨rfl, k2, N, i2, by omega, r.tr r2, e2.trans c⟩ (by rw [i2.1.eL, i.1.eL]; exact lt))⟩)⟩)
  have fin : Q υ := by
    rw [← c, e] at hQ
    exact hQ υ iu (r.tr ru)
  exact ⟨fun _ => fin, fun nb => sp_keyOf hx ⟨by omega, by omega⟩ (fun _ _ => ⟨fun _ => fin, fun z => absurd z (cb.resolve_left nb).2⟩)⟩
/-- all that a thing has goes -/
def lforget (x : Int) (L : List (Int × Int × Int × Int × Int × Int)) : List (Int × Int × Int × Int × Int × Int) := ldel (kap (4 * x) 0) (lcut (4 * x + 3) 0 (lcut (4 * x + 1) 0 L))
theorem lcut_len (h l : Int) (L : List (Int × Int × Int × Int × Int × Int)) : (lcut h l L).length ≤ L.length := List.length_filter_le _ _
theorem sp_forget {tv : Nat → Int} {cf : Cf} {σ : St} {o x : Int} {L : List (Int × Int × Int × Int × Int × Int)} {Q : St → Prop} (hrk : RK σ) (hx : rI x) (hI : XI cf σ o L) (hlen : L.length ≤ 890)
    (hQ : ∀ τ, XI cf τ o (lforget x L) → XR cf σ τ o L (lforget x L) → Q τ) : wp_Store_forget cf tv o x Q σ := by
  have hx' := hx
  unfold rI at hx'
  have rj : rJ (4 * x + 3) := by unfold rJ; omega
  have rj0 : rJ (4 * x + 0) := by unfold rJ; omega
  unfold wp_Store_forget
  refine sp_shorten hrk hx ⟨by omega, by omega⟩ hI hlen (fun σ28 i28 r28 k28 => ?_)
  rw [show ((0 : Int) + 63) / 64 = 0 by decide] at i28 r28
  have l28 := lcut_len (4 * x + 1) 0 L
  unfold lforget at hQ
  generalize hL1 : lcut (4 * x + 1) 0 L = L1 at i28 r28 l28 hQ
  refine lQ0_rule (fun τ => RK τ ∧ ∃ M, XI cf τ o M ∧ M.length ≤ 890 ∧ XR cf σ τ o L M ∧ lcut (4 * x + 3) 0 M = lcut (4 * x + 3) 0 L1) (fun τ => (ixL τ o).length) ?_ σ28 ⟨k28, L1, i28, by omega, r28, rfl⟩
  intro K τ hIv hK
  obtain ⟨rk, M, i, ml, r, c⟩ := hIv
  unfold wp_Store_forget_L6
  refine sp_keyOf hx ⟨by omega, by omega⟩ (fun _ _ => ?_)
  refine sp_xcutL rk rj (show rJ 0 by unfold rJ; omega) i ml (fun b υ iu ru e cb _ ku => ?_) (fun υ eh del _ ku => ⟨fun z => absurd z (by omega), fun _ => sp_keyOf hx ⟨by omega, by omega⟩ (fun _ _ => ⟨fun z => absurd eh z, fun _ => del _ ku (fun υ2 N i2 r2 e2 lt k2 => hK υ2 ⟨k2, N, i2, by omega, r.tr r2, e2.trans c⟩ (by rw [i2.1.eL, i.1.eL]; exact lt))⟩)⟩)
  have fin : wp_Store_forget_b62 cf tv o x Q υ := by
    unfold wp_Store_forget_b62
    refine sp_keyOf hx ⟨by omega, by omega⟩ (fun _ k2 => ?_)
    refine sp_xdel k2 rj0 (show rJ 0 by unfold rJ; omega) iu ml (fun υ3 i3 r3 _ => ?_)
    rw [Int.add_zero] at i3 r3
    rw [← c, e] at hQ
    exact hQ υ3 i3 ((r.tr ru).tr r3)
  exact ⟨fun _ => fin, fun nb => sp_keyOf hx ⟨by omega, by omega⟩ (fun _ _ => ⟨fun _ => fin, fun z => absurd z (cb.resolve_left nb).2⟩)⟩
