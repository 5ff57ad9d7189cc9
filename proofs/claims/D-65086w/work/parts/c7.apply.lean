/-! what a node tells is so -/
def cat1 (f : Int → Int) (n : Nat) : List Int := cat (fun k => [f k]) n
theorem cat1_S (f : Int → Int) (n : Nat) : cat1 f (n + 1) = cat1 f n ++ [f n] := rfl
theorem cat1_ext {f g : Int → Int} : ∀ n : Nat, (∀ i : Int, 0 ≤ i → i < n → f i = g i) → cat1 f n = cat1 g n
  | 0, _ => rfl
  | n + 1, h => by rw [cat1_S, cat1_S, cat1_ext n (fun i a b => h i a (by omega)), h n (by omega) (by omega)]
theorem cat1_mem {f : Int → Int} {x : Int} : ∀ n : Nat, x ∈ cat1 f n ↔ ∃ i : Int, 0 ≤ i ∧ i < n ∧ f i = x
  | 0 => ⟨fun h => absurd h List.not_mem_nil, fun ⟨i, a, b, _⟩ => by omega⟩
  | n + 1 => by
    rw [cat1_S, List.mem_append, cat1_mem n, List.mem_singleton]
    constructor
    · rintro (⟨i, a, b, c⟩ | c)
      · exact ⟨i, a, by omega, c⟩
      · exact ⟨n, by omega, by omega, c.symm⟩
    · rintro ⟨i, a, b, c⟩
      by_cases e : i = n
      · right; rw [← c, e]
      · left; exact ⟨i, a, by omega, c⟩
theorem cat1_swap {f : Int → Int} {y v : Int} : ∀ n : Nat, 0 ≤ y → y < n → (f y :: cat1 (upF f y v) n).Perm (v :: cat1 f n)
  | 0, a, b => by omega
  | n + 1, a, b => by
    rw [cat1_S, cat1_S]
    by_cases e : y = n
    · have h1 : cat1 (upF f y v) n = cat1 f n := cat1_ext n (fun i i0 i1 => by unfold upF; rw [if_neg (by omega)])
      have h2 : upF f y v n = v := by unfold upF; rw [if_pos e.symm]
      rw [h1, h2, e]
      refine ((List.perm_append_singleton v (cat1 f n)).cons (f n)).trans ?_
      refine (List.Perm.swap v (f n) _).trans ?_
      exact (List.perm_append_singleton (f n) (cat1 f n)).symm.cons v
    · have h2 : upF f y v n = f n := by unfold upF; rw [if_neg (fun q => e q.symm)]
      rw [h2, ← List.cons_append, ← List.cons_append]
      exact (cat1_swap n a (by omega)).append_right _
theorem cat1_rem {f : Int → Int} {y : Int} (n : Nat) (y0 : 0 ≤ y) (y1 : y ≤ n) : (f y :: cat1 (upF f y (f n)) n).Perm (cat1 f (n + 1)) := by
  rw [cat1_S]
  by_cases e : y = n
  · rw [cat1_ext (f := upF f y (f n)) (g := f) n (fun i i0 i1 => by unfold upF; rw [if_neg (by omega)]), e]
    exact (List.perm_append_singleton (f n) (cat1 f n)).symm
  · exact (cat1_swap n y0 (by omega)).trans (List.perm_append_singleton (f n) (cat1 f n)).symm
/-- files that are nameless -/
def orL (σ : St) (o : Int) : List Int := cat1 (gA σ 217 o) (gI σ 218 o).toNat
theorem orL_fr {σ τ : St} {o : Int} {M : Nat → Int → Prop} (f : Fr M σ τ) (n1 : ¬ M 217 o) (n2 : ¬ M 218 o) : orL τ o = orL σ o := by
  unfold orL; rw [f.a _ _ n1, f.i _ _ n2]
def mOr (o : Int) (f : Nat) (o' : Int) : Prop := (f = 217 ∨ f = 218) ∧ o' = o
/-- a file's row of the nameless, behind the word that it is one (b), or none -/
def orN (x : Int) (b : Prop) (A B : List Int) : Prop := (b → (x ∈ A ∧ B = A) ∨ (x ∉ A ∧ B = A ++ [x])) ∧ (¬ b → (x ∉ A ∧ B = A) ∨ (x :: B).Perm A)
theorem sp_name {tv : Nat → Int} {cf : Cf} {σ : St} {o x nl : Int} {Q : St → Prop} (hc : 0 ≤ gI σ 218 o ∧ gI σ 218 o ≤ 15)
    (hQ : ∀ τ, orN x (nl ≠ 0) (orL σ o) (orL τ o) → 0 ≤ gI τ 218 o → Fr (mOr o) σ τ → Q τ) : wp_Store_name cf tv o x nl Q σ := by
  generalize hn : gI σ 218 o = c at hc
  have el : orL σ o = cat1 (gA σ 217 o) c.toNat := by unfold orL; rw [hn]
  unfold wp_Store_name
  refine lQ1_rule (fun y τ => τ = σ ∧ (0 ≤ y ∧ y ≤ c) ∧ ∀ j, 0 ≤ j → j < y → gA σ 217 o j ≠ x) (fun y _ => (c - y).toNat) ?_ 0 σ ⟨rfl, by omega, fun j a b => by omega⟩
  intro K y τ hI hK
  obtain ⟨e, h1, h2⟩ := hI
  rw [e]
  have non : y = c → x ∉ orL σ o := fun z w => by
    rw [el] at w
    obtain ⟨i, a, b, d⟩ := (cat1_mem _).mp w
    exact h2 i a (by omega) d
  have e63 : wp_Store_name_b63 cf tv o x nl Q y σ ∨ ¬ (y = c ∨ (nl ≠ 0 ∧ gA σ 217 o y = x)) := by
    by_cases g : y = c ∨ (nl ≠ 0 ∧ gA σ 217 o y = x)
    · left
      unfold wp_Store_name_b63
      rw [hn]
      refine ⟨fun z => ?_, fun z => ⟨fun z2 => ?_, fun z2 σ16 e16 => ⟨by omega, fun σ17 e17 => ?_⟩⟩⟩
      · have g2 := g.resolve_left z
        refine hQ σ ⟨fun _ => Or.inl ⟨?_, rfl⟩, fun nb => absurd g2.1 nb⟩ (by omega) (Fr.rf _ _)
        rw [el]; exact (cat1_mem _).mpr ⟨y, h1.1, by omega, g2.2⟩
      · exact hQ σ ⟨fun b => absurd z2 b, fun _ => Or.inl ⟨non z, rfl⟩⟩ (by omega) (Fr.rf _ _)
      · rw [w32_id (by unfold rI; omega)] at e16
        have c17 : gI σ17 218 o = c + 1 := by rw [e17]; show gI σ16 _ _ = _; rw [e16, gI_sI1]
        have a17 : ∀ i, gA σ17 217 o i = if i = c then x else gA σ 217 o i := by intro i; rw [e17, sA_if, e16]; rfl
        refine hQ σ17 ⟨fun _ => Or.inr ⟨non z, ?_⟩, fun nb => absurd z2 nb⟩ (by rw [c17]; omega) (by rw [e17, e16]; exact ((Fr.rf _ _).sI ⟨Or.inr rfl, rfl⟩).sA ⟨Or.inl rfl, rfl⟩)
        unfold orL
        rw [c17, hn, show (c + 1).toNat = c.toNat + 1 by omega, cat1_S, a17, if_pos (by omega)]
        rw [cat1_ext (g := gA σ 217 o) c.toNat (fun i i0 i1 => by rw [a17, if_neg (by omega)])]
    · exact Or.inr g
  have e26 : (y = c ∨ gA σ 217 o y = x) → wp_Store_name_b26 cf tv o x nl Q y σ := by
    intro g
    unfold wp_Store_name_b26
    rw [hn]
    refine ⟨fun z => e63.resolve_right (fun w => w (Or.inl (by omega))), fun z => ⟨fun z2 => e63.resolve_right (fun w => w (Or.inr ⟨z2, g.resolve_left (by omega)⟩)), fun z2 σ18 e18 => ?_⟩⟩
    rw [w32_id (x := c - 1) (by unfold rI; omega)] at e18 ⊢
    refine ⟨by omega, by omega, fun σ19 e19 => ?_⟩
    have gx := g.resolve_left (by omega)
    have c19 : gI σ19 218 o = c - 1 := by rw [e19]; show gI σ18 _ _ = _; rw [e18, gI_sI1]
    have a19 : gA σ19 217 o = upF (gA σ 217 o) y (gA σ 217 o (c - 1)) := by rw [e19, sA_up, e18]; rfl
    refine hQ σ19 ⟨fun b => absurd z2 b, fun _ => Or.inr ?_⟩ (by rw [c19]; omega) (by rw [e19, e18]; exact ((Fr.rf _ _).sI ⟨Or.inr rfl, rfl⟩).sA ⟨Or.inl rfl, rfl⟩)
    have p := cat1_rem (f := gA σ 217 o) (y := y) (c - 1).toNat h1.1 (by omega)
    rw [gx, show (c - 1).toNat + 1 = c.toNat by omega, show (((c - 1).toNat : Nat) : Int) = c - 1 by omega, ← el, ← a19, ← c19] at p
    exact p
  unfold wp_Store_name_L2
  rw [hn]
  refine ⟨fun z => e26 (Or.inl (by omega)), fun z => ⟨by omega, fun z2 => e26 (Or.inr z2), fun z2 y' ey => ?_⟩⟩
  rw [w32_id (by unfold rI; omega)] at ey
  rw [ey]
  refine hK _ _ ⟨rfl, by omega, fun j j0 j1 => ?_⟩ (by omega)
  by_cases w : j = y
  · rw [w]; exact z2
  · exact h2 j j0 (by omega)
/-- the keys behind a node of n bytes at a of g, that lies in number m at p -/
def apL (g : Int → Int) (a n m p : Int) (L : List (Int × Int × Int × Int × Int × Int)) : List (Int × Int × Int × Int × Int × Int) :=
  if g (a + 16) = 4 then lcut (4 * rI4 g (a + 24) + 1) ((rI4 g (a + 28) + 63) / 64) L
  else if g (a + 16) = 1 ∧ rI4 g (a + 28) = 0 then lforget (rI4 g (a + 24)) L
  else if (g (a + 16) = 2 ∧ rI4 g (a + 28) = 0) ∨ (g (a + 16) = 9 ∧ rI4 g (a + 28) = 1) then ldel (kap (hiN g a) (loN g a)) L
  else if lfT (g (a + 16)) then lput (hiN g a, loN g a, m, p, n, -1) L else L
def mAp (o : Int) (f : Nat) (o' : Int) : Prop := mIx o f o' ∨ mOr o f o' ∨ (f = 203 ∧ o' = o)
def XQ (cf : Cf) (σ τ : St) (o : Int) (L L' : List (Int × Int × Int × Int × Int × Int)) : Prop := CK σ τ o ∧ (∀ m, 0 ≤ m → m < cf.1 - 6 → gA τ 324 o m - lS L' m = gA σ 324 o m - lS L m) ∧ Fr (mAp o) σ τ
theorem XQ.tr {cf : Cf} {a b c : St} {o : Int} {L M N : List (Int × Int × Int × Int × Int × Int)} (h : XQ cf a b o L M) (k : XQ cf b c o M N) : XQ cf a c o L N := ⟨h.1.tr k.1, fun m m0 m1 => (k.2.1 m m0 m1).trans (h.2.1 m m0 m1), h.2.2.tr k.2.2⟩
theorem XR.q {cf : Cf} {σ τ : St} {o : Int} {L L' : List (Int × Int × Int × Int × Int × Int)} (h : XR cf σ τ o L L') : XQ cf σ τ o L L' := ⟨h.1, h.2.1, h.2.2.mono (fun f o' q => Or.inl q)⟩
def mSo (o : Int) (f : Nat) (o' : Int) : Prop := mOr o f o' ∨ (f = 203 ∧ o' = o)
theorem XQ.so {cf : Cf} {σ τ : St} {o : Int} {L : List (Int × Int × Int × Int × Int × Int)} (f : Fr (mSo o) σ τ) : XQ cf σ τ o L L := by
  refine ⟨CK.fr f (fun f x a b q => by unfold mSo mOr at q; omega) (fun f a b q => by unfold mSo mOr at q; omega), fun m _ _ => ?_, f.mono (fun f o' q => Or.inr q)⟩
  rw [f.a 324 o (fun q => by unfold mSo mOr at q; omega)]
theorem XI.so {cf : Cf} {σ τ : St} {o : Int} {L : List (Int × Int × Int × Int × Int × Int)} (h : XI cf σ o L) (f : Fr (mSo o) σ τ) : XI cf τ o L := by
  refine ⟨h.1.fr f (fun f x a b q => by unfold mSo mOr at q; omega) (fun f a b q => by unfold mSo mOr at q; omega), h.2.1, ?_⟩
  rw [f.a 324 o (fun q => by unfold mSo mOr at q; omega)]
  exact h.2.2
theorem sp_apply {tv : Nat → Int} {cf : Cf} {σ : St} {o r a n m p : Int} {L : List (Int × Int × Int × Int × Int × Int)} {g : Int → Int} {Q : St → Prop} (ho : o = 0 ∨ o = 1) (hrk : RK σ) (hI : XI cf σ o L) (hlen : L.length ≤ 889) (hg : gA σ 512 r = g) (he : gI σ 513 r = a) (ha : 0 ≤ a) (hl : a + 44 ≤ rowL r) (hn : rI4 g (a + 4) = n) (hn2 : 0 ≤ n ∧ n ≤ 1000000) (hm : 0 ≤ m ∧ m < cf.1 - 6) (h4 : g (a + 16) = 4 → 0 ≤ rI4 g (a + 28) ∧ rI4 g (a + 28) ≤ 16384) (hnum : rI4 g (a + 24) < 2147483647) (hoc : 0 ≤ gI σ 218 o ∧ gI σ 218 o ≤ 15)
    (hQ : ∀ τ, XI cf τ o (apL g a n m p L) → XQ cf σ τ o L (apL g a n m p L) → gI τ 203 o = (if g (a + 16) = 1 then max (gI σ 203 o) (rI4 g (a + 24) + 1) else gI σ 203 o) → (g (a + 16) = 1 → orN (rI4 g (a + 24)) (rI4 g (a + 28) = 2 ∧ rI4 g (a + 32) = 0) (orL σ o) (orL τ o)) → (g (a + 16) ≠ 1 → orL τ o = orL σ o) → 0 ≤ gI τ 218 o → Q τ) : wp_Store_apply cf tv o r m p Q σ := by
  have rn := rI4_r g (a + 24)
  have rn' := rn
  unfold rI at rn'
  -- behind the words on next and on the nameless
  have main : ∀ σ1, XI cf σ1 o L → XQ cf σ σ1 o L L → gA σ1 512 r = g → gI σ1 513 r = a → RK σ1 → gI σ1 203 o = (if g (a + 16) = 1 then max (gI σ 203 o) (rI4 g (a + 24) + 1) else gI σ 203 o) → (g (a + 16) = 1 → orN (rI4 g (a + 24)) (rI4 g (a + 28) = 2 ∧ rI4 g (a + 32) = 0) (orL σ o) (orL σ1 o)) → (g (a + 16) ≠ 1 → orL σ1 o = orL σ o) → 0 ≤ gI σ1 218 o → wp_Store_apply_b63 cf tv o r m p Q (rI4 g (a + 24)) (g (a + 16)) σ1 := by
    intro σ1 i1 x1 g1 a1 k1 n1 o1 o2 oc
    have fin : ∀ τ, XI cf τ o (apL g a n m p L) → XR cf σ1 τ o L (apL g a n m p L) → Q τ := by
      intro τ i r'
      have nx : gI τ 203 o = gI σ1 203 o := r'.2.2.i _ _ (fun q => by unfold mIx at q; omega)
      have ol : orL τ o = orL σ1 o := orL_fr r'.2.2 (fun q => by unfold mIx at q; omega) (fun q => by unfold mIx at q; omega)
      refine hQ τ i (x1.tr r'.q) (nx.trans n1) (fun z => by rw [ol]; exact o1 z) (fun z => by rw [ol]; exact o2 z) ?_
      rw [r'.2.2.i 218 o (fun q => by unfold mIx at q; omega)]; exact oc
    have r28 : ∀ {Q' : Int → St → Prop}, (rI (rI4 g (a + 28)) → RK σ1 → Q' (rI4 g (a + 28)) σ1) → wp_Row_get cf tv r 4 (fun r_1 σ_2 => rI r_1 → RK σ_2 → Q' r_1 σ_2) σ1 := by
      intro Q' hq
      refine sp_rget a1 ha (by omega) (by omega) (fun _ h1 h2 => ?_)
      rw [g1, show a + 24 + 4 = a + 28 by omega] at h1 ⊢
      exact hq h1 h2
    have b136 : g (a + 16) ≠ 4 → ¬ (g (a + 16) = 1 ∧ rI4 g (a + 28) = 0) → ((g (a + 16) = 2 ∧ rI4 g (a + 28) = 0) ∨ (g (a + 16) = 9 ∧ rI4 g (a + 28) = 1)) → wp_Store_apply_b136 cf tv o r m p Q σ1 := by
      intro z1 z2 z3
      unfold wp_Store_apply_b136
      refine sp_highOf a1 ha (by omega) (fun _ _ => sp_lowOf a1 ha hl (fun _ _ => ?_))
      rw [g1]
      refine sp_xdel k1 (hiN_J _ _) (loN_r _ _) i1 (by omega) (fun τ i r' _ => fin τ ?_ ?_)
      · unfold apL; rw [if_neg z1, if_neg z2, if_pos z3]; exact i
      · unfold apL; rw [if_neg z1, if_neg z2, if_pos z3]; exact r'
    have b154 : g (a + 16) ≠ 4 → ¬ (g (a + 16) = 1 ∧ rI4 g (a + 28) = 0) → ¬ ((g (a + 16) = 2 ∧ rI4 g (a + 28) = 0) ∨ (g (a + 16) = 9 ∧ rI4 g (a + 28) = 1)) → wp_Store_apply_b154 cf tv o r m p Q (g (a + 16)) σ1 := by
      intro z1 z2 z3
      unfold wp_Store_apply_b154
      refine sp_isLeaf (fun lf _ _ => ⟨fun z => absurd z (by omega), fun _ => ?_⟩) (fun lf _ _ => ⟨fun _ => ?_, fun z => absurd rfl z⟩)
      · refine sp_highOf a1 ha (by omega) (fun _ _ => sp_lowOf a1 ha hl (fun _ _ => sp_rlen a1 ha (by omega) (fun _ _ _ => ?_)))
        rw [g1, hn]
        refine sp_xput ho k1 (hiN_J _ _) (loN_r _ _) i1 hlen hm hn2 (fun τ i r' _ => fin τ ?_ ?_)
        · unfold apL; rw [if_neg z1, if_neg z2, if_neg z3, if_pos lf]; exact i
        · unfold apL; rw [if_neg z1, if_neg z2, if_neg z3, if_pos lf]; exact r'
      · refine fin σ1 ?_ ?_
        · unfold apL; rw [if_neg z1, if_neg z2, if_neg z3, if_neg lf]; exact i1
        · unfold apL; rw [if_neg z1, if_neg z2, if_neg z3, if_neg lf]; exact XR.is (Fr.rf _ _)
    have b106 : g (a + 16) ≠ 4 → ¬ (g (a + 16) = 1 ∧ rI4 g (a + 28) = 0) → wp_Store_apply_b106 cf tv o r m p Q (g (a + 16)) σ1 := by
      intro z1 z2
      unfold wp_Store_apply_b106 wp_Store_apply_b120
      refine ⟨fun e2 => ⟨fun e9 => b154 z1 z2 (by omega), fun e9 => r28 (fun _ _ => ⟨fun z => b154 z1 z2 (by omega), fun z => b136 z1 z2 (by omega)⟩)⟩, fun e2 => r28 (fun _ _ => ⟨fun z => b136 z1 z2 (by omega), fun z => ⟨fun e9 => b154 z1 z2 (by omega), fun e9 => absurd e9 (by omega)⟩⟩)⟩
    unfold wp_Store_apply_b63
    refine ⟨fun z1 => ⟨fun e1 => b106 z1 (fun q => e1 q.1), fun e1 => r28 (fun _ _ => ⟨fun z => b106 z1 (fun q => z q.2), fun z => ?_⟩)⟩, fun z1 => r28 (fun _ _ => ?_)⟩
    · refine sp_forget k1 rn i1 (by omega) (fun τ i r' _ => fin τ ?_ ?_)
      · unfold apL; rw [if_neg z1, if_pos ⟨e1, z⟩]; exact i
      · unfold apL; rw [if_neg z1, if_pos ⟨e1, z⟩]; exact r'
    · refine sp_shorten k1 rn (h4 z1) i1 (by omega) (fun τ i r' _ => fin τ ?_ ?_)
      · unfold apL; rw [if_pos z1]; exact i
      · unfold apL; rw [if_pos z1]; exact r'
  unfold wp_Store_apply
  refine sp_rget he ha (by omega) (by omega) (fun _ _ _ => sp_rtype he ha (by omega) (fun _ _ => ?_))
  rw [hg, show a + 24 + 0 = a + 24 by omega]
  refine ⟨fun z => main σ hI (XR.is (Fr.rf _ _)).q hg he hrk (by rw [if_neg z]) (fun e => absurd e z) (fun _ => rfl) hoc.1, fun z σ74 e74 => ?_⟩
  rw [w32_id (by unfold rI; omega)] at e74
  have f74 : Fr (mSo o) σ σ74 := by rw [e74]; exact (Fr.rf _ _).sI (Or.inr ⟨rfl, rfl⟩)
  have rnx := hrk.i 203 o (by decide)
  have k74 : RK σ74 := by
    rw [e74]
    refine hrk.sI ?_
    show rI _
    unfold rI at rnx ⊢; omega
  have g74 : gA σ74 512 r = g := by rw [e74]; exact hg
  have a74 : gI σ74 513 r = a := by rw [e74, gI_sI, if_neg (fun q => absurd q.1 (by decide))]; exact he
  have n74 : gI σ74 203 o = max (gI σ 203 o) (rI4 g (a + 24) + 1) := by rw [e74, gI_sI1]
  have oc74 : gI σ74 218 o = gI σ 218 o := by rw [e74, gI_sI, if_neg (fun q => absurd q.1 (by decide))]
  have ol74 : orL σ74 o = orL σ o := by unfold orL; rw [oc74, e74]; rfl
  have nam : ∀ b : Int, (b ≠ 0 ↔ (rI4 g (a + 28) = 2 ∧ rI4 g (a + 32) = 0)) → wp_Store_apply_b60 cf tv o r m p Q (wp_Store_apply_b63 cf tv o r m p Q) (rI4 g (a + 24)) (g (a + 16)) b (rI4 g (a + 24)) σ74 := by
    intro b hb
    unfold wp_Store_apply_b60
    refine sp_name (by rw [oc74]; exact hoc) (fun τ n1 n2 f k => ?_)
    have f' : Fr (mSo o) σ74 τ := f.mono (fun f o' q => Or.inl q)
    refine main τ ((hI.so f74).so f') ((XQ.so f74).tr (XQ.so f')) ?_ ?_ k ?_ (fun _ => ?_) (fun e => absurd z e) n2
    · rw [f.a _ _ (fun q => by unfold mOr at q; omega)]; exact g74
    · rw [f.i _ _ (fun q => by unfold mOr at q; omega)]; exact a74
    · rw [f.i _ _ (fun q => by unfold mOr at q; omega), if_pos z]; exact n74
    · rw [ol74] at n1
      exact ⟨fun q => n1.1 (hb.mpr q), fun q => n1.2 (fun w => q (hb.mp w))⟩
  refine sp_rget a74 ha (by omega) (by omega) (fun _ _ _ => ?_)
  rw [g74, show a + 24 + 4 = a + 28 by omega]
  refine ⟨fun z2 => ?_, fun z2 => ?_⟩
  · unfold wp_Store_apply_b59
    exact nam 0 ⟨fun q => absurd rfl q, fun q => absurd q.1 z2⟩
  · refine sp_rget a74 ha (by omega) (by omega) (fun _ _ _ => ?_)
    rw [g74, show a + 24 + 8 = a + 32 by omega]
    refine ⟨fun z3 => ?_, fun z3 => nam 1 ⟨fun _ => ⟨z2, z3⟩, fun _ => by omega⟩⟩
    unfold wp_Store_apply_b59
    exact nam 0 ⟨fun q => absurd rfl q, fun q => absurd q.2 z3⟩
