/-! a group gets its serial numbers -/
/-- a node that is built, its serial number and its check still owed -/
def nB (g : Int → Int) (a n : Int) : Prop := (n % 8 = 0 ∧ rI4 g (a + 4) = n ∧ rI4 g (a + 20) = 1414677829) ∧ ((g (a + 16) = 1 ∧ n = 48) ∨ (g (a + 16) = 2 ∧ n = 48) ∨ (g (a + 16) = 3 ∧ 40 ≤ n ∧ n ≤ 96) ∨ (g (a + 16) = 4 ∧ n = 40 ∧ 0 ≤ rI4 g (a + 28) ∧ rI4 g (a + 28) ≤ 16384) ∨ (g (a + 16) = 9 ∧ n = 48)) ∧ 0 ≤ rI4 g (a + 24) ∧ rI4 g (a + 24) < 1073741824
/-- a group that is built: its nodes, what they do -/
def gB (g : Int → Int) : List Int → Int → List (Int × Int × Int × (Int → Int)) × Int → Int → List (Int × Int × Int × (Int → Int)) × Int → Prop
  | [], _, _, _, _ => False
  | [n], a, S, b, S' => nB g a n ∧ okS S ∧ g (a + 17) = 1 ∧ b = a + n ∧ S' = apS g a n S
  | n :: m :: t, a, S, b, S' => nB g a n ∧ okS S ∧ g (a + 17) ≠ 1 ∧ gB g (m :: t) (a + n) (apS g a n S) b S'
/-- bytes that a serial number and a check leave -/
def kp (g h : Int → Int) (a n : Int) : Prop := ∀ k, 0 ≤ k → k < n → (4 ≤ k ∧ k < 8) ∨ 18 ≤ k ∨ k = 16 → h (a + k) = g (a + k)
theorem nB.n {g : Int → Int} {a n : Int} (h : nB g a n) : 40 ≤ n ∧ n ≤ 96 := by
  obtain ⟨h1, h2, h3⟩ := h; omega
theorem gB_cases {g : Int → Int} : ∀ {u : List Int} {a : Int} {S : List (Int × Int × Int × (Int → Int)) × Int} {b : Int} {S' : List (Int × Int × Int × (Int → Int)) × Int}, gB g u a S b S' → ∃ n v, u = n :: v ∧ nB g a n ∧ okS S ∧ ((v = [] ∧ g (a + 17) = 1 ∧ b = a + n ∧ S' = apS g a n S) ∨ (v ≠ [] ∧ g (a + 17) ≠ 1 ∧ gB g v (a + n) (apS g a n S) b S'))
  | [], _, _, _, _, h => absurd h id
  | [n], _, _, _, _, ⟨h1, h2, h3, h4, h5⟩ => ⟨n, [], rfl, h1, h2, Or.inl ⟨rfl, h3, h4, h5⟩⟩
  | n :: m :: t, _, _, _, _, ⟨h1, h2, h3, h4⟩ => ⟨n, m :: t, rfl, h1, h2, Or.inr ⟨List.cons_ne_nil _ _, h3, h4⟩⟩
theorem gB_le {g : Int → Int} : ∀ {u : List Int} {a : Int} {S : List (Int × Int × Int × (Int → Int)) × Int} {b : Int} {S' : List (Int × Int × Int × (Int → Int)) × Int}, gB g u a S b S' → a + 40 * u.length ≤ b ∧ 1 ≤ u.length
  | [], _, _, _, _, h => absurd h id
  | [n], a, S, b, S', ⟨h1, h2, h3, h4, h5⟩ => by
    have := h1.n
    show a + 40 * ((1 : Nat) : Int) ≤ b ∧ 1 ≤ 1
    omega
  | n :: m :: t, a, S, b, S', ⟨h1, h2, h3, h4⟩ => by
    have := h1.n
    have := gB_le h4
    rw [List.length_cons] at this ⊢
    rw [List.length_cons] 
    omega
theorem gB_ext {g h : Int → Int} : ∀ {u : List Int} {a : Int} {S : List (Int × Int × Int × (Int → Int)) × Int} {b : Int} {S' : List (Int × Int × Int × (Int → Int)) × Int}, gB g u a S b S' → (∀ p, a ≤ p → p < b → h p = g p) → gB h u a S b S' := by
  have nb : ∀ {a n : Int}, nB g a n → (∀ p, a ≤ p → p < a + n → h p = g p) → nB h a n := by
    intro a n w e
    have nn := w.n
    obtain ⟨⟨w1, w2, w3⟩, w4, w5⟩ := w
    refine ⟨⟨w1, ?_, ?_⟩, ?_, ?_⟩
    · rw [rI4_at e (by omega : (0 : Int) ≤ 4) (by omega)]; exact w2
    · rw [rI4_at e (by omega : (0 : Int) ≤ 20) (by omega)]; exact w3
    · rw [e (a + 16) (by omega) (by omega), rI4_at e (by omega : (0 : Int) ≤ 28) (by omega)]; exact w4
    · rw [rI4_at e (by omega : (0 : Int) ≤ 24) (by omega)]; exact w5
  have ap : ∀ {a n : Int} {S : List (Int × Int × Int × (Int → Int)) × Int}, nB g a n → (∀ p, a ≤ p → p < a + n → h p = g p) → apS h a n S = apS g a n S := by
    intro a n S w e
    have nn := w.n
    have n44 : 44 ≤ n ∨ (g (a + 16) ≠ 2 ∧ g (a + 16) ≠ 9 ∧ 32 ≤ n) := by have := w.2.1; omega
    unfold apS
    rw [apM_sh (g := g) (h := h) (b := a) n44 (fun k k0 k1 => (e _ (by omega) (by omega)).symm), e (a + 16) (by omega) (by omega), rI4_at e (by omega : (0 : Int) ≤ 24) (by omega)]
  intro u
  induction u with
  | nil => intro a S b S' w e; exact absurd w id
  | cons n v ih =>
    intro a S b S' w e
    match v, w with
    | [], ⟨h1, h2, h3, h4, h5⟩ =>
      have nn := h1.n
      have e' : ∀ p, a ≤ p → p < a + n → h p = g p := fun p p0 p1 => e p p0 (by omega)
      exact ⟨nb h1 e', h2, by rw [e' _ (by omega) (by omega)]; exact h3, h4, by rw [ap h1 e']; exact h5⟩
    | m :: t, ⟨h1, h2, h3, h4⟩ =>
      have nn := h1.n
      have l := gB_le h4
      have e' : ∀ p, a ≤ p → p < a + n → h p = g p := fun p p0 p1 => e p p0 (by omega)
      refine ⟨nb h1 e', h2, by rw [e' _ (by omega) (by omega)]; exact h3, ?_⟩
      rw [ap h1 e']
      exact ih h4 (fun p p0 p1 => e p (by omega) p1)
/-- one node closed: it is whole, tells the same -/
theorem nB.cls {tv : Nat → Int} {g : Int → Int} {a n s l : Int} {S : List (Int × Int × Int × (Int → Int)) × Int} (w : nB g a n) (hs : rJ s) (hl : l = if g (a + 17) = 1 then 1 else 0) : jnV tv (nCls tv g a s l n) a n ∧ srl (nCls tv g a s l n) a = s ∧ ((nCls tv g a s l n) (a + 17) = 1 ↔ g (a + 17) = 1) ∧ apS (nCls tv g a s l n) a n S = apS g a n S ∧ ∀ i, (i < a ∨ a + n ≤ i) → nCls tv g a s l n i = g i := by
  have nn := w.n
  obtain ⟨⟨w1, w2, w3⟩, w4, w5⟩ := w
  have o16 : nCls tv g a s l n (a + 16) = g (a + 16) := nCls_out (by omega)
  have r : ∀ k, 20 ≤ k → rI4 (nCls tv g a s l n) (a + k) = rI4 g (a + k) := fun k k0 => rI4_ext (fun i i0 i1 => nCls_out (by omega))
  have r8 : ∀ k, 20 ≤ k → rL8 (nCls tv g a s l n) (a + k) = rL8 g (a + k) := fun k k0 => rL8_ext (fun i i0 i1 => nCls_out (by omega))
  refine ⟨⟨whN_cls ⟨by omega, w1⟩ w2 w3, ?_, ?_⟩, ?_, ?_, ?_, fun i hi => nCls_out (by omega)⟩
  · rw [o16, r 28 (by omega)]; exact w4
  · rw [r 24 (by omega)]; exact w5
  · show rL8 (nCls tv g a s l n) (a + 8) = s
    have : rL8 (nCls tv g a s l n) (a + 8) = rL8 (pL8 g (a + 8) s) (a + 8) := rL8_ext (fun i i0 i1 => by
      unfold nCls nSer upF
      rw [pI4_out (by omega), if_neg (by omega)])
    rw [this, rL8_p hs]
  · have : nCls tv g a s l n (a + 17) = b8 (if l = 0 then (0 : Int) else (1 : Int)) := by
      unfold nCls nSer upF
      rw [pI4_out (by omega), if_pos rfl]
    rw [this, hl]
    by_cases q : g (a + 17) = 1
    · rw [if_pos q, if_neg (by omega)]; exact ⟨fun _ => q, fun _ => by decide⟩
    · rw [if_neg q, if_pos rfl]; exact ⟨fun h => absurd h (by decide), fun h => absurd h q⟩
  · unfold apS
    have hi : hiN (nCls tv g a s l n) a = hiN g a := by unfold hiN; rw [o16, r 24 (by omega)]
    have lo : loN (nCls tv g a s l n) a = loN g a := by unfold loN; rw [o16, r 28 (by omega), r8 32 (by omega), r 40 (by omega)]
    have pe : pay (nCls tv g a s l n) a n = pay g a n := pay_ext (fun k k0 k1 => nCls_out (by omega))
    have am : apM (nCls tv g a s l n) a n S.1 = apM g a n S.1 := by
      unfold apM
      rw [o16, r 24 (by omega), r 28 (by omega), hi, lo, pe]
    rw [am, o16, r 24 (by omega)]
/-- nodes of which each has its number: from a to b; none is the last of its group -/
def gQ (tv : Nat → Int) (g : Int → Int) : List Int → Int → Int → List (Int × Int × Int × (Int → Int)) × Int → Int → Int → List (Int × Int × Int × (Int → Int)) × Int → Prop
  | [], a, s, S, b, s', S' => a = b ∧ s = s' ∧ S = S'
  | n :: t, a, s, S, b, s', S' => jnV tv g a n ∧ okS S ∧ srl g a = s + 1 ∧ g (a + 17) ≠ 1 ∧ gQ tv g t (a + n) (s + 1) (apS g a n S) b s' S'
theorem gQ_ext {tv : Nat → Int} {g h : Int → Int} : ∀ {u : List Int} {a s : Int} {S : List (Int × Int × Int × (Int → Int)) × Int} {b s' : Int} {S' : List (Int × Int × Int × (Int → Int)) × Int}, gQ tv g u a s S b s' S' → (∀ p, a ≤ p → p < b → h p = g p) → gQ tv h u a s S b s' S' := by
  have le : ∀ {u : List Int} {a s : Int} {S : List (Int × Int × Int × (Int → Int)) × Int} {b s' : Int} {S' : List (Int × Int × Int × (Int → Int)) × Int}, gQ tv g u a s S b s' S' → a ≤ b := by
    intro u
    induction u with
    | nil => intro a s S b s' S' w; have := w.1; omega
    | cons n v ih =>
      intro a s S b s' S' w
      obtain ⟨h1, h2, h3, h4, h5⟩ := w
      have := ih h5
      have := h1.n
      omega
  intro u
  induction u with
  | nil => intro a s S b s' S' w e; exact w
  | cons n v ih =>
    intro a s S b s' S' w e
    obtain ⟨h1, h2, h3, h4, h5⟩ := w
    have nn := h1.n
    have l := le h5
    have e' : ∀ p, a ≤ p → p < a + n → h p = g p := fun p p0 p1 => e p p0 (by omega)
    refine ⟨h1.ext e', h2, by rw [srl_ext (by omega) e']; exact h3, by rw [e' _ (by omega) (by omega)]; exact h4, ?_⟩
    rw [apS_ext h1 e']
    exact ih h5 (fun p p0 p1 => e p (by omega) p1)
theorem gQ_snoc {tv : Nat → Int} {g : Int → Int} : ∀ {u : List Int} {a s : Int} {S : List (Int × Int × Int × (Int → Int)) × Int} {b s' : Int} {S' : List (Int × Int × Int × (Int → Int)) × Int} {n : Int}, gQ tv g u a s S b s' S' → jnV tv g b n → okS S' → srl g b = s' + 1 → g (b + 17) ≠ 1 → gQ tv g (u ++ [n]) a s S (b + n) (s' + 1) (apS g b n S')
  | [], a, s, S, b, s', S', n, ⟨h1, h2, h3⟩, k1, k2, k3, k4 => by
    rw [h1, h2, h3]
    exact ⟨k1, k2, k3, k4, rfl, rfl, rfl⟩
  | m :: u, a, s, S, b, s', S', n, ⟨h1, h2, h3, h4, h5⟩, k1, k2, k3, k4 => ⟨h1, h2, h3, h4, gQ_snoc h5 k1 k2 k3 k4⟩
theorem gQ_end {tv : Nat → Int} {g : Int → Int} : ∀ {u : List Int} {a s : Int} {S : List (Int × Int × Int × (Int → Int)) × Int} {b s' : Int} {S' : List (Int × Int × Int × (Int → Int)) × Int} {n : Int}, gQ tv g u a s S b s' S' → jnV tv g b n → okS S' → srl g b = s' + 1 → g (b + 17) = 1 → gN tv g (u ++ [n]) a s S (b + n) (s' + 1) (apS g b n S')
  | [], a, s, S, b, s', S', n, ⟨h1, h2, h3⟩, k1, k2, k3, k4 => by
    rw [h1, h2, h3]
    exact ⟨k1, k2, by omega, k4, rfl, k3.symm, rfl⟩
  | [m], a, s, S, b, s', S', n, ⟨h1, h2, h3, h4, h5⟩, k1, k2, k3, k4 => by
    refine ⟨h1, h2, by omega, h4, ?_⟩
    rw [h3]
    exact gQ_end h5 k1 k2 k3 k4
  | m :: m2 :: u, a, s, S, b, s', S', n, ⟨h1, h2, h3, h4, h5⟩, k1, k2, k3, k4 => by
    refine ⟨h1, h2, by omega, h4, ?_⟩
    rw [h3]
    exact gQ_end h5 k1 k2 k3 k4
theorem sp_serial {tv : Nat → Int} {cf : Cf} {σ : St} {o s : Int} {Q : Int → St → Prop} (hs : gI σ 202 o = s) (hr : 0 ≤ s ∧ s < 4611686018427387904) (hQ : ∀ τ, gI τ 202 o = s + 1 → Fr (fun f o' => f = 202 ∧ o' = o) σ τ → Q (s + 1) τ) : wp_Store_serial cf tv o Q σ := by
  unfold wp_Store_serial
  rw [hs, w64_id (by unfold rJ; omega)]
  intro σ1 e1
  exact hQ σ1 (by rw [e1, gI_sI1]) (by rw [e1]; exact (Fr.rf _ _).sI ⟨rfl, rfl⟩)
def mNu (o r : Int) (f : Nat) (o' : Int) : Prop := ((f = 512 ∨ f = 513) ∧ o' = r) ∨ (f = 202 ∧ o' = o)
theorem sp_number {tv : Nat → Int} {cf : Cf} {σ : St} {o r s e : Int} {u : List Int} {S S' : List (Int × Int × Int × (Int → Int)) × Int} {Q : St → Prop} (hrk : RK σ) (hs : gI σ 202 o = s) (hr : 0 ≤ s ∧ s < 4000000000000000000) (he : gI σ 514 r = e) (hl : e ≤ rowL r) (hg : gB (gA σ 512 r) u 0 S e S')
    (hQ : ∀ τ, gN tv (gA τ 512 r) u 0 s S e (s + u.length) S' → gI τ 202 o = s + u.length → Fr (mNu o r) σ τ → RK τ → Q τ) : wp_Store_number cf tv o r Q σ := by
  have hr2 := rowL_r r
  have l0 := gB_le hg
  unfold wp_Store_number
  refine lQ1_rule (fun y τ => RK τ ∧ Fr (mNu o r) σ τ ∧ ((y = e ∧ gN tv (gA τ 512 r) u 0 s S e (s + u.length) S' ∧ gI τ 202 o = s + u.length) ∨ ∃ d v s1 S1, u = d ++ v ∧ 0 ≤ y ∧ s1 = s + d.length ∧ gI τ 202 o = s1 ∧ gQ tv (gA τ 512 r) d 0 s S y s1 S1 ∧ gB (gA τ 512 r) v y S1 e S')) (fun y _ => (e - y).toNat) ?_ 0 σ ⟨hrk, Fr.rf _ _, Or.inr ⟨[], u, s, S, rfl, by omega, by show s = s + ((0 : Nat) : Int); omega, hs, ⟨rfl, rfl, rfl⟩, hg⟩⟩
  intro K y τ hI hK
  obtain ⟨rk, fr, cs⟩ := hI
  have eτ : gI τ 514 r = e := by rw [fr.i _ _ (fun q => by unfold mNu at q; omega)]; exact he
  unfold wp_Store_number_L4
  rw [eτ]
  rcases cs with ⟨c1, c2, c3⟩ | ⟨d, v, s1, S1, c1, c2, c3, c4, c5, c6⟩
  · exact ⟨fun _ => hQ τ c2 c3 fr rk, fun z => absurd (by omega) z⟩
  obtain ⟨n, v', ev, nb, ok, nx⟩ := gB_cases c6
  have nn := nb.n
  have bnd : y + n ≤ e := by
    rcases nx with q | q
    · omega
    · have := gB_le q.2.2; omega
  have dl : d.length + 1 ≤ u.length := by rw [c1, List.length_append, ev, List.length_cons]; omega
  refine ⟨fun z => absurd z (by omega), fun _ σ21 e21 => ?_⟩
  have at21 : gI σ21 513 r = y := by rw [e21, gI_sI1]
  have b21 : gA σ21 512 r = gA τ 512 r := by rw [e21]; rfl
  have s21 : gI σ21 202 o = s1 := by rw [e21, gI_sI, if_neg (fun q => absurd q.1 (by decide))]; exact c4
  have k21 : RK σ21 := by rw [e21]; exact rk.sI (by show rI y; unfold rI; omega)
  have f21 : Fr (mNu o r) τ σ21 := by rw [e21]; exact (Fr.rf _ _).sI (Or.inl ⟨Or.inr rfl, rfl⟩)
  clear e21
  generalize hgg : gA τ 512 r = g at *
  refine sp_rlen at21 (by omega) (by omega) (fun _ _ _ => ?_)
  rw [b21, nb.1.2.1]
  refine sp_serial s21 ⟨by omega, by omega⟩ (fun σ25 s25 f25 _ k25 => ?_)
  have at25 : gI σ25 513 r = y := by rw [f25.i _ _ (fun q => by omega)]; exact at21
  have b25 : gA σ25 512 r = g := by rw [f25.a _ _ (fun q => by omega)]; exact b21
  refine sp_rlast at25 (by omega) (by omega) (fun _ _ => ?_)
  rw [b25]
  refine sp_rclose (n := n) at25 (by omega) (by rw [b25]; exact nb.1.2.1) (by omega) (by omega) (fun σ29 b29 f29 k29 _ y3 e3 => ?_)
  rw [b25] at b29
  rw [w32_id (by unfold rI; omega)] at e3
  obtain ⟨q1, q2, q3, q4, q5⟩ := nb.cls (tv := tv) (S := S1) (s := s1 + 1) (l := if g (y + 17) = 1 then 1 else 0) (by unfold rJ; omega) rfl
  rw [← b29] at q1 q2 q3 q4 q5
  have s29 : gI σ29 202 o = s1 + 1 := by rw [f29.i _ _ (fun q => by unfold mRb at q; omega)]; exact s25
  have fr29 : Fr (mNu o r) σ σ29 := ((fr.tr f21).tr (f25.mono (fun f o' q => Or.inr q))).tr (f29.mono (fun f o' q => by unfold mRb at q; exact Or.inl ⟨Or.inl q.1, q.2⟩))
  have pre : gQ tv (gA σ29 512 r) d 0 s S y s1 S1 := gQ_ext c5 (fun p p0 p1 => q5 p (Or.inl p1))
  rw [e3]
  refine hK _ _ ⟨k29, fr29, ?_⟩ (by omega)
  rcases nx with ⟨x1, x2, x3, x4⟩ | ⟨x1, x2, x3⟩
  · left
    have eu : u = d ++ [n] := by rw [c1, ev, x1]
    refine ⟨x3.symm, ?_, ?_⟩
    · rw [x4, ← q4, eu, List.length_append, x3]
      have := gQ_end pre q1 ok q2 (q3.mpr x2)
      rw [show s + ((d.length + [n].length : Nat) : Int) = s1 + 1 by rw [c3]; simp only [List.length_cons, List.length_nil]; omega]
      exact this
    · rw [s29, eu, List.length_append, c3]; simp only [List.length_cons, List.length_nil]; omega
  · right
    refine ⟨d ++ [n], v', s1 + 1, apS g y n S1, by rw [c1, ev, List.append_assoc]; rfl, by omega, ?_, s29, ?_, ?_⟩
    · rw [c3, List.length_append]; simp only [List.length_cons, List.length_nil]; omega
    · rw [← q4]
      exact gQ_snoc pre q1 ok q2 (fun w => x2 (q3.mp w))
    · exact gB_ext x3 (fun p p0 p1 => q5 p (Or.inr p0))
