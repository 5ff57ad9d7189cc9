/-! groups one behind the other, and what they do -/
/-- a node that groups are made of -/
def jnV (tv : Nat → Int) (g : Int → Int) (a n : Int) : Prop := whN tv g a n ∧ ((g (a + 16) = 1 ∧ n = 48) ∨ (g (a + 16) = 2 ∧ n = 48) ∨ (g (a + 16) = 3 ∧ 40 ≤ n ∧ n ≤ 96) ∨ (g (a + 16) = 4 ∧ n = 40 ∧ 0 ≤ rI4 g (a + 28) ∧ rI4 g (a + 28) ≤ 16384) ∨ (g (a + 16) = 9 ∧ n = 48)) ∧ 0 ≤ rI4 g (a + 24) ∧ rI4 g (a + 24) < 1073741824
def srl (g : Int → Int) (a : Int) : Int := rL8 g (a + 8)
def apS (g : Int → Int) (a n : Int) (S : List (Int × Int × Int × (Int → Int)) × Int) : List (Int × Int × Int × (Int → Int)) × Int := (apM g a n S.1, if g (a + 16) = 1 then max S.2 (rI4 g (a + 24) + 1) else S.2)
def okS (S : List (Int × Int × Int × (Int → Int)) × Int) : Prop := S.1.length ≤ 880 ∧ (nlL S.1).length ≤ 14 ∧ (0 ≤ S.2 ∧ S.2 < 1073741824) ∧ ino0 S.1
/-- the nodes of a group from a to b: serial numbers from above s up to s', items S become S' -/
def gN (tv : Nat → Int) (g : Int → Int) : List Int → Int → Int → List (Int × Int × Int × (Int → Int)) × Int → Int → Int → List (Int × Int × Int × (Int → Int)) × Int → Prop
  | [], _, _, _, _, _, _ => False
  | [n], a, s, S, b, s', S' => jnV tv g a n ∧ okS S ∧ s < srl g a ∧ g (a + 17) = 1 ∧ b = a + n ∧ s' = srl g a ∧ S' = apS g a n S
  | n :: m :: t, a, s, S, b, s', S' => jnV tv g a n ∧ okS S ∧ s < srl g a ∧ g (a + 17) ≠ 1 ∧ gN tv g (m :: t) (a + n) (srl g a) (apS g a n S) b s' S'
/-- groups ([]: 0s up to a page's end) -/
def sM (tv : Nat → Int) (g : Int → Int) : List (List Int) → Int → Int → List (Int × Int × Int × (Int → Int)) × Int → Int → Int → List (Int × Int × Int × (Int → Int)) × Int → Prop
  | [], a, s, S, b, s', S' => a = b ∧ s = s' ∧ S = S'
  | [] :: t, a, s, S, b, s', S' => pdZ g a ∧ sM tv g t ((a + 127) / 128 * 128) s S b s' S'
  | (n :: u) :: t, a, s, S, b, s', S' => ∃ a1 s1 S1, gN tv g (n :: u) a s S a1 s1 S1 ∧ sM tv g t a1 s1 S1 b s' S'
theorem jnV.n {tv : Nat → Int} {g : Int → Int} {a n : Int} (h : jnV tv g a n) : 40 ≤ n ∧ n ≤ 96 := by
  obtain ⟨h1, h2, h3⟩ := h; omega
theorem jnV.v {tv : Nat → Int} {g : Int → Int} {a n : Int} (h : jnV tv g a n) : ndV tv g a n := by
  have := h.n
  obtain ⟨h1, h2, h3⟩ := h
  exact ⟨h1, ⟨by omega, by omega⟩, fun q => h3.1⟩
theorem rI4_at {g h : Int → Int} {a n k : Int} (e : ∀ p, a ≤ p → p < a + n → h p = g p) (k0 : 0 ≤ k) (k1 : k + 4 ≤ n) : rI4 h (a + k) = rI4 g (a + k) := rI4_ext (fun i i0 i1 => e i (by omega) (by omega))
theorem jnV.ext {tv : Nat → Int} {g h : Int → Int} {a n : Int} (w : jnV tv g a n) (e : ∀ p, a ≤ p → p < a + n → h p = g p) : jnV tv h a n := by
  have nn := w.n
  obtain ⟨w1, w2, w3⟩ := w
  refine ⟨w1.ext (fun i i0 i1 => (e _ (by omega) (by omega)).symm), ?_, ?_⟩
  · rw [e (a + 16) (by omega) (by omega), rI4_at e (by omega : (0 : Int) ≤ 28) (by omega)]
    exact w2
  · rw [rI4_at e (by omega : (0 : Int) ≤ 24) (by omega)]
    exact w3
theorem srl_ext {g h : Int → Int} {a n : Int} (hn : 16 ≤ n) (e : ∀ p, a ≤ p → p < a + n → h p = g p) : srl h a = srl g a := rL8_ext (fun i i0 i1 => e i (by omega) (by omega))
theorem apM_n {tv : Nat → Int} {g : Int → Int} {a n : Int} (h : jnV tv g a n) : 44 ≤ n ∨ (g (a + 16) ≠ 2 ∧ g (a + 16) ≠ 9 ∧ 32 ≤ n) := by
  have nn := h.n
  obtain ⟨h1, h2, h3⟩ := h
  omega
theorem apS_ext {tv : Nat → Int} {g h : Int → Int} {a n : Int} {S : List (Int × Int × Int × (Int → Int)) × Int} (w : jnV tv g a n) (e : ∀ p, a ≤ p → p < a + n → h p = g p) : apS h a n S = apS g a n S := by
  have nn := w.n
  unfold apS
  rw [apM_sh (g := g) (h := h) (b := a) (apM_n w) (fun k k0 k1 => (e _ (by omega) (by omega)).symm), e (a + 16) (by omega) (by omega), rI4_at e (by omega : (0 : Int) ≤ 24) (by omega)]
theorem gN_le {tv : Nat → Int} {g : Int → Int} : ∀ {u : List Int} {a s : Int} {S : List (Int × Int × Int × (Int → Int)) × Int} {b s' : Int} {S' : List (Int × Int × Int × (Int → Int)) × Int}, gN tv g u a s S b s' S' → a < b ∧ s < s'
  | [], _, _, _, _, _, _, h => absurd h id
  | [n], a, s, S, b, s', S', h => by
    obtain ⟨h1, h2, h3, h4, h5, h6, h7⟩ := h
    have := h1.n
    omega
  | n :: m :: t, a, s, S, b, s', S', h => by
    obtain ⟨h1, h2, h3, h4, h5⟩ := h
    have := gN_le h5
    have := h1.n
    omega
theorem gN_ext {tv : Nat → Int} {g h : Int → Int} : ∀ {u : List Int} {a s : Int} {S : List (Int × Int × Int × (Int → Int)) × Int} {b s' : Int} {S' : List (Int × Int × Int × (Int → Int)) × Int}, gN tv g u a s S b s' S' → (∀ p, a ≤ p → p < b → h p = g p) → gN tv h u a s S b s' S'
  | [], _, _, _, _, _, _, w, _ => absurd w id
  | [n], a, s, S, b, s', S', w, e => by
    obtain ⟨h1, h2, h3, h4, h5, h6, h7⟩ := w
    have nn := h1.n
    have e' : ∀ p, a ≤ p → p < a + n → h p = g p := fun p p0 p1 => e p p0 (by omega)
    have es := srl_ext (by omega) e'
    exact ⟨h1.ext e', h2, by rw [es]; exact h3, by rw [e' _ (by omega) (by omega)]; exact h4, h5, by rw [es]; exact h6, by rw [apS_ext h1 e']; exact h7⟩
  | n :: m :: t, a, s, S, b, s', S', w, e => by
    obtain ⟨h1, h2, h3, h4, h5⟩ := w
    have nn := h1.n
    have l := gN_le h5
    have e' : ∀ p, a ≤ p → p < a + n → h p = g p := fun p p0 p1 => e p p0 (by omega)
    have es := srl_ext (by omega) e'
    refine ⟨h1.ext e', h2, by rw [es]; exact h3, by rw [e' _ (by omega) (by omega)]; exact h4, ?_⟩
    rw [es, apS_ext h1 e']
    exact gN_ext h5 (fun p p0 p1 => e p (by omega) p1)
theorem sM_le {tv : Nat → Int} {g : Int → Int} : ∀ {t : List (List Int)} {a s : Int} {S : List (Int × Int × Int × (Int → Int)) × Int} {b s' : Int} {S' : List (Int × Int × Int × (Int → Int)) × Int}, sM tv g t a s S b s' S' → a ≤ b ∧ s ≤ s'
  | [], a, s, S, b, s', S', h => by obtain ⟨h1, h2, h3⟩ := h; omega
  | [] :: t, a, s, S, b, s', S', h => by
    obtain ⟨h1, h2⟩ := h
    have := sM_le h2
    omega
  | (n :: u) :: t, a, s, S, b, s', S', h => by
    obtain ⟨a1, s1, S1, h1, h2⟩ := h
    have := sM_le h2
    have := gN_le h1
    omega
theorem sM_ext {tv : Nat → Int} {g h : Int → Int} : ∀ {t : List (List Int)} {a s : Int} {S : List (Int × Int × Int × (Int → Int)) × Int} {b s' : Int} {S' : List (Int × Int × Int × (Int → Int)) × Int}, sM tv g t a s S b s' S' → (∀ p, a ≤ p → p < b → h p = g p) → sM tv h t a s S b s' S'
  | [], _, _, _, _, _, _, w, _ => w
  | [] :: t, a, s, S, b, s', S', w, e => by
    obtain ⟨h1, h2⟩ := w
    have l := sM_le h2
    exact ⟨⟨h1.1, fun p p0 p1 => by rw [e p p0 (by omega)]; exact h1.2 p p0 p1⟩, sM_ext h2 (fun p p0 p1 => e p (by omega) p1)⟩
  | (n :: u) :: t, a, s, S, b, s', S', w, e => by
    obtain ⟨a1, s1, S1, h1, h2⟩ := w
    have l := sM_le h2
    have l2 := gN_le h1
    exact ⟨a1, s1, S1, gN_ext h1 (fun p p0 p1 => e p p0 (by omega)), sM_ext h2 (fun p p0 p1 => e p (by omega) p1)⟩
theorem sM_app {tv : Nat → Int} {g : Int → Int} : ∀ {t : List (List Int)} {a s : Int} {S : List (Int × Int × Int × (Int → Int)) × Int} {b s' : Int} {S' : List (Int × Int × Int × (Int → Int)) × Int} {u : List (List Int)} {c s2 : Int} {S2 : List (Int × Int × Int × (Int → Int)) × Int}, sM tv g t a s S b s' S' → sM tv g u b s' S' c s2 S2 → sM tv g (t ++ u) a s S c s2 S2
  | [], a, s, S, b, s', S', u, c, s2, S2, h, k => by
    obtain ⟨h1, h2, h3⟩ := h
    rw [h1, h2, h3]; exact k
  | [] :: t, a, s, S, b, s', S', u, c, s2, S2, h, k => ⟨h.1, sM_app h.2 k⟩
  | (n :: v) :: t, a, s, S, b, s', S', u, c, s2, S2, h, k => by
    obtain ⟨a1, s1, S1, h1, h2⟩ := h
    exact ⟨a1, s1, S1, h1, sM_app h2 k⟩
theorem gN_chn {tv : Nat → Int} {g : Int → Int} : ∀ {u : List Int} {a s : Int} {S : List (Int × Int × Int × (Int → Int)) × Int} {b s' : Int} {S' : List (Int × Int × Int × (Int → Int)) × Int}, gN tv g u a s S b s' S' → chn tv g u a b
  | [], _, _, _, _, _, _, h => absurd h id
  | [n], a, s, S, b, s', S', h => by
    obtain ⟨h1, h2, h3, h4, h5, h6, h7⟩ := h
    have := h1.n
    show if n = 0 then _ else _
    rw [if_neg (by omega)]
    exact ⟨h1.v, h5.symm⟩
  | n :: m :: t, a, s, S, b, s', S', h => by
    obtain ⟨h1, h2, h3, h4, h5⟩ := h
    have := h1.n
    show if n = 0 then _ else _
    rw [if_neg (by omega)]
    exact ⟨h1.v, gN_chn h5⟩
theorem sM_chn {tv : Nat → Int} {g : Int → Int} : ∀ {t : List (List Int)} {a s : Int} {S : List (Int × Int × Int × (Int → Int)) × Int} {b s' : Int} {S' : List (Int × Int × Int × (Int → Int)) × Int}, sM tv g t a s S b s' S' → ∃ u, chn tv g u a b
  | [], a, s, S, b, s', S', h => ⟨[], h.1⟩
  | [] :: t, a, s, S, b, s', S', h => by
    obtain ⟨u, k⟩ := sM_chn h.2
    refine ⟨0 :: u, ?_⟩
    show if (0 : Int) = 0 then _ else _
    rw [if_pos rfl]
    exact ⟨h.1, k⟩
  | (n :: v) :: t, a, s, S, b, s', S', h => by
    obtain ⟨a1, s1, S1, h1, h2⟩ := h
    obtain ⟨u, k⟩ := sM_chn h2
    exact ⟨(n :: v) ++ u, chn_app (gN_chn h1) k⟩
/-- nodes of a group that has no end: behind them no node, or an elder one -/
def gT (tv : Nat → Int) (g : Int → Int) (lim : Int) : List Int → Int → Int → Prop
  | [], a, s => noN tv g a lim ∨ (rI4 g (a + 4) ≠ 0 ∧ srl g a ≤ s)
  | n :: t, a, s => jnV tv g a n ∧ a + n ≤ lim ∧ s < srl g a ∧ g (a + 17) ≠ 1 ∧ gT tv g lim t (a + n) (srl g a)
theorem gT.ext {tv : Nat → Int} {g h : Int → Int} {lim : Int} : ∀ {t : List Int} {a s : Int}, gT tv g lim t a s → (∀ p, a ≤ p → p < lim → h p = g p) → gT tv h lim t a s
  | [], a, s, w, e => by
    have w' : noN tv g a lim ∨ (rI4 g (a + 4) ≠ 0 ∧ srl g a ≤ s) := w
    show noN tv h a lim ∨ (rI4 h (a + 4) ≠ 0 ∧ srl h a ≤ s)
    rcases w' with w | w
    · exact Or.inl (w.ext e)
    · by_cases q : lim < a + 16
      · left
        by_cases q2 : lim < a + 8
        · exact Or.inl q2
        · have e4 : rI4 h (a + 4) = rI4 g (a + 4) := rI4_ext (fun i i0 i1 => e i (by omega) (by omega))
          refine Or.inr ⟨by rw [e4]; exact w.1, ?_⟩
          by_cases q3 : rI4 h (a + 4) < 24
          · exact Or.inl q3
          · exact Or.inr (Or.inr (Or.inl (by omega)))
      · right
        rw [srl_ext (n := 16) (by omega) (fun p p0 p1 => e p p0 (by omega)), rI4_ext (h := g) (fun i i0 i1 => e i (by omega) (by omega))]
        exact w
  | n :: t, a, s, w, e => by
    obtain ⟨h1, h2, h3, h4, h5⟩ := w
    have nn := h1.n
    have e' : ∀ p, a ≤ p → p < a + n → h p = g p := fun p p0 p1 => e p p0 (by omega)
    have es := srl_ext (by omega) e'
    refine ⟨h1.ext e', h2, by rw [es]; exact h3, by rw [e' _ (by omega) (by omega)]; exact h4, ?_⟩
    rw [es]
    exact gT.ext h5 (fun p p0 p1 => e p (by omega) p1)
/-- a group that goes beyond the last whole page has no end there -/
theorem gN_tail {tv : Nat → Int} {g : Int → Int} {lim : Int} : ∀ {u : List Int} {a s : Int} {S : List (Int × Int × Int × (Int → Int)) × Int} {b s' : Int} {S' : List (Int × Int × Int × (Int → Int)) × Int}, gN tv g u a s S b s' S' → lim < b → ∃ v, gT tv g lim v a s
  | [], _, _, _, _, _, _, h, _ => absurd h id
  | [n], a, s, S, b, s', S', h, k => by
    obtain ⟨h1, h2, h3, h4, h5, h6, h7⟩ := h
    have nn := h1.n
    have n1 := h1.1.2.1
    exact ⟨[], Or.inl (Or.inr ⟨by omega, Or.inr (Or.inr (Or.inl (by omega)))⟩)⟩
  | n :: m :: t, a, s, S, b, s', S', h, k => by
    obtain ⟨h1, h2, h3, h4, h5⟩ := h
    have nn := h1.n
    have n1 := h1.1.2.1
    by_cases q : a + n ≤ lim
    · obtain ⟨v, hv⟩ := gN_tail h5 k
      exact ⟨n :: v, h1, q, h3, h4, hv⟩
    · exact ⟨[], Or.inl (Or.inr ⟨by omega, Or.inr (Or.inr (Or.inl (by omega)))⟩)⟩
