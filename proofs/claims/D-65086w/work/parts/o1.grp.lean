/-! groups are built, node by node -/
theorem nB.ext2 {g h : Int → Int} {a n : Int} (w : nB g a n) (e : ∀ p, a ≤ p → p < a + n → h p = g p) : nB h a n := by
  have nn := w.n
  obtain ⟨⟨w1, w2, w3⟩, w4, w5⟩ := w
  refine ⟨⟨w1, ?_, ?_⟩, ?_, ?_⟩
  · rw [rI4_at e (by omega : (0 : Int) ≤ 4) (by omega)]; exact w2
  · rw [rI4_at e (by omega : (0 : Int) ≤ 20) (by omega)]; exact w3
  · rw [e (a + 16) (by omega) (by omega), rI4_at e (by omega : (0 : Int) ≤ 28) (by omega)]; exact w4
  · rw [rI4_at e (by omega : (0 : Int) ≤ 24) (by omega)]; exact w5
theorem apS_nb {g h : Int → Int} {a n : Int} {S : List (Int × Int × Int × (Int → Int)) × Int} (w : nB g a n) (e : ∀ p, a ≤ p → p < a + n → h p = g p) : apS h a n S = apS g a n S := by
  have nn := w.n
  have n44 : 44 ≤ n ∨ (g (a + 16) ≠ 2 ∧ g (a + 16) ≠ 9 ∧ 32 ≤ n) := by have := w.2.1; omega
  unfold apS
  rw [apM_sh (g := g) (h := h) (b := a) n44 (fun k k0 k1 => (e _ (by omega) (by omega)).symm), e (a + 16) (by omega) (by omega), rI4_at e (by omega : (0 : Int) ≤ 24) (by omega)]
/-- nodes of a group whose last one is still to come -/
def gC (g : Int → Int) : List Int → Int → List (Int × Int × Int × (Int → Int)) × Int → Int → List (Int × Int × Int × (Int → Int)) × Int → Prop
  | [], a, S, b, S' => a = b ∧ S' = S
  | n :: t, a, S, b, S' => nB g a n ∧ okS S ∧ g (a + 17) ≠ 1 ∧ gC g t (a + n) (apS g a n S) b S'
theorem gC.le {g : Int → Int} : ∀ {u : List Int} {a b : Int} {S S' : List (Int × Int × Int × (Int → Int)) × Int}, gC g u a S b S' → a ≤ b
  | [], _, _, _, _, h => by have := h.1; omega
  | n :: t, a, b, S, S', ⟨h1, h2, h3, h4⟩ => by
    have := h1.n
    have := gC.le h4
    omega
theorem gC.ext {g h : Int → Int} : ∀ {u : List Int} {a b : Int} {S S' : List (Int × Int × Int × (Int → Int)) × Int}, gC g u a S b S' → (∀ p, a ≤ p → p < b → h p = g p) → gC h u a S b S'
  | [], _, _, _, _, w, _ => w
  | n :: t, a, b, S, S', ⟨h1, h2, h3, h4⟩, e => by
    have nn := h1.n
    have l := h4.le
    have e' : ∀ p, a ≤ p → p < a + n → h p = g p := fun p p0 p1 => e p p0 (by omega)
    refine ⟨h1.ext2 e', h2, by rw [e' _ (by omega) (by omega)]; exact h3, ?_⟩
    rw [apS_nb h1 e']
    exact gC.ext h4 (fun p p0 p1 => e p (by omega) p1)
theorem gC.snoc {g : Int → Int} {n : Int} : ∀ {u : List Int} {a b : Int} {S S1 : List (Int × Int × Int × (Int → Int)) × Int}, gC g u a S b S1 → nB g b n → okS S1 → g (b + 17) ≠ 1 → gC g (u ++ [n]) a S (b + n) (apS g b n S1)
  | [], a, b, S, S1, ⟨h1, h2⟩, hb, ok, hg => by
    subst h1; subst h2
    exact ⟨hb, ok, hg, rfl, rfl⟩
  | m :: t, a, b, S, S1, ⟨h1, h2, h3, h4⟩, hb, ok, hg => ⟨h1, h2, h3, gC.snoc h4 hb ok hg⟩
theorem gC.last {g : Int → Int} {n : Int} : ∀ {u : List Int} {a b : Int} {S S1 : List (Int × Int × Int × (Int → Int)) × Int}, gC g u a S b S1 → nB g b n → okS S1 → g (b + 17) = 1 → gB g (u ++ [n]) a S (b + n) (apS g b n S1)
  | [], a, b, S, S1, ⟨h1, h2⟩, hb, ok, hg => by
    subst h1; subst h2
    exact ⟨hb, ok, hg, rfl, rfl⟩
  | [m], a, b, S, S1, ⟨h1, h2, h3, h4⟩, hb, ok, hg => ⟨h1, h2, h3, gC.last (u := []) h4 hb ok hg⟩
  | m :: m' :: t, a, b, S, S1, ⟨h1, h2, h3, h4⟩, hb, ok, hg => ⟨h1, h2, h3, gC.last (u := m' :: t) h4 hb ok hg⟩
/-- a group that is being built, and one that is -/
def GR (σ : St) (S : List (Int × Int × Int × (Int → Int)) × Int) (e : Int) (S1 : List (Int × Int × Int × (Int → Int)) × Int) : Prop := (gI σ 514 6 = e ∧ 0 ≤ e) ∧ ∃ u, gC (gA σ 512 6) u 0 S e S1
def GL (σ : St) (S : List (Int × Int × Int × (Int → Int)) × Int) (e : Int) (S1 : List (Int × Int × Int × (Int → Int)) × Int) : Prop := gI σ 514 6 = e ∧ ∃ u, gB (gA σ 512 6) u 0 S e S1
theorem GR.fr {σ τ : St} {S S1 : List (Int × Int × Int × (Int → Int)) × Int} {e : Int} {M : Nat → Int → Prop} (h : GR σ S e S1) (f : Fr M σ τ) (n : ¬ M 514 6 ∧ ¬ M 512 6) : GR τ S e S1 := by
  unfold GR
  rw [f.i _ _ n.1, f.a _ _ n.2]
  exact h
theorem sp_Hbegin {tv : Nat → Int} {cf : Cf} {σ : St} {S : List (Int × Int × Int × (Int → Int)) × Int} {Q : St → Prop} (hQ : ∀ τ, GR τ S 0 S → Fr (mRow 6) σ τ → RK τ → Q τ) : wp_House_begin cf tv Q σ := by
  unfold wp_House_begin
  refine sp_rclear (fun τ a e b f k => hQ τ ⟨⟨e, Int.le_refl _⟩, [], rfl, rfl⟩ (f.mono (fun f o' q => ⟨by have := q.1; omega, q.2⟩)) k)
theorem GR.node {σ τ : St} {S S1 : List (Int × Int × Int × (Int → Int)) × Int} {e ty n l : Int} (h : GR σ S e S1) (ok : okS S1) (nf : nF (gA σ 512 6) (gA τ 512 6) e ty n l) (ht : (ty = 1 ∧ n = 48) ∨ (ty = 2 ∧ n = 48) ∨ (ty = 3 ∧ 40 ≤ n ∧ n ≤ 96) ∨ (ty = 4 ∧ n = 40 ∧ 0 ≤ rI4 (gA τ 512 6) (e + 28) ∧ rI4 (gA τ 512 6) (e + 28) ≤ 16384) ∨ (ty = 9 ∧ n = 48)) (hx : 0 ≤ rI4 (gA τ 512 6) (e + 24) ∧ rI4 (gA τ 512 6) (e + 24) < 1073741824) (he : gI τ 514 6 = e + n) : (l = 0 → GR τ S (e + n) (apS (gA τ 512 6) e n S1)) ∧ (l ≠ 0 → GL τ S (e + n) (apS (gA τ 512 6) e n S1)) := by
  obtain ⟨⟨h1, h2⟩, u, hu⟩ := h
  obtain ⟨n1, n2, n3, n4⟩ := nf
  have nb : nB (gA τ 512 6) e n := ⟨n2, by rw [n3]; exact ht, hx⟩
  have nn := nb.n
  have hu' := hu.ext (h := gA τ 512 6) (fun p p0 p1 => n1 p p1)
  refine ⟨fun q => ⟨⟨he, by omega⟩, u ++ [n], hu'.snoc nb ok ?_⟩, fun q => ⟨he, u ++ [n], hu'.last nb ok ?_⟩⟩
  · rw [n4, if_pos q]; decide
  · rw [n4, if_neg q]
theorem pay_4 {g : Int → Int} {a n k : Int} (k0 : 24 ≤ k) (k1 : k + 4 ≤ n) : rI4 (pay g a n) k = rI4 g (a + k) := rI4_sh (fun i i0 i1 => by
  unfold pay
  rw [if_pos (by omega)]
  congr 1; omega)
theorem pay_8 {g : Int → Int} {a n k : Int} (k0 : 24 ≤ k) (k1 : k + 8 ≤ n) : rL8 (pay g a n) k = rL8 g (a + k) := rL8_sh (fun i i0 i1 => by
  unfold pay
  rw [if_pos (by omega)]
  congr 1; omega)
/-- what payloads tell -/
def enF (P : Int → Int) (d n x s : Int) : Prop := rI4 P 24 = d ∧ rI4 P 28 = n ∧ rL8 P 32 = x ∧ rI4 P 40 = s
def atF (P : Int → Int) (d x v : Int) : Prop := rI4 P 24 = d ∧ rI4 P 28 = 0 ∧ rL8 P 32 = x ∧ rL8 P 40 = v
def inF (P : Int → Int) (x k l s en at' : Int) : Prop := rI4 P 24 = x ∧ rI4 P 28 = k ∧ rI4 P 32 = l ∧ rI4 P 36 = s ∧ rI4 P 40 = en ∧ rI4 P 44 = at'
def piF (P : Int → Int) (x k n : Int) (b : Int → Int) : Prop := rI4 P 24 = x ∧ rI4 P 28 = k + 65536 * n ∧ (∀ i, 0 ≤ i → i < n → P (32 + i) = b i) ∧ ∀ i, n ≤ i → P (32 + i) = 0
theorem apS_ent {g : Int → Int} {e d n x s : Int} {S : List (Int × Int × Int × (Int → Int)) × Int} (h16 : g (e + 16) = 2) (h24 : rI4 g (e + 24) = d) (h28 : rI4 g (e + 28) = n) (h32 : rL8 g (e + 32) = x) (h40 : rI4 g (e + 40) = s) : ∃ P, enF P d n x s ∧ apS g e 48 S = ((if n = 0 then mdel (kap (4 * d + 2) (hs x + s)) S.1 else mput (4 * d + 2, hs x + s, 48, P) S.1), S.2) := by
  refine ⟨pay g e 48, ⟨by rw [pay_4 (by omega) (by omega)]; exact h24, by rw [pay_4 (by omega) (by omega)]; exact h28, by rw [pay_8 (by omega) (by omega)]; exact h32, by rw [pay_4 (by omega) (by omega)]; exact h40⟩, ?_⟩
  have hi : hiN g e = 4 * d + 2 := by unfold hiN hiT; rw [h16, h24]; rfl
  have lo : loN g e = hs x + s := by unfold loN; rw [h16, h32, h40]; rfl
  unfold apS apM
  rw [h16, h28, hi, lo, if_neg (by decide), if_neg (by omega)]
  by_cases q : n = 0
  · rw [if_pos (Or.inl ⟨rfl, q⟩), if_neg (by decide), if_pos q]
  · rw [if_neg (by omega), if_pos (Or.inr (Or.inl rfl)), if_neg (by decide), if_neg q]
theorem apS_att {g : Int → Int} {e d n x v : Int} {S : List (Int × Int × Int × (Int → Int)) × Int} (h16 : g (e + 16) = 9) (h24 : rI4 g (e + 24) = d) (h28 : rI4 g (e + 28) = n) (h32 : rL8 g (e + 32) = x) (h40 : rL8 g (e + 40) = v) : (n = 1 → apS g e 48 S = (mdel (kap (4 * d + 3) (rev x)) S.1, S.2)) ∧ (n = 0 → ∃ P, atF P d x v ∧ apS g e 48 S = (mput (4 * d + 3, rev x, 48, P) S.1, S.2)) := by
  have hi : hiN g e = 4 * d + 3 := by unfold hiN hiT; rw [h16, h24]; rfl
  have lo : loN g e = rev x := by unfold loN; rw [h16, h32]; rfl
  refine ⟨fun q => ?_, fun q => ⟨pay g e 48, ⟨by rw [pay_4 (by omega) (by omega)]; exact h24, by rw [pay_4 (by omega) (by omega)]; omega, by rw [pay_8 (by omega) (by omega)]; exact h32, by rw [pay_8 (by omega) (by omega)]; exact h40⟩, ?_⟩⟩
  · unfold apS apM
    rw [h16, h28, hi, lo, if_neg (by decide), if_neg (by omega), if_pos (Or.inr ⟨rfl, q⟩), if_neg (by decide)]
  · unfold apS apM
    rw [h16, h28, hi, lo, if_neg (by decide), if_neg (by omega), if_neg (by omega), if_pos (Or.inr (Or.inr (Or.inr rfl))), if_neg (by decide)]
theorem apS_sho {g : Int → Int} {e d n : Int} {S : List (Int × Int × Int × (Int → Int)) × Int} (h16 : g (e + 16) = 4) (h24 : rI4 g (e + 24) = d) (h28 : rI4 g (e + 28) = n) : apS g e 40 S = (mcut (4 * d + 1) ((n + 63) / 64) S.1, S.2) := by
  unfold apS apM
  rw [h16, h24, h28, if_pos rfl, if_neg (by decide)]
theorem apS_ino {g : Int → Int} {e x k l s en at' : Int} {S : List (Int × Int × Int × (Int → Int)) × Int} (h16 : g (e + 16) = 1) (h24 : rI4 g (e + 24) = x) (h28 : rI4 g (e + 28) = k) (h32 : rI4 g (e + 32) = l) (h36 : rI4 g (e + 36) = s) (h40 : rI4 g (e + 40) = en) (h44 : rI4 g (e + 44) = at') : ∃ P, inF P x k l s en at' ∧ apS g e 48 S = ((if k = 0 then mforget x S.1 else mput (4 * x, 0, 48, P) S.1), max S.2 (x + 1)) := by
  refine ⟨pay g e 48, ⟨by rw [pay_4 (by omega) (by omega)]; exact h24, by rw [pay_4 (by omega) (by omega)]; exact h28, by rw [pay_4 (by omega) (by omega)]; exact h32, by rw [pay_4 (by omega) (by omega)]; exact h36, by rw [pay_4 (by omega) (by omega)]; exact h40, by rw [pay_4 (by omega) (by omega)]; exact h44⟩, ?_⟩
  have hi : hiN g e = 4 * x := by unfold hiN hiT; rw [h16, h24, if_pos rfl]; omega
  have lo : loN g e = 0 := by unfold loN; rw [h16]; rfl
  unfold apS apM
  rw [h16, h28, hi, lo, h24, if_neg (by decide), if_pos rfl]
  by_cases q : k = 0
  · rw [if_pos ⟨rfl, q⟩, if_pos q]
  · rw [if_neg (by omega), if_neg (by omega), if_pos (Or.inl rfl), if_neg q]
theorem apS_pie {g b : Int → Int} {e x k n : Int} {S : List (Int × Int × Int × (Int → Int)) × Int} (hk : 0 ≤ k ∧ k < 256) (hn : 1 ≤ n ∧ n ≤ 64) (h16 : g (e + 16) = 3) (h24 : rI4 g (e + 24) = x) (h28 : rI4 g (e + 28) = k + 65536 * n) (hb : ∀ i, 0 ≤ i → i < n → g (e + 32 + i) = b i) (hz : ∀ i, n ≤ i → i < (n + 7) / 8 * 8 → g (e + 32 + i) = 0) : ∃ P, piF P x k n b ∧ apS g e (32 + (n + 7) / 8 * 8) S = (mput (4 * x + 1, k, 32 + (n + 7) / 8 * 8, P) S.1, S.2) := by
  refine ⟨pay g e (32 + (n + 7) / 8 * 8), ⟨by rw [pay_4 (by omega) (by omega)]; exact h24, by rw [pay_4 (by omega) (by omega)]; exact h28, fun i i0 i1 => ?_, fun i i0 => ?_⟩, ?_⟩
  · unfold pay
    rw [if_pos (by omega), show e + (32 + i) = e + 32 + i by omega]
    exact hb i i0 i1
  · unfold pay
    by_cases q : 24 ≤ 32 + i ∧ 32 + i < 32 + (n + 7) / 8 * 8
    · rw [if_pos q, show e + (32 + i) = e + 32 + i by omega]
      exact hz i i0 (by omega)
    · rw [if_neg q]
  · have hi : hiN g e = 4 * x + 1 := by unfold hiN hiT; rw [h16, h24]; rfl
    have lo : loN g e = k := by
      unfold loN
      rw [h16, if_neg (by decide), if_pos rfl, h28]
      omega
    unfold apS apM
    rw [h16, hi, lo, if_neg (by decide), if_neg (by omega), if_neg (by omega), if_pos (Or.inr (Or.inr (Or.inl rfl))), if_neg (by decide)]
/-- intermediate items -/
def okC (S : List (Int × Int × Int × (Int → Int)) × Int) (c : Nat) : Prop := S.1.length ≤ 720 + c ∧ (nlL S.1).length ≤ 8 + c ∧ (0 ≤ S.2 ∧ S.2 < 1073741000 + c) ∧ ino0 S.1
theorem okC.s {S : List (Int × Int × Int × (Int → Int)) × Int} {c : Nat} (h : okC S c) (hc : c ≤ 6) : okS S := ⟨by have := h.1; omega, by have := h.2.1; omega, by have := h.2.2.1; omega, h.2.2.2⟩
theorem nlL_fl {p : Int × Int × Int × (Int → Int) → Bool} {M : List (Int × Int × Int × (Int → Int))} : (nlL (M.filter p)).length ≤ (nlL M).length := by
  unfold nlL nmF
  rw [List.length_map, List.length_map, List.filter_filter]
  have : ∀ A : List (Int × Int × Int × (Int → Int)), (A.filter (fun x => decide (isNl x) && p x)).length ≤ (A.filter (fun x => decide (isNl x))).length := by
    intro A
    induction A with
    | nil => exact Nat.le_refl _
    | cons a A ih =>
      rw [List.filter_cons, List.filter_cons]
      by_cases q : isNl a
      · rw [if_pos (decide_eq_true q)]
        split
        · rw [List.length_cons, List.length_cons]; omega
        · rw [List.length_cons]; omega
      · rw [decide_eq_false q]
        exact ih
  exact this M
theorem ino0_fl {p : Int × Int × Int × (Int → Int) → Bool} {M : List (Int × Int × Int × (Int → Int))} (h : ino0 M) : ino0 (M.filter p) := fun x hx => h x (List.mem_filter.mp hx).1
theorem okC.fl {S : List (Int × Int × Int × (Int → Int)) × Int} {c : Nat} {p : Int × Int × Int × (Int → Int) → Bool} (h : okC S c) : okC (S.1.filter p, S.2) (c + 1) := ⟨by have := List.length_filter_le p S.1; have := h.1; show (S.1.filter p).length ≤ _; omega, by have := nlL_fl (p := p) (M := S.1); have := h.2.1; show (nlL (S.1.filter p)).length ≤ _; omega, ⟨h.2.2.1.1, by have := h.2.2.1.2; show S.2 < _; omega⟩, ino0_fl h.2.2.2⟩
theorem okC.del {S : List (Int × Int × Int × (Int → Int)) × Int} {c : Nat} {κ : Int} (h : okC S c) : okC (mdel κ S.1, S.2) (c + 1) := by unfold mdel; exact h.fl
theorem okC.cut {S : List (Int × Int × Int × (Int → Int)) × Int} {c : Nat} {a b : Int} (h : okC S c) : okC (mcut a b S.1, S.2) (c + 1) := by unfold mcut; exact h.fl
theorem okC.nx {S : List (Int × Int × Int × (Int → Int)) × Int} {c : Nat} {x : Int} (h : okC S c) (hx : 0 ≤ x ∧ x < 1073741000 + c) : okC (S.1, max S.2 x) c := ⟨h.1, h.2.1, ⟨by have := h.2.2.1; show 0 ≤ max S.2 x; omega, by have := h.2.2.1; show max S.2 x < _; omega⟩, h.2.2.2⟩
theorem okC.up {S : List (Int × Int × Int × (Int → Int)) × Int} {c d : Nat} (h : okC S c) (hd : c ≤ d) : okC S d := ⟨by have := h.1; omega, by have := h.2.1; omega, ⟨h.2.2.1.1, by have := h.2.2.1.2; omega⟩, h.2.2.2⟩
theorem okC.forget {S : List (Int × Int × Int × (Int → Int)) × Int} {c : Nat} {x : Int} (h : okC S c) : okC (mforget x S.1, S.2) (c + 1) := by
  have a := (h.cut (a := 4 * x + 1) (b := 0))
  have b := (a.cut (a := 4 * x + 3) (b := 0))
  have d := b.del (κ := kap (4 * x) 0)
  refine ⟨?_, ?_, ⟨h.2.2.1.1, by have := h.2.2.1.2; show S.2 < _; omega⟩, d.2.2.2⟩
  · have l1 : (mforget x S.1).length ≤ S.1.length := by
      unfold mforget mcut mdel
      exact Nat.le_trans (List.length_filter_le _ _) (Nat.le_trans (List.length_filter_le _ _) (List.length_filter_le _ _))
    have := h.1
    show (mforget x S.1).length ≤ _
    omega
  · have l1 : (nlL (mforget x S.1)).length ≤ (nlL S.1).length := by
      unfold mforget mcut mdel
      exact Nat.le_trans nlL_fl (Nat.le_trans nlL_fl nlL_fl)
    have := h.2.1
    show (nlL (mforget x S.1)).length ≤ _
    omega
theorem okC.put {S : List (Int × Int × Int × (Int → Int)) × Int} {c : Nat} {x : Int × Int × Int × (Int → Int)} (h : okC S c) (hx : x.1 % 4 = 0 → x.2.1 = 0) : okC (mput x S.1, S.2) (c + 1) := by
  refine ⟨?_, ?_, ⟨h.2.2.1.1, by have := h.2.2.1.2; show S.2 < _; omega⟩, fun y hy h4 => ?_⟩
  · have := h.1
    have l : (mput x S.1).length ≤ S.1.length + 1 := by
      unfold mput
      rw [List.length_append, List.length_cons]
      have : ∀ M : List (Int × Int × Int × (Int → Int)), (M.filter (fun y => decide (ak y < ak x))).length + (M.filter (fun y => decide (ak x < ak y))).length ≤ M.length := by
        intro M
        induction M with
        | nil => exact Nat.le_refl _
        | cons z M ih =>
          rw [List.filter_cons, List.filter_cons, List.length_cons]
          by_cases q : ak z < ak x
          · rw [if_pos (decide_eq_true q), if_neg (by rw [decide_eq_true_iff]; omega), List.length_cons]; omega
          · rw [if_neg (by rw [decide_eq_true_iff]; exact q)]
            split
            · rw [List.length_cons]; omega
            · omega
      have := this S.1
      omega
    show (mput x S.1).length ≤ _
    omega
  · have := h.2.1
    have l : (nlL (mput x S.1)).length ≤ (nlL S.1).length + 1 := by
      unfold mput
      rw [nlL_app, List.length_append]
      have e : nlL (x :: S.1.filter (fun y => decide (ak x < ak y))) = nlL [x] ++ nlL (S.1.filter (fun y => decide (ak x < ak y))) := by rw [← nlL_app]; rfl
      rw [e, List.length_append]
      have o : (nlL [x]).length ≤ 1 := by unfold nlL nmF; rw [List.length_map]; exact List.length_filter_le _ _
      have two : ∀ M : List (Int × Int × Int × (Int → Int)), (nlL (M.filter (fun y => decide (ak y < ak x)))).length + (nlL (M.filter (fun y => decide (ak x < ak y)))).length ≤ (nlL M).length := by
        intro M
        induction M with
        | nil => exact Nat.le_refl _
        | cons z M ih =>
          have c1 : ∀ (A : List (Int × Int × Int × (Int → Int))), (nlL (z :: A)).length = (nlL [z]).length + (nlL A).length := fun A => by
            rw [← List.length_append, ← nlL_app]; rfl
          rw [List.filter_cons, List.filter_cons, c1 M]
          by_cases q : ak z < ak x
          · rw [if_pos (decide_eq_true q), if_neg (by rw [decide_eq_true_iff]; omega), c1]; omega
          · rw [if_neg (by rw [decide_eq_true_iff]; exact q)]
            split
            · rw [c1]; omega
            · omega
      have := two S.1
      omega
    show (nlL (mput x S.1)).length ≤ _
    omega
  · rcases mput_mem.mp hy with w | w
    · rw [w] at h4 ⊢; exact hx h4
    · exact h.2.2.2 y w.1 h4
