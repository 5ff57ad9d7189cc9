/-! the tree as items: rows of things, entries, attributes, pieces -/
/-- byte k of a name -/
def bt (x k : Int) : Int := x / (256 : Int) ^ k.toNat % 256
/-- names -/
def nmV (x : Int) : Prop := bt x 0 ≠ 0 ∧ ∀ k, 0 ≤ k → k < 8 → bt x k ≠ 47 ∧ (bt x k ≠ 0 → ∀ j, 0 ≤ j → j < k → bt x j ≠ 0)
def nrow (x : Int × Int × Int × (Int → Int)) : Int × Int × Int := (x.1 / 4, rI4 x.2.2.2 28, rI4 x.2.2.2 36)
def erow (x : Int × Int × Int × (Int → Int)) : Int × Int × Int := (x.1 / 4, rL8 x.2.2.2 32, rI4 x.2.2.2 28)
def arow (x : Int × Int × Int × (Int → Int)) : Int × Int × Int := (x.1 / 4, rL8 x.2.2.2 32, rL8 x.2.2.2 40)
def plen (x : Int × Int × Int × (Int → Int)) : Int := rI4 x.2.2.2 28 / 65536
def prow (x : Int × Int × Int × (Int → Int)) : Int × Int × Int × (Int → Int) := (x.1 / 4, x.2.1, plen x, fun i => if 0 ≤ i ∧ i < 64 then x.2.2.2 (32 + i) else 0)
def pkT (t : Int) (M : List (Int × Int × Int × (Int → Int))) : List (Int × Int × Int × (Int → Int)) := M.filter (fun x => decide (x.1 % 4 = t))
def nds (M : List (Int × Int × Int × (Int → Int))) : List (Int × Int × Int) := (pkT 0 M).map nrow
def ens (M : List (Int × Int × Int × (Int → Int))) : List (Int × Int × Int) := (pkT 2 M).map erow
def ats (M : List (Int × Int × Int × (Int → Int))) : List (Int × Int × Int) := (pkT 3 M).map arow
def pcs (M : List (Int × Int × Int × (Int → Int))) : List (Int × Int × Int × (Int → Int)) := (pkT 1 M).map prow
def okN (x : Int × Int × Int × (Int → Int)) : Prop := x.1 % 4 = 0 → x.2.1 = 0 ∧ x.2.2.1 = 48 ∧ rI4 x.2.2.2 24 = x.1 / 4 ∧ (1 ≤ rI4 x.2.2.2 28 ∧ rI4 x.2.2.2 28 ≤ 3) ∧ 0 ≤ rI4 x.2.2.2 32 ∧ (0 ≤ rI4 x.2.2.2 36 ∧ rI4 x.2.2.2 36 ≤ 16384) ∧ 0 ≤ rI4 x.2.2.2 40 ∧ 0 ≤ rI4 x.2.2.2 44
def okE (x : Int × Int × Int × (Int → Int)) : Prop := x.1 % 4 = 2 → x.2.2.1 = 48 ∧ rI4 x.2.2.2 24 = x.1 / 4 ∧ nmV (rL8 x.2.2.2 32) ∧ 1 ≤ rI4 x.2.2.2 28 ∧ x.2.1 = hs (rL8 x.2.2.2 32) + rI4 x.2.2.2 40 ∧ 0 ≤ rI4 x.2.2.2 40 ∧ rI4 x.2.2.2 40 < 1024
def okA (x : Int × Int × Int × (Int → Int)) : Prop := x.1 % 4 = 3 → x.2.2.1 = 48 ∧ rI4 x.2.2.2 24 = x.1 / 4 ∧ rI4 x.2.2.2 28 = 0 ∧ nmV (rL8 x.2.2.2 32) ∧ x.2.1 = rev (rL8 x.2.2.2 32)
def okP (x : Int × Int × Int × (Int → Int)) : Prop := x.1 % 4 = 1 → rI4 x.2.2.2 24 = x.1 / 4 ∧ rI4 x.2.2.2 28 = x.2.1 + 65536 * plen x ∧ (0 ≤ x.2.1 ∧ x.2.1 < 256) ∧ (1 ≤ plen x ∧ plen x ≤ 64) ∧ x.2.2.1 = 32 + (plen x + 7) / 8 * 8 ∧ ∀ i, plen x ≤ i → x.2.2.2 (32 + i) = 0
/-- how many rows have a number first, or third -/
def cn1 (a : Int) (R : List (Int × Int × Int)) : Nat := (R.filter (fun r => decide (r.1 = a))).length
def cn3 (a : Int) (R : List (Int × Int × Int)) : Nat := (R.filter (fun r => decide (r.2.2 = a))).length
/-- a tree -/
def WF (cf : Cf) (S : List (Int × Int × Int × (Int → Int)) × Int) : Prop :=
  (Srm S.1 ∧ ∀ x, x ∈ S.1 → okN x ∧ okE x ∧ okA x ∧ okP x ∧ 1 ≤ x.1 / 4 ∧ x.1 / 4 < S.2) ∧ (1, 1, 0) ∈ nds S.1 ∧ (∀ e, e ∈ ens S.1 → (e.1, 1, 0) ∈ nds S.1 ∧ (∃ k s, (e.2.2, k, s) ∈ nds S.1) ∧ e.2.2 ≠ 1) ∧ (∀ a, a ∈ ats S.1 → ∃ k s, (a.1, k, s) ∈ nds S.1) ∧ (∀ p, p ∈ pcs S.1 → ∃ k s, (p.1, k, s) ∈ nds S.1 ∧ k ≠ 1 ∧ 64 * p.2.1 + p.2.2.1 ≤ s ∧ (k = 3 → p.2.1 = 0)) ∧ ((ens S.1).map (fun e => (e.1, e.2.1))).Nodup ∧
  (∀ x, x ∈ S.1 → x.1 % 4 = 0 → (rI4 x.2.2.2 28 = 1 → rI4 x.2.2.2 40 = cn1 (x.1 / 4) (ens S.1) ∧ rI4 x.2.2.2 36 = 0) ∧ (rI4 x.2.2.2 28 ≠ 1 → rI4 x.2.2.2 32 = cn3 (x.1 / 4) (ens S.1)) ∧ rI4 x.2.2.2 44 = cn1 (x.1 / 4) (ats S.1)) ∧ (∀ n, n ∈ nds S.1 → n.2.1 ≠ 2 → n.1 ≠ 1 → cn3 n.1 (ens S.1) = 1) ∧ (∀ n, n ∈ nds S.1 → n.2.1 = 3 → (1 ≤ n.2.2 ∧ n.2.2 ≤ 64) ∧ ∃ b, (n.1, 0, n.2.2, b) ∈ pcs S.1) ∧ (∃ rk : Int → Nat, ∀ e, e ∈ ens S.1 → (e.2.2, 1, 0) ∈ nds S.1 → rk e.1 < rk e.2.2) ∧ cpM S.1 ≤ capa cf ∧ (nlL S.1).length ≤ 8
theorem nds_mem {M : List (Int × Int × Int × (Int → Int))} {r : Int × Int × Int} : r ∈ nds M ↔ ∃ x, x ∈ M ∧ x.1 % 4 = 0 ∧ nrow x = r := by
  unfold nds pkT
  rw [List.mem_map]
  exact ⟨fun ⟨x, a, b⟩ => ⟨x, (fl_mem.mp a).1, (fl_mem.mp a).2, b⟩, fun ⟨x, a, b, c⟩ => ⟨x, fl_mem.mpr ⟨a, b⟩, c⟩⟩
theorem ens_mem {M : List (Int × Int × Int × (Int → Int))} {r : Int × Int × Int} : r ∈ ens M ↔ ∃ x, x ∈ M ∧ x.1 % 4 = 2 ∧ erow x = r := by
  unfold ens pkT
  rw [List.mem_map]
  exact ⟨fun ⟨x, a, b⟩ => ⟨x, (fl_mem.mp a).1, (fl_mem.mp a).2, b⟩, fun ⟨x, a, b, c⟩ => ⟨x, fl_mem.mpr ⟨a, b⟩, c⟩⟩
theorem ats_mem {M : List (Int × Int × Int × (Int → Int))} {r : Int × Int × Int} : r ∈ ats M ↔ ∃ x, x ∈ M ∧ x.1 % 4 = 3 ∧ arow x = r := by
  unfold ats pkT
  rw [List.mem_map]
  exact ⟨fun ⟨x, a, b⟩ => ⟨x, (fl_mem.mp a).1, (fl_mem.mp a).2, b⟩, fun ⟨x, a, b, c⟩ => ⟨x, fl_mem.mpr ⟨a, b⟩, c⟩⟩
theorem pcs_mem {M : List (Int × Int × Int × (Int → Int))} {r : Int × Int × Int × (Int → Int)} : r ∈ pcs M ↔ ∃ x, x ∈ M ∧ x.1 % 4 = 1 ∧ prow x = r := by
  unfold pcs pkT
  rw [List.mem_map]
  exact ⟨fun ⟨x, a, b⟩ => ⟨x, (fl_mem.mp a).1, (fl_mem.mp a).2, b⟩, fun ⟨x, a, b, c⟩ => ⟨x, fl_mem.mpr ⟨a, b⟩, c⟩⟩
theorem Srm.inj {M : List (Int × Int × Int × (Int → Int))} (h : Srm M) {x y : Int × Int × Int × (Int → Int)} (hx : x ∈ M) (hy : y ∈ M) (e : ak x = ak y) : x = y := by
  induction M with
  | nil => exact absurd hx List.not_mem_nil
  | cons z M ih =>
    obtain ⟨h1, h2⟩ := List.pairwise_cons.mp h
    rcases List.mem_cons.mp hx with a | a
    · rcases List.mem_cons.mp hy with b | b
      · rw [a, b]
      · have := h1 y b; rw [a] at e; omega
    · rcases List.mem_cons.mp hy with b | b
      · have := h1 x a; rw [b] at e; omega
      · exact ih h2 a b
/-- a thing has one row -/
theorem WF.n1 {cf : Cf} {S : List (Int × Int × Int × (Int → Int)) × Int} (h : WF cf S) {a b : Int × Int × Int} (ha : a ∈ nds S.1) (hb : b ∈ nds S.1) (e : a.1 = b.1) : a = b := by
  obtain ⟨x, x1, x2, x3⟩ := nds_mem.mp ha
  obtain ⟨y, y1, y2, y3⟩ := nds_mem.mp hb
  have lx := ((h.1.2 x x1).1 x2).1
  have ly := ((h.1.2 y y1).1 y2).1
  have hx : x.1 / 4 = a.1 := by rw [← x3]; rfl
  have hy : y.1 / 4 = b.1 := by rw [← y3]; rfl
  have : x = y := h.1.1.inj x1 y1 (by show kap x.1 x.2.1 = kap y.1 y.2.1; rw [lx, ly, show x.1 = y.1 by omega])
  rw [← x3, ← y3, this]
theorem WF.nk {cf : Cf} {S : List (Int × Int × Int × (Int → Int)) × Int} (h : WF cf S) {n : Int × Int × Int} (hn : n ∈ nds S.1) : (1 ≤ n.1 ∧ n.1 < S.2) ∧ (1 ≤ n.2.1 ∧ n.2.1 ≤ 3) ∧ 0 ≤ n.2.2 ∧ n.2.2 ≤ 16384 := by
  obtain ⟨x, x1, x2, x3⟩ := nds_mem.mp hn
  obtain ⟨a, -, -, -, b1, b2⟩ := h.1.2 x x1
  have a := a x2
  rw [← x3]
  exact ⟨⟨b1, b2⟩, a.2.2.2.1, a.2.2.2.2.2.1⟩
theorem WF.in48 {cf : Cf} {S : List (Int × Int × Int × (Int → Int)) × Int} (h : WF cf S) : in48 S.1 := fun x hx h4 => ((h.1.2 x hx).1 h4).2.1
/-- a thing's item -/
theorem WF.nat {cf : Cf} {S : List (Int × Int × Int × (Int → Int)) × Int} (h : WF cf S) {x : Int × Int × Int × (Int → Int)} {a : Int} (hx : x ∈ S.1) (e : x.1 = 4 * a) : nrow x = (a, rI4 x.2.2.2 28, rI4 x.2.2.2 36) ∧ nrow x ∈ nds S.1 := by
  refine ⟨?_, nds_mem.mpr ⟨x, hx, by omega, rfl⟩⟩
  unfold nrow
  rw [show x.1 / 4 = a by omega]
theorem WF.nno {cf : Cf} {S : List (Int × Int × Int × (Int → Int)) × Int} (h : WF cf S) {a : Int} (hn : ∀ y, y ∈ S.1 → ak y ≠ kap (4 * a) 0 ∨ a < 1) : ∀ k s, (a, k, s) ∉ nds S.1 := by
  intro k s q
  obtain ⟨x, x1, x2, x3⟩ := nds_mem.mp q
  obtain ⟨o, -, -, -, b1, b2⟩ := h.1.2 x x1
  have hx : x.1 / 4 = a := by have := congrArg (fun r => r.1) x3; exact this
  rcases hn x x1 with w | w
  · refine w ?_
    show kap x.1 x.2.1 = _
    rw [(o x2).1, show x.1 = 4 * a by omega]
  · omega
/-- a directory, or not -/
theorem sp_Hdir {tv : Nat → Int} {cf : Cf} {σ : St} {dk : Int → Int} {db : Int → Int → Int} {L : List (Int × Int × Int × Int × Int × Int)} {nx x i : Int} {Q : Int → St → Prop} (hc : CfOK cf) (h : RD tv cf σ dk db L) (hW : WF cf (AM db L, nx)) (hx : rI x)
    (h1 : ∀ τ y, y ∈ AM db L → y.1 = 4 * x → rI4 y.2.2.2 28 = 1 → (x, 1, 0) ∈ nds (AM db L) → ndI τ i y → Fr (mRi i) σ τ → RK τ → Q 0 τ)
    (h2 : ∀ τ k s, (x, k, s) ∈ nds (AM db L) → k ≠ 1 → Fr (mRi i) σ τ → RK τ → Q (-6) τ) (h3 : ∀ τ, (∀ k s, (x, k, s) ∉ nds (AM db L)) → Fr (mRi i) σ τ → RK τ → Q (-4) τ) : wp_House_directory cf tv x i Q σ := by
  unfold wp_House_directory
  refine sp_Hread hc h hx hW.in48 (fun τ q f k _ _ => ⟨fun w => absurd rfl w, fun _ => h3 τ (hW.nno q) f k⟩) (fun τ y y1 y2 y3 y4 y5 f k _ _ => ⟨fun _ => ⟨fun w => ?_, fun w => ?_⟩, fun w => absurd w (by decide)⟩)
  · rw [y5.2.1] at w
    have r := hW.nat y1 y2
    have s0 := ((hW.2.2.2.2.2.2.1 y y1 (by omega)).1 w).2
    rw [r.1, w, s0] at r
    exact h1 τ y y1 y2 w r.2 y5 f k
  · rw [y5.2.1] at w
    have r := hW.nat y1 y2
    rw [r.1] at r
    exact h2 τ _ _ r.2 w f k
