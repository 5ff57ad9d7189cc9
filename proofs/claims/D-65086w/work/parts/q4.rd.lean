/-! reads, from a tree -/
/-- the house's own fields that last, and the reference's -/
def hK (f : Nat) : Prop := (69 ≤ f ∧ f ≤ 74) ∨ f = 85 ∨ (87 ≤ f ∧ f ≤ 88) ∨ 704 ≤ f
theorem mR0_k {x : Int} {f : Nat} {o' : Int} (h : mR0 x f o') : ¬ hK f ∧ ¬ (640 ≤ f ∧ f ≤ 645) ∧ ¬ (64 ≤ f ∧ f < 128) := by
  unfold mR0 mRd2 mPg mRow mIs at h
  unfold hK
  omega
theorem mRi_k {i : Int} {f : Nat} {o' : Int} (h : mRi i f o') : ¬ hK f ∧ ¬ (64 ≤ f ∧ f < 128) := by
  rcases h with h | h
  · exact ⟨(mR0_k h).1, (mR0_k h).2.2⟩
  · unfold hK; omega
theorem mRe_k {f : Nat} {o' : Int} (h : mRe f o') : ¬ hK f ∧ ¬ (640 ≤ f ∧ f ≤ 645) := by
  rcases h with h | h
  · exact ⟨(mR0_k h).1, (mR0_k h).2.1⟩
  · unfold hK; omega
theorem ndI.fr {σ τ : St} {i : Int} {y : Int × Int × Int × (Int → Int)} {M : Nat → Int → Prop} (h : ndI σ i y) (f : Fr M σ τ) (n : ∀ g, 640 ≤ g → g ≤ 645 → ¬ M g i) : ndI τ i y := by
  unfold ndI
  rw [f.i 640 i (n _ (by decide) (by decide)), f.i 641 i (n _ (by decide) (by decide)), f.i 642 i (n _ (by decide) (by decide)), f.i 643 i (n _ (by decide) (by decide)), f.i 644 i (n _ (by decide) (by decide)), f.i 645 i (n _ (by decide) (by decide))]
  exact h
theorem HC.fr {σ τ : St} {S : List (Int × Int × Int × (Int → Int)) × Int} {M : Nat → Int → Prop} (h : HC σ S) (f : Fr M σ τ) (n : ∀ g, hK g → ¬ M g 0) : HC τ S := by
  unfold HC
  rw [f.i 71 0 (n _ (by unfold hK; omega)), f.i 72 0 (n _ (by unfold hK; omega)), f.i 69 0 (n _ (by unfold hK; omega))]
  exact h
theorem dir_y {N : List (Int × Int × Int)} {d z : Int} (h : (d, 1, 0) ∈ N) : dirA N d z = z := cif_y h
theorem dir_n {N : List (Int × Int × Int)} {d z k s : Int} (h : (d, k, s) ∈ N) (hk : k ≠ 1) (u : ∀ a b, a ∈ N → b ∈ N → a.1 = b.1 → a = b) : dirA N d z = -6 := by
  unfold dirA
  rw [cif_n (fun q => by have := u _ _ h q rfl; rw [Prod.mk.injEq, Prod.mk.injEq] at this; exact hk this.2.1), cif_y ⟨k, s, h⟩]
theorem dir_o {N : List (Int × Int × Int)} {d z : Int} (h : ∀ k s, (d, k, s) ∉ N) : dirA N d z = -4 := by
  unfold dirA
  rw [cif_n (h 1 0), cif_n (fun ⟨k, s, q⟩ => h k s q)]
theorem sp_Pdir {tv : Nat → Int} {cf : Cf} {σ : St} {S S' : List (Int × Int × Int × (Int → Int)) × Int} {W : List (Int × (List (Int × Int × Int × (Int → Int)) × Int))} {r : RT} {B : Int} {x i : Int} {Q : Int → St → Prop} (hc : CfOK cf) (h : HP tv cf σ S S' W r B) (hx : rI x)
    (h1 : ∀ τ y, y ∈ S.1 → y.1 = 4 * x → rI4 y.2.2.2 28 = 1 → (x, 1, 0) ∈ nds S.1 → ndI τ i y → HP tv cf τ S S' W r B → Fr (mRi i) σ τ → RK τ → Q 0 τ)
    (h2 : ∀ τ no, no < 0 → (∀ z, dirA (nds S.1) x z = no) → Fr (mRi i) σ τ → RK τ → Q no τ) : wp_House_directory cf tv x i Q σ := by
  have H := h
  obtain ⟨dk, db, L, p, ⟨a, b⟩, w, -⟩ := h
  have w' : WF cf (AM db L, S.2) := by rw [a]; exact w
  refine sp_Hdir hc p.rd w' hx (fun τ y y1 y2 y3 y4 y5 f k => ?_) (fun τ k s y1 y2 f k' => ?_) (fun τ y1 f k => ?_)
  · rw [a] at y1 y4
    exact h1 τ y y1 y2 y3 y4 y5 (H.frH f (fun f o' => mRi_h) k) f k
  · rw [a] at y1
    exact h2 τ (-6) (by omega) (fun z => dir_n y1 y2 (fun a b => w.n1)) f k'
  · rw [a] at y1
    exact h2 τ (-4) (by omega) (fun z => dir_o y1) f k
theorem sp_Pent {tv : Nat → Int} {cf : Cf} {σ : St} {S S' : List (Int × Int × Int × (Int → Int)) × Int} {W : List (Int × (List (Int × Int × Int × (Int → Int)) × Int))} {r : RT} {B : Int} {d nm : Int} {Q : Int → St → Prop} (hc : CfOK cf) (h : HP tv cf σ S S' W r B) (hd : rI d)
    (h0 : ∀ τ f, (0 ≤ f ∧ f < 1024) → (∀ x, x ∈ S.1 → x.1 = 4 * d + 2 → x.2.1 ≠ hs nm + f) → (∀ e, e ∈ ens S.1 → ¬ (e.1 = d ∧ e.2.1 = nm)) → gI τ 91 0 = f → HP tv cf τ S S' W r B → Fr mRe σ τ → RK τ → Q 0 τ)
    (h1 : ∀ τ x t, x ∈ S.1 → x.1 = 4 * d + 2 → erow x = (d, nm, t) → (d, nm, t) ∈ ens S.1 → 1 ≤ t → gI τ 91 0 = rI4 x.2.2.2 40 → HP tv cf τ S S' W r B → Fr mRe σ τ → RK τ → Q t τ) : wp_House_entry cf tv d nm Q σ := by
  have H := h
  obtain ⟨dk, db, L, p, ⟨a, b⟩, w, -⟩ := h
  have len : L.length ≤ 880 := by have := w.len hc; rw [← a] at this; unfold AM at this; rw [List.length_map] at this; omega
  refine sp_Hentry hc p.rd hd (fun x hx => (w.1.2 x (by rw [← a]; exact hx)).2.1) len (fun τ f f1 f2 f3 f4 f5 k => ?_) (fun τ x x1 x2 x3 x4 f k => ?_)
  · rw [a] at f2 f3
    refine h0 τ f f1 f2 (fun e he q => ?_) f4 (H.frH f5 (fun f o' => mRe_h) k) f5 k
    obtain ⟨x, x1, x2, x3⟩ := ens_mem.mp he
    rw [← x3] at q
    have q1 : x.1 / 4 = d := q.1
    exact f3 x x1 (by omega) q.2
  · rw [a] at x1
    have e : erow x = (d, nm, rI4 x.2.2.2 28) := by unfold erow; rw [x3, show x.1 / 4 = d by omega]
    exact h1 τ x _ x1 x2 e (ens_mem.mpr ⟨x, x1, by omega, e⟩) ((w.1.2 x x1).2.1 (by omega)).2.2.2.1 x4 (H.frH f (fun f o' => mRe_h) k) f k
theorem sp_Pread {tv : Nat → Int} {cf : Cf} {σ : St} {S S' : List (Int × Int × Int × (Int → Int)) × Int} {W : List (Int × (List (Int × Int × Int × (Int → Int)) × Int))} {r : RT} {B : Int} {x i : Int} {Q : Int → St → Prop} (hc : CfOK cf) (h : HP tv cf σ S S' W r B) (hx : rI x) (h0 : ∀ τ, (∀ k s, (x, k, s) ∉ nds S.1) → HP tv cf τ S S' W r B → Fr (mRi i) σ τ → RK τ → Q 0 τ)
    (h1 : ∀ τ y, y ∈ S.1 → y.1 = 4 * x → nrow y = (x, rI4 y.2.2.2 28, rI4 y.2.2.2 36) → nrow y ∈ nds S.1 → ndI τ i y → HP tv cf τ S S' W r B → Fr (mRi i) σ τ → RK τ → Q 1 τ) : wp_House_read cf tv x i Q σ := by
  have H := h
  obtain ⟨dk, db, L, p, ⟨a, b⟩, w, -⟩ := h
  refine sp_Hread hc p.rd hx (by rw [a]; exact w.in48) (fun τ q f k => ?_) (fun τ y y1 y2 y3 y4 y5 f k => ?_)
  · rw [a] at q
    exact h0 τ (w.nno q) (H.frH f (fun f o' => mRi_h) k) f k
  · rw [a] at y1
    have n := w.nat y1 y2
    exact h1 τ y y1 y2 n.1 n.2 y5 (H.frH f (fun f o' => mRi_h) k) f k
