/-! the nodes of a group, one by one -/
/-- what an entry's node does -/
def sEn (S : List (Int × Int × Int × (Int → Int)) × Int) (d n x s : Int) (P : Int → Int) : List (Int × Int × Int × (Int → Int)) × Int := ((if n = 0 then mdel (kap (4 * d + 2) (hs x + s)) S.1 else mput (4 * d + 2, hs x + s, 48, P) S.1), S.2)
def sIn (S : List (Int × Int × Int × (Int → Int)) × Int) (x k : Int) (P : Int → Int) : List (Int × Int × Int × (Int → Int)) × Int := ((if k = 0 then mforget x S.1 else mput (4 * x, 0, 48, P) S.1), max S.2 (x + 1))
def gE (l : Int) (τ : St) (S : List (Int × Int × Int × (Int → Int)) × Int) (e : Int) (S2 : List (Int × Int × Int × (Int → Int)) × Int) : Prop := (l = 0 → GR τ S e S2) ∧ (l ≠ 0 → GL τ S e S2)
theorem sp_gEntL {tv : Nat → Int} {cf : Cf} {σ : St} {S S1 : List (Int × Int × Int × (Int → Int)) × Int} {e : Int} {d n x s l : Int} {Q : St → Prop} (hrk : RK σ) (g : GR σ S e S1) (h1 : e + 48 ≤ 512) (ok : okS S1) (hd : 0 ≤ d ∧ d < 1073741824) (hn : rI n) (hx : rJ x) (hs' : rI s)
    (hQ : ∀ τ P, enF P d n x s → gE l τ S (e + 48) (sEn S1 d n x s P) → Fr (mRow 6) σ τ → RK τ → Q τ) : wp_Row_begin cf tv 6 2 48 (fun σ_14 => RK σ_14 → wp_Row_put cf tv 6 0 d (fun σ_16 => RK σ_16 → wp_Row_put cf tv 6 4 n (fun σ_18 => RK σ_18 → wp_Row_putLongAt cf tv 6 8 x (fun σ_20 => RK σ_20 → wp_Row_put cf tv 6 16 s (fun σ_22 => RK σ_22 → wp_Row_close cf tv 6 0 l (fun σ_24 => RK σ_24 → Q σ_24) σ_22) σ_20) σ_18) σ_16) σ_14) σ := by
  have g0 := g.1
  refine sp_entN hrk g0.1 g0.2 h1 (by unfold rI; omega) hn hx hs' (fun τ a b c d' e' f' _ f k => ?_)
  obtain ⟨P, p1, p2⟩ := apS_ent (S := S1) a.2.2.1 b c d' e'
  have := g.node ok a (Or.inr (Or.inl ⟨rfl, rfl⟩)) (by rw [b]; exact hd) f'
  rw [p2] at this
  exact hQ τ P p1 this f k
theorem sp_gEnt {tv : Nat → Int} {cf : Cf} {σ : St} {S S1 : List (Int × Int × Int × (Int → Int)) × Int} {e : Int} {d n x s : Int} {Q : St → Prop} (hrk : RK σ) (g : GR σ S e S1) (h1 : e + 48 ≤ 512) (ok : okS S1) (hd : 0 ≤ d ∧ d < 1073741824) (hn : rI n) (hx : rJ x) (hs' : rI s)
    (hQ : ∀ τ P, enF P d n x s → GR τ S (e + 48) (sEn S1 d n x s P) → Fr (mRow 6) σ τ → RK τ → Q τ) : wp_House_addEntry cf tv d x n s Q σ := by
  unfold wp_House_addEntry
  exact sp_gEntL hrk g h1 ok hd hn hx hs' (fun τ P a b c k => hQ τ P a (b.1 rfl) c k)
theorem sp_gIno {tv : Nat → Int} {cf : Cf} {σ : St} {S S1 : List (Int × Int × Int × (Int → Int)) × Int} {e : Int} {i l a kd lk sz en at' : Int} {Q : St → Prop} (hrk : RK σ) (g : GR σ S e S1) (h1 : e + 48 ≤ 512) (ok : okS S1) (v1 : gI σ 640 i = a) (v2 : gI σ 641 i = kd) (v3 : gI σ 642 i = lk) (v4 : gI σ 643 i = sz) (v5 : gI σ 644 i = en) (v6 : gI σ 645 i = at') (ha : 0 ≤ a ∧ a < 1073741824)
    (hQ : ∀ τ P, inF P a kd lk sz en at' → gE l τ S (e + 48) (sIn S1 a kd P) → Fr (mRow 6) σ τ → RK τ → Q τ) : wp_House_addInode cf tv i l Q σ := by
  have g0 := g.1
  refine sp_inoN hrk g0.1 g0.2 h1 (fun τ a1 b1 b2 b3 b4 b5 b6 f' _ f k => ?_)
  rw [v1] at b1; rw [v2] at b2; rw [v3] at b3; rw [v4] at b4; rw [v5] at b5; rw [v6] at b6
  obtain ⟨P, p1, p2⟩ := apS_ino (S := S1) a1.2.2.1 b1 b2 b3 b4 b5 b6
  have := g.node ok a1 (Or.inl ⟨rfl, rfl⟩) (by rw [b1]; exact ha) f'
  rw [p2] at this
  exact hQ τ P p1 this f k
theorem sp_gPie {tv : Nat → Int} {cf : Cf} {σ : St} {S S1 : List (Int × Int × Int × (Int → Int)) × Int} {e : Int} {x k n : Int} {b : Int → Int} {Q : St → Prop} (hrk : RK σ) (g : GR σ S e S1) (h1 : e + (32 + (n + 7) / 8 * 8) ≤ 512) (ok : okS S1) (hx : 0 ≤ x ∧ x < 1073741824) (hk : 0 ≤ k ∧ k < 256) (hn : 1 ≤ n ∧ n ≤ 64) (hb : ∀ i, 0 ≤ i → i < n → gA σ 77 0 i = b i)
    (hQ : ∀ τ P, piF P x k n b → GR τ S (e + (32 + (n + 7) / 8 * 8)) (mput (4 * x + 1, k, 32 + (n + 7) / 8 * 8, P) S1.1, S1.2) → Fr (mRow 6) σ τ → RK τ → Q τ) : wp_House_addPiece cf tv x k n Q σ := by
  have g0 := g.1
  refine sp_pieN hrk g0.1 g0.2 h1 (by unfold rI; omega) hk hn (fun τ a1 b1 b2 b3 b4 f' _ f k' => ?_)
  obtain ⟨P, p1, p2⟩ := apS_pie (S := S1) hk hn a1.2.2.1 b1 b2 (fun i i0 i1 => (b3 i i0 i1).trans (hb i i0 i1)) b4
  have := g.node ok a1 (Or.inr (Or.inr (Or.inl ⟨rfl, by omega, by omega⟩))) (by rw [b1]; exact hx) f'
  rw [p2] at this
  exact hQ τ P p1 (this.1 rfl) f k'
theorem sp_gSho {tv : Nat → Int} {cf : Cf} {σ : St} {S S1 : List (Int × Int × Int × (Int → Int)) × Int} {e : Int} {d n l : Int} {Q : St → Prop} (hrk : RK σ) (g : GR σ S e S1) (h1 : e + 40 ≤ 512) (ok : okS S1) (hd : 0 ≤ d ∧ d < 1073741824) (hn : 0 ≤ n ∧ n ≤ 16384)
    (hQ : ∀ τ, gE l τ S (e + 40) (mcut (4 * d + 1) ((n + 63) / 64) S1.1, S1.2) → Fr (mRow 6) σ τ → RK τ → Q τ) : wp_Row_begin cf tv 6 4 40 (fun σ_14 => RK σ_14 → wp_Row_put cf tv 6 0 d (fun σ_16 => RK σ_16 → wp_Row_put cf tv 6 4 n (fun σ_18 => RK σ_18 → wp_Row_close cf tv 6 0 l (fun σ_24 => RK σ_24 → Q σ_24) σ_18) σ_16) σ_14) σ := by
  have g0 := g.1
  refine sp_shoN hrk g0.1 g0.2 h1 (by unfold rI; omega) (by unfold rI; omega) (fun τ a b c f' _ f k => ?_)
  have p2 := apS_sho (S := S1) a.2.2.1 b c
  have := g.node ok a (Or.inr (Or.inr (Or.inr (Or.inl ⟨rfl, rfl, by rw [c]; exact hn.1, by rw [c]; exact hn.2⟩)))) (by rw [b]; exact hd) f'
  rw [p2] at this
  exact hQ τ this f k
theorem sp_gAtt {tv : Nat → Int} {cf : Cf} {σ : St} {S S1 : List (Int × Int × Int × (Int → Int)) × Int} {e : Int} {l : Int} {d n x s : St → Int} {D N X V : Int} {Q : St → Prop} (hrk : RK σ) (g : GR σ S e S1) (h1 : e + 48 ≤ 512) (ok : okS S1) (hd : 0 ≤ D ∧ D < 1073741824) (hn : N = 0 ∨ N = 1) (hx : rJ X) (hs : rJ V) (ed : ∀ τ, Fr (mRow 6) σ τ → d τ = D) (en : ∀ τ, Fr (mRow 6) σ τ → n τ = N) (ex : ∀ τ, Fr (mRow 6) σ τ → x τ = X) (es : ∀ τ, Fr (mRow 6) σ τ → s τ = V)
    (h1' : N = 1 → ∀ τ, gE l τ S (e + 48) (mdel (kap (4 * D + 3) (rev X)) S1.1, S1.2) → Fr (mRow 6) σ τ → RK τ → Q τ) (h0' : N = 0 → ∀ τ P, atF P D X V → gE l τ S (e + 48) (mput (4 * D + 3, rev X, 48, P) S1.1, S1.2) → Fr (mRow 6) σ τ → RK τ → Q τ) :
    wp_Row_begin cf tv 6 9 48 (fun σ_22 => RK σ_22 → wp_Row_put cf tv 6 0 (d σ_22) (fun σ_24 => RK σ_24 → wp_Row_put cf tv 6 4 (n σ_24) (fun σ_26 => RK σ_26 → wp_Row_putLongAt cf tv 6 8 (x σ_26) (fun σ_28 => RK σ_28 → wp_Row_putLongAt cf tv 6 16 (s σ_28) (fun σ_30 => RK σ_30 → wp_Row_close cf tv 6 0 l (fun σ_32 => RK σ_32 → Q σ_32) σ_30) σ_28) σ_26) σ_24) σ_22) σ := by
  have g0 := g.1
  refine sp_attN hrk g0.1 g0.2 h1 (by unfold rI; omega) (by unfold rI; omega) hx hs ed en ex es (fun τ a b c d' e' f' _ f k => ?_)
  have p2 := apS_att (S := S1) a.2.2.1 b c d' e'
  have nd := g.node ok a (Or.inr (Or.inr (Or.inr (Or.inr ⟨rfl, rfl⟩)))) (by rw [b]; exact hd) f'
  rcases hn with q | q
  · obtain ⟨P, p3, p4⟩ := p2.2 q
    rw [p4] at nd
    exact h0' q τ P p3 nd f k
  · rw [p2.1 q] at nd
    exact h1' q τ nd f k
