/-! attributeOf over a tree -/
theorem sp_Pattr {tv : Nat → Int} {cf : Cf} {σ : St} {S S' : List (Int × Int × Int × (Int → Int)) × Int} {W : List (Int × (List (Int × Int × Int × (Int → Int)) × Int))} {r : RT} {B : Int} {n nm : Int} {Q : Int → St → Prop} (hc : CfOK cf) (h : HP tv cf σ S S' W r B) (hn : rI n) (n1 : 1 ≤ n) (hnm : rJ nm)
    (h0 : ∀ τ, (∀ y, y ∈ S.1 → y.1 = 4 * n + 3 → y.2.1 ≠ rev nm) → (∀ a, a ∈ ats S.1 → ¬ (a.1 = n ∧ a.2.1 = nm)) → HP tv cf τ S S' W r B → Fr (mR0 0) σ τ → RK τ → Q 0 τ)
    (h1 : ∀ τ y v, y ∈ S.1 → y.1 = 4 * n + 3 → y.2.1 = rev nm → arow y = (n, nm, v) → (n, nm, v) ∈ ats S.1 → HP tv cf τ S S' W r B → Fr (mR0 0) σ τ → RK τ → Q 1 τ) : wp_House_attributeOf cf tv n nm Q σ := by
  have H := h
  obtain ⟨dk, db, L, p, ⟨a, b⟩, w, -⟩ := h
  refine sp_HattrOf hc p.rd hn (fun y hy => (w.1.2 y (by rw [← a]; exact hy)).2.2.1) (fun τ q f k => ?_) (fun τ y y1 y2 y3 y4 _ _ f k => ?_)
  · rw [a] at q
    have q' : ∀ y, y ∈ S.1 → y.1 = 4 * n + 3 → y.2.1 ≠ rev nm := fun y hy y1 => (q y hy y1).elim id (fun v => by omega)
    refine h0 τ q' (fun c hc' v => ?_) (H.frH f (fun f o' => mR0_h) k) f k
    obtain ⟨y, y1, y2, y3⟩ := ats_mem.mp hc'
    rw [← y3] at v
    have v1 : y.1 / 4 = n := v.1
    have v2 : rL8 y.2.2.2 32 = nm := v.2
    have o := (w.iok y y1).2.2.1 y2
    exact q' y y1 (by omega) (by rw [o.2.2.2.2, v2])
  · rw [a] at y1
    have o := (w.iok y y1).2.2.1 (by omega)
    have e : rL8 y.2.2.2 32 = nm := rev_inj (rL8_r _ _) hnm (o.2.2.2.2.symm.trans y3)
    have ar : arow y = (n, nm, rL8 y.2.2.2 40) := by unfold arow; rw [e, show y.1 / 4 = n by omega]
    exact h1 τ y _ y1 y2 y3 ar (ats_mem.mpr ⟨y, y1, by omega, ar⟩) (H.frH f (fun f o' => mR0_h) k) f k
