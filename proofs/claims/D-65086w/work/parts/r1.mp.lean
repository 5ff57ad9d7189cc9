/-! the reference: what stands between calls -/
theorem TR.pm {σ : St} {t nx : Int} {N E A N' E' A' : List (Int × Int × Int)} {P P' : List (Int × Int × Int × (Int → Int))} (h : TR σ t N E A P nx) (a : N.Perm N') (b : E.Perm E') (c : A.Perm A') (d : P.Perm P') : TR σ t N' E' A' P' nx := ⟨h.1, h.2.1.trans a, h.2.2.1.trans b, h.2.2.2.1.trans c, h.2.2.2.2.1.trans d, h.2.2.2.2.2⟩
theorem MR.of {σ : St} {t : Int} {S : List (Int × Int × Int × (Int → Int)) × Int} {N E A : List (Int × Int × Int)} {P : List (Int × Int × Int × (Int → Int))} {nx : Int} (h : TR σ t N E A P nx) (r : RWS S.1 N E A P) (e : S.2 = nx) : MR σ t S := by
  unfold MR; rw [e]; exact h.pm r.1.symm r.2.1.symm r.2.2.1.symm r.2.2.2.symm
theorem MR.fr {σ τ : St} {t : Int} {S : List (Int × Int × Int × (Int → Int)) × Int} {M : Nat → Int → Prop} (h : MR σ t S) (f : Fr M σ τ) (n : ∀ g, 712 ≤ g → g ≤ 729 → ¬ M g 0) : MR τ t S := TR.fr h f n
/-- the reference has the tree S, of which S' is safe -/
def MP (cf : Cf) (σ : St) (S S' : List (Int × Int × Int × (Int → Int)) × Int) (W : List (Int × (List (Int × Int × Int × (Int → Int)) × Int))) (p : Int) : Prop := (MR σ 0 S ∧ MR σ 1 S') ∧ (WF cf S ∧ WF cf S' ∧ ∀ w, w ∈ W → WF cf w.2) ∧ (GW σ W 0 S' ∧ gI σ 730 0 = W.length ∧ W.length ≤ 7) ∧ laS S' W = S ∧ gI σ 706 0 = 1 ∧ gI σ 707 0 = p ∧ 0 ≤ p ∧ p ≤ 4096
/-- the fields of rows that wait -/
def RWn (σ τ : St) (w : Int) : Prop := Fr (fun f o' => (732 ≤ f ∧ f ≤ 740) ∧ o' = 0) σ τ ∧ (∀ f, (731 ≤ f ∧ f ≤ 739) → ∀ j, j ≠ w → gA τ f 0 j = gA σ f 0 j) ∧ ∀ j, ¬ (64 * w ≤ j ∧ j < 64 * w + 64) → gA τ 740 0 j = gA σ 740 0 j
theorem GW.rwn {σ τ : St} {W : List (Int × (List (Int × Int × Int × (Int → Int)) × Int))} {S : List (Int × Int × Int × (Int → Int)) × Int} (h : GW σ W 0 S) (r : RWn σ τ W.length) (h7 : W.length ≤ 7) : GW τ W 0 S := by
  refine GW.eq (d := 0) (by rw [Int.add_zero]; exact h) (by omega) (by omega) (fun j j0 j1 => ⟨fun f hf => ?_, ?_⟩)
  · rw [r.2.1 f hf j (by omega), Int.add_zero]
  · unfold rowB
    funext i
    rw [Int.add_zero]
    by_cases q : 0 ≤ i ∧ i < 64
    · simp only [if_pos q]; rw [r.2.2 _ (by omega)]
    · simp only [if_neg q]
theorem MP.fr {cf : Cf} {σ : St} {S S' : List (Int × Int × Int × (Int → Int)) × Int} {W : List (Int × (List (Int × Int × Int × (Int → Int)) × Int))} {p : Int} {τ : St} {M : Nat → Int → Prop} (h : MP cf σ S S' W p) (f : Fr M σ τ) (n : ∀ g, (712 ≤ g ∧ g ≤ 740) ∨ g = 706 ∨ g = 707 → ¬ M g 0) : MP cf τ S S' W p := by
  obtain ⟨⟨a, b⟩, w, ⟨g, u, v⟩, l, o, q, q'⟩ := h
  exact ⟨⟨a.fr f (fun g x y => n g (Or.inl ⟨x, by omega⟩)), b.fr f (fun g x y => n g (Or.inl ⟨x, by omega⟩))⟩, w, ⟨g.fr (by omega) f (fun g x y => n g (Or.inl ⟨by omega, y⟩)), by rw [f.i _ _ (n _ (Or.inl (by decide)))]; exact u, v⟩, l, by rw [f.i _ _ (n _ (Or.inr (Or.inl rfl)))]; exact o, by rw [f.i _ _ (n _ (Or.inr (Or.inr rfl)))]; exact q, q'⟩
theorem laS_wf {cf : Cf} : ∀ {W : List (Int × (List (Int × Int × Int × (Int → Int)) × Int))} {S : List (Int × Int × Int × (Int → Int)) × Int}, WF cf S → (∀ w, w ∈ W → WF cf w.2) → WF cf (laS S W)
  | [], _, h, _ => h
  | x :: W, _, _, h => laS_wf (W := W) (h x List.mem_cons_self) (fun w hw => h w (List.mem_cons_of_mem _ hw))
/-- hand, from a tree to a tree -/
theorem sp_handM {tv : Nat → Int} {cf : Cf} {σ : St} {S S' : List (Int × Int × Int × (Int → Int)) × Int} {W : List (Int × (List (Int × Int × Int × (Int → Int)) × Int))} {p : Int} {σ0 : St} {S2 S0 : List (Int × Int × Int × (Int → Int)) × Int} {W0 : List (Int × (List (Int × Int × Int × (Int → Int)) × Int))} {op a b c d gn x y e p0 : Int} {bs : Int → Int} {k : Nat} {Q : St → Prop} (hc : CfOK cf) (hrk : RK σ) (m : MP cf σ0 S S' W p) (r : RWn σ0 σ W.length) (h2 : WF cf S2) (hg : rwI σ W.length op a b c d gn x y bs) (hgo : GO op a b c d gn x y bs S S2) (he : 0 < e ∧ e ≤ 512) (ht : (p + e ≤ (cf.2.1 - 2) * 128 ∧ p0 = p ∧ S0 = S' ∧ W0 = W) ∨ ((cf.2.1 - 2) * 128 < p + e ∧ p0 = 0 ∧ S0 = S ∧ W0 = [])) (hsf : SFo (p0 + e) (W0 ++ [(p0 + e, S2)]) k)
    (hQ : ∀ τ, MP cf τ S2 (laS S0 ((W0 ++ [(p0 + e, S2)]).take k)) ((W0 ++ [(p0 + e, S2)]).drop k) (p0 + e) → Fr mMh σ τ → RK τ → Q τ) : wp_Model_hand cf tv e Q σ := by
  have hP : 8 ≤ cf.2.1 ∧ cf.2.1 ≤ 32 := hc.2.1
  obtain ⟨⟨m0, m1⟩, ⟨w0, w1, w2⟩, ⟨gw, u, v⟩, l, o, q, q'⟩ := m
  have wS0 : WF cf S0 := by
    rcases ht with t | t
    · rw [t.2.2.1]; exact w1
    · rw [t.2.2.1]; exact w0
  have wW : ∀ z, z ∈ W0 ++ [(p0 + e, S2)] → WF cf z.2 := fun z hz => by
    rcases List.mem_append.mp hz with t | t
    · rcases ht with t' | t'
      · rw [t'.2.2.2] at t; exact w2 z t
      · rw [t'.2.2.2] at t; exact absurd t List.not_mem_nil
    · rw [List.mem_singleton.mp t]; exact h2
  refine sp_Mhand hc hrk (m0.fr r.1 (fun g a b z => by omega)) (m1.fr r.1 (fun g a b z => by omega)) l (h2.fts hc) (w1.fts hc) (gw.rwn r v) (by rw [r.1.i _ _ (by omega)]; exact u) v hg hgo he (by rw [r.1.i _ _ (by omega)]; exact q) q' ht hsf (fun τ t0 t1 t2 t3 t4 f k' => hQ τ ⟨⟨t0, t1⟩, ⟨h2, laS_wf wS0 (fun z hz => wW z (List.mem_of_mem_take hz)), fun z hz => wW z (List.mem_of_mem_drop hz)⟩, ⟨t2, t3, by have := hsf.2.2.2; omega⟩, by rw [← laS_app, List.take_append_drop, laS_app]; rfl, ?_, t4, ?_⟩ f k')
  · rw [f.i _ _ (fun z => by unfold mMh at z; omega), r.1.i _ _ (by omega)]; exact o
  · rcases ht with t | t <;> omega
