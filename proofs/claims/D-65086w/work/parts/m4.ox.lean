/-! a cut -/
theorem lS_ex {m : Int} : ∀ {L : List (Int × Int × Int × Int × Int × Int)}, lS L m ≠ 0 → ∃ e, e ∈ L ∧ e.2.2.1 = m
  | [], h => absurd rfl h
  | e :: L, h => by
    by_cases q : e.2.2.1 = m
    · exact ⟨e, List.mem_cons_self, q⟩
    · rw [lS_cons, if_neg q, Int.zero_add] at h
      obtain ⟨x, a, b⟩ := lS_ex h
      exact ⟨x, List.mem_cons_of_mem _ a, b⟩
theorem sW.sr {tv : Nat → Int} {g : Int → Int} {Y : Int} : ∀ {t : List (List Int)} {W : List (Int × (List (Int × Int × Int × (Int → Int)) × Int))} {a s : Int} {S : List (Int × Int × Int × (Int → Int)) × Int} {b s' : Int} {S' : List (Int × Int × Int × (Int → Int)) × Int}, sW tv g Y t W a s S b s' S' → s' ≤ max s Y + 13 * W.length
  | [], [], _, _, _, _, _, _, h => by
    have := h.2.1
    show _ ≤ _ + 13 * ((0 : Nat) : Int)
    omega
  | u :: t, x :: W, a, s, S, b, s', S', h => by
    obtain ⟨s1, h1, hy, h2⟩ := h
    have := h2.sr
    rw [List.length_cons]
    omega
  | [], _ :: _, _, _, _, _, _, _, h => absurd h (fun q => q)
  | _ :: _, [], _, _, _, _, _, _, h => absurd h (fun q => q)
theorem JI.sr {tv : Nat → Int} {cf : Cf} {σ : St} {dk : Int → Int} {db : Int → Int → Int} {L : List (Int × Int × Int × Int × Int × Int)} {bl : List (Int × Int × Int × List (List Int))} {s' : Int} {S' : List (Int × Int × Int × (Int → Int)) × Int} {W : List (Int × (List (Int × Int × Int × (Int → Int)) × Int))} {Y sJ : Int} (h : JI tv σ dk db bl s' S' W Y sJ) (hS : SA tv cf σ dk db L) : sJ ≤ max s' Y + 52 := by
  rcases h with ⟨-, -, -, q⟩ | ⟨q, bl0, a, b, t, t2, -, w, -, -, x⟩
  · omega
  · have r := hS.rn (w := 0) (Or.inl rfl) q
    have f := w.few x (by unfold lmF; omega)
    have := w.sr
    omega
/-- a bound for what counts when the latest commit is found -/
noncomputable def lmX (σ σc : St) (l : Nat) (z tn : Int) (dk : Int → Int) : Int → Int := fun m => @ite Int (gA σ 325 0 m ≠ 0 ∧ ¬ isx σc l z tn m) (Classical.propDecidable _) 0 (lmF dk m)
theorem lmX_0 {σ σc : St} {l : Nat} {z tn : Int} {dk : Int → Int} {m : Int} (h : gA σ 325 0 m = 0) : lmX σ σc l z tn dk m = lmF dk m := by
  unfold lmX
  rw [if_neg (fun q => q.1 h)]
theorem lmX_x {σ σc : St} {l : Nat} {z tn : Int} {dk : Int → Int} {m : Int} (h : gA σ 325 0 m ≠ 0) (h2 : ¬ isx σc l z tn m) : lmX σ σc l z tn dk m = 0 := by
  unfold lmX
  rw [if_pos ⟨h, h2⟩]
theorem lmX_e {σ σc : St} {l : Nat} {z tn : Int} {dk : Int → Int} {m : Int} (h : dk m = -1) : lmX σ σc l z tn dk m = 0 := by
  unfold lmX
  split
  · rfl
  · unfold lmF; rw [h]; rfl
theorem XO.lm {tv : Nat → Int} {cf : Cf} {σ σc : St} {l : Nat} {z c lg lr sv nx tn tp : Int} {dk : Int → Int} {db : Int → Int → Int} {bl : List (Int × Int × Int × List (List Int))} (h : XO σ σc l z bl) (hF : FC tv cf dk db σc l z c lg lr sv nx tn tp) (m : Int) (m0 : 0 ≤ m) (m1 : m < cf.1 - 6) : tvl cf σc l z tn m ≤ lmX σ σc l z tn dk m ∧ 0 ≤ lmX σ σc l z tn dk m ∧ lmX σ σc l z tn dk m ≤ lmF dk m := by
  have a := hF.2.2.2.2.2.2.2.1 m m0 m1
  have b : 0 ≤ lmF dk m := by unfold lmF; omega
  by_cases q : gA σ 325 0 m ≠ 0 ∧ ¬ isx σc l z tn m
  · rw [lmX_x q.1 q.2]
    refine ⟨?_, by omega, b⟩
    have l0 : lS (ls σc l z) m = 0 := by
      apply Classical.byContradiction
      intro w
      obtain ⟨e, e1, e2⟩ := lS_ex w
      exact q.1 (by rw [← e2]; exact h.1 e e1)
    have k0 : kS σc (kl σc l z) m = 0 := by
      apply Classical.byContradiction
      intro w
      obtain ⟨y, y1, -, y3⟩ := kS_ex w
      exact q.2 (Or.inr ⟨y, y1, y3⟩)
    unfold tvl
    rw [l0, k0, if_neg (fun e => q.2 (Or.inl e))]
    omega
  · have e : lmX σ σc l z tn dk m = lmF dk m := by unfold lmX; rw [if_neg q]
    rw [e]
    omega
theorem NSb.x {tv : Nat → Int} {cf : Cf} {σ : St} {dk : Int → Int} {db : Int → Int → Int} {L : List (Int × Int × Int × Int × Int × Int)} {s : Int} (h : NSb cf σ dk db s) (hS : SA tv cf σ dk db L) (hR : 0 ≤ cf.2.2) : ∀ m, 4 + cf.2.2 ≤ m → m < cf.1 - 6 → 1 ≤ dk m → (rI4 (db m) 4 ≠ 0 ∧ srl (db m) 0 ≤ s) ∧ CN tv (db m) (lmF dk m) 0 := fun m m0 m1 d => by
  have u : gA σ 323 0 m ≠ 0 := fun q => by
    have := ((hS.2.2.1 m m0 m1).2.1 q).1
    omega
  refine ⟨(h m m0 m1 u).2, ?_⟩
  have c := (hS.2.2.1 m m0 m1).2.2.2.2.2.2 u
  by_cases q : hld σ 0 m
  · obtain ⟨t, w⟩ := c.1 q
    exact CN.cut (by unfold lmF; omega) w (by unfold lmF; omega) (hS.lme (m := m) (by omega))
  · exact c.2 q
