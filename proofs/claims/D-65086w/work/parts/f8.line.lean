/-! fresh knots in line, those below first -/
def lnL (σ : St) : Nat → Int → List Int
  | 0, z => if gI σ 584 z = 0 then [] else [z]
  | l + 1, z => cat (fun k => lnL σ l (be σ z k)) (gI σ 577 z).toNat ++ (if gI σ 584 z = 0 then [] else [z])
theorem lnL_kl {σ : St} : ∀ (l : Nat) (z x : Int), x ∈ lnL σ l z → x ∈ kl σ l z ∧ gI σ 584 x ≠ 0
  | 0, z, x, h => by
    have h' : x ∈ if gI σ 584 z = 0 then [] else [z] := h
    by_cases q : gI σ 584 z = 0
    · rw [if_pos q] at h'; exact absurd h' List.not_mem_nil
    · rw [if_neg q] at h'
      rw [List.mem_singleton.mp h']
      exact ⟨List.mem_singleton.mpr rfl, q⟩
  | l + 1, z, x, h => by
    rcases List.mem_append.mp h with q | q
    · obtain ⟨i, i1, i2⟩ := cat_mem q
      have := lnL_kl l _ x i2
      exact ⟨List.mem_cons_of_mem _ (mem_cat i1.1 i1.2 this.1), this.2⟩
    · by_cases w : gI σ 584 z = 0
      · rw [if_pos w] at q; exact absurd q List.not_mem_nil
      · rw [if_neg w] at q
        rw [List.mem_singleton.mp q]
        exact ⟨kl_self _ _ _, w⟩
theorem kl_lnL {σ : St} : ∀ (l : Nat) (z x : Int), x ∈ kl σ l z → gI σ 584 x ≠ 0 → x ∈ lnL σ l z
  | 0, z, x, h, hf => by
    have e := List.mem_singleton.mp h
    show x ∈ if gI σ 584 z = 0 then [] else [z]
    rw [← e, if_neg hf]; exact List.mem_singleton.mpr rfl
  | l + 1, z, x, h, hf => by
    rcases List.mem_cons.mp h with e | e
    · refine List.mem_append_right _ ?_
      rw [← e, if_neg hf]; exact List.mem_singleton.mpr rfl
    · obtain ⟨i, i1, i2⟩ := cat_mem e
      exact List.mem_append_left _ (mem_cat i1.1 i1.2 (kl_lnL l _ x i2 hf))
theorem lnL_len {σ : St} : ∀ (l : Nat) (z : Int), (lnL σ l z).length ≤ (kl σ l z).length
  | 0, z => by
    show (if gI σ 584 z = 0 then [] else [z]).length ≤ 1
    split <;> simp
  | l + 1, z => by
    show (cat (fun k => lnL σ l (be σ z k)) _ ++ _).length ≤ (z :: cat (fun k => kl σ l (be σ z k)) _).length
    rw [List.length_append, List.length_cons]
    have c : ∀ n : Nat, (cat (fun k => lnL σ l (be σ z k)) n).length ≤ (cat (fun k => kl σ l (be σ z k)) n).length := by
      intro n
      induction n with
      | zero => exact Nat.le_refl _
      | succ n ih =>
        show (cat (fun k => lnL σ l (be σ z k)) n ++ lnL σ l (be σ z (n : Int))).length ≤ (cat (fun k => kl σ l (be σ z k)) n ++ kl σ l (be σ z (n : Int))).length
        rw [List.length_append, List.length_append]
        have := lnL_len (σ := σ) l (be σ z (n : Int))
        omega
    have := c (gI σ 577 z).toNat
    have : (if gI σ 584 z = 0 then [] else [z]).length ≤ 1 := by split <;> simp
    omega
theorem lnL_fr {σ τ : St} (h : ∀ x, gI τ 584 x = gI σ 584 x) (h2 : ∀ x, gI τ 577 x = gI σ 577 x) (h3 : ∀ x k, be τ x k = be σ x k) : ∀ (l : Nat) (z : Int), lnL τ l z = lnL σ l z
  | 0, z => by
    show (if gI τ 584 z = 0 then [] else [z]) = if gI σ 584 z = 0 then [] else [z]
    rw [h z]
  | l + 1, z => by
    show cat (fun k => lnL τ l (be τ z k)) (gI τ 577 z).toNat ++ (if gI τ 584 z = 0 then [] else [z]) = cat (fun k => lnL σ l (be σ z k)) (gI σ 577 z).toNat ++ (if gI σ 584 z = 0 then [] else [z])
    rw [h z, h2 z, cat_ext _ (fun i _ _ => by rw [h3 z i, lnL_fr h h2 h3 l])]
def mOd (o : Int) (f : Nat) (o' : Int) : Prop := (f = 220 ∨ f = 221) ∧ o' = o
/-- the row of those in line -/
def odL (σ : St) (o : Int) : List Int := cat1 (gA σ 220 o) (gI σ 221 o).toNat
theorem sp_line {tv : Nat → Int} {cf : Cf} {o : Int} : ∀ (l d : Nat) (σ : St) (z mn lo hi : Int) (Q : St → Prop), l < d → RK σ → WT σ l mn 8 z lo hi → 0 ≤ gI σ 221 o → gI σ 221 o + (lnL σ l z).length ≤ 320 → (∀ τ, odL τ o = odL σ o ++ lnL σ l z → gI τ 221 o = gI σ 221 o + (lnL σ l z).length → Fr (mOd o) σ τ → RK τ → Q τ) → wp_Store_line cf tv d o z Q σ := by
  have own : ∀ (σ τ : St) (z : Int) (F : Int → Int → (St → Prop) → St → Prop) (Q : St → Prop) (A : List Int), 0 ≤ z → Fr (mOd o) σ τ → RK τ → z < 640 → gI τ 221 o = gI σ 221 o + A.length → odL τ o = odL σ o ++ A → 0 ≤ gI σ 221 o → gI σ 221 o + ((A ++ (if gI σ 584 z = 0 then [] else [z])).length : Nat) ≤ 320 → (∀ υ, odL υ o = odL σ o ++ (A ++ (if gI σ 584 z = 0 then [] else [z])) → gI υ 221 o = gI σ 221 o + ((A ++ (if gI σ 584 z = 0 then [] else [z])).length : Nat) → Fr (mOd o) σ υ → RK υ → Q υ) → wp_Store_line_b33 cf tv o z F Q τ := by
    intro σ τ z F Q A hz fr rk z640 ho hl h0 hb hQ
    have ff : gI τ 584 z = gI σ 584 z := fr.i _ _ (fun q => by unfold mOd at q; omega)
    unfold wp_Store_line_b33
    rw [ff]
    refine ⟨hz, fun q => ?_, fun q σ16 e16 => ⟨?_, fun σ17 e17 => ?_⟩⟩
    · rw [if_pos q, List.append_nil] at hQ
      exact hQ τ hl ho fr rk
    · rw [if_neg q, List.length_append, List.length_singleton] at hb
      omega
    · rw [if_neg q] at hQ hb
      rw [List.length_append, List.length_singleton] at hb
      rw [w32_id (by unfold rI; omega)] at e16
      have o17 : gI σ17 221 o = gI τ 221 o + 1 := by rw [e17]; show gI σ16 _ _ = _; rw [e16, gI_sI1]
      have a17 : ∀ i, gA σ17 220 o i = if i = gI τ 221 o then z else gA τ 220 o i := fun i => by rw [e17, sA_if, e16]; rfl
      refine hQ σ17 ?_ (by rw [o17, ho, List.length_append, List.length_singleton]; omega) ?_ ?_
      · rw [← List.append_assoc, ← hl]
        unfold odL
        rw [o17, show (gI τ 221 o + 1).toNat = (gI τ 221 o).toNat + 1 by omega, cat1_S, a17, if_pos (by omega)]
        rw [cat1_ext (g := gA τ 220 o) _ (fun i i0 i1 => by rw [a17, if_neg (by omega)])]
      · refine fr.tr ?_
        rw [e17, e16]; exact ((Fr.rf _ _).sI ⟨Or.inr rfl, rfl⟩).sA ⟨Or.inl rfl, rfl⟩
      · rw [e17, e16]
        exact (rk.sI (by show rI _; unfold rI; omega)).sA (by show rK z; unfold rK; omega)
  intro l
  induction l with
  | zero =>
    intro d σ z mn lo hi Q hd hrk hT h0 hb hQ
    obtain ⟨d', rfl⟩ : ∃ d', d = d' + 1 := ⟨d - 1, by omega⟩
    have c := hT.cnt
    have fin : wp_Store_line_b33 cf tv o z (wp_Store_line cf tv d') Q σ := own σ σ z _ Q [] c.1.1 (Fr.rf _ _) hrk c.1.2 (by show _ = _ + ((0 : Nat) : Int); omega) (List.append_nil _).symm h0 (by rw [List.nil_append]; exact hb) (by rw [List.nil_append]; exact hQ)
    show wp_Store_line_R cf tv o z (wp_Store_line cf tv d') Q σ
    unfold wp_Store_line_R
    refine lQ1_rule (fun y τ => τ = σ) (fun _ _ => 0) ?_ 0 σ rfl
    intro K y τ hI hK
    rw [hI]
    unfold wp_Store_line_L2
    exact ⟨c.1.1, fun _ => fin, fun _ => ⟨fun _ => fin, fun w => absurd (by rw [c.2.1]; omega) w⟩⟩
  | succ l ih =>
    intro d σ z mn lo hi Q hd hrk hT h0 hb hQ
    obtain ⟨d', rfl⟩ : ∃ d', d = d' + 1 := ⟨d - 1, by omega⟩
    have c := hT.cnt
    generalize hcc : gI σ 577 z = cn at c
    have le : lnL σ (l + 1) z = cat (fun k => lnL σ l (be σ z k)) cn.toNat ++ (if gI σ 584 z = 0 then [] else [z]) := by show cat _ (gI σ 577 z).toNat ++ _ = _; rw [hcc]
    rw [le] at hb hQ
    have hT2 := hT.2.2.2
    rw [hcc] at hT2
    show wp_Store_line_R cf tv o z (wp_Store_line cf tv d') Q σ
    unfold wp_Store_line_R
    refine lQ1_rule (fun y τ => (0 ≤ y ∧ y ≤ cn) ∧ Fr (mOd o) σ τ ∧ RK τ ∧ gI τ 221 o = gI σ 221 o + (cat (fun k => lnL σ l (be σ z k)) y.toNat).length ∧ odL τ o = odL σ o ++ cat (fun k => lnL σ l (be σ z k)) y.toNat) (fun y _ => (cn - y).toNat) ?_ 0 σ ⟨by omega, Fr.rf _ _, hrk, by show _ = _ + ((0 : Nat) : Int); omega, (List.append_nil _).symm⟩
    intro K y τ hI hK
    obtain ⟨hy, fr, rk, ho, hl⟩ := hI
    have nk : ∀ f x, 576 ≤ f → f ≤ 587 → ¬ mOd o f x := fun f x a b q => by unfold mOd at q; omega
    have ke : ∀ x, KE σ τ x := fun x => KE.fr fr (fun f a b => nk f x a (Nat.le_trans b (by decide)))
    have lf := lnL_fr (σ := σ) (τ := τ) (fun x => fr.i _ _ (nk _ _ (by decide) (by decide))) (fun x => (ke x).2.1) (fun x k => (ke x).b k)
    unfold wp_Store_line_L2
    rw [(ke z).2.1, hcc, (ke z).1, c.2.1]
    refine ⟨c.1.1, fun q => ?_, fun q => ⟨fun w => absurd w (by omega), fun _ => ⟨by omega, ?_⟩⟩⟩
    · have ey : y = cn := by omega
      rw [ey] at ho hl
      exact own σ τ z _ Q _ c.1.1 fr rk c.1.2 ho hl h0 hb hQ
    · have ylt : y < cn := by omega
      have hTk := (hT2 y hy.1 ylt).2.2
      have bz : gA τ 583 z y = be σ z y := (ke z).b y
      rw [bz]
      have sp := cat_at (fun k => lnL σ l (be σ z k)) (n := cn.toNat) hy.1 (by omega)
      have sl := congrArg List.length sp
      rw [List.length_append, List.length_append] at sl
      rw [List.length_append] at hb
      have cs : cat (fun k => lnL σ l (be σ z k)) (y + 1).toNat = cat (fun k => lnL σ l (be σ z k)) y.toNat ++ lnL σ l (be σ z y) := by
        rw [show (y + 1).toNat = y.toNat + 1 by omega]
        show cat _ y.toNat ++ lnL σ l (be σ z (y.toNat : Int)) = _
        rw [show (y.toNat : Int) = y by omega]
      refine ih d' τ (be σ z y) 4 _ _ _ (by omega) rk (hTk.fr (fun x _ => ke x)) (by omega) (by rw [lf]; omega) (fun υ u1 u2 u3 u4 _ y' ey => ?_)
      rw [w32_id (by unfold rI; omega)] at ey
      rw [ey]
      rw [lf] at u1 u2
      refine hK _ _ ⟨by omega, fr.tr u3, u4, ?_, ?_⟩ (by omega)
      · rw [u2, ho, cs, List.length_append]; omega
      · rw [u1, hl, cs, List.append_assoc]
