/-! who lies in whom -/
/-- directory t is b, or lies in it -/
def Anc (N E : List (Int × Int × Int)) (b t : Int) : Prop := ∀ P : Int → Prop, P b → (∀ d x t, P d → (d, x, t) ∈ E → (t, 1, 0) ∈ N → P t) → P t
theorem Anc.rf {N E : List (Int × Int × Int)} {b : Int} : Anc N E b b := fun _ h _ => h
theorem Anc.st {N E : List (Int × Int × Int)} {b d x t : Int} (h : Anc N E b d) (h2 : (d, x, t) ∈ E) (h3 : (t, 1, 0) ∈ N) : Anc N E b t := fun P hb hs => hs d x t (h P hb hs) h2 h3
theorem Anc.ind {N E : List (Int × Int × Int)} {b t : Int} (h : Anc N E b t) (P : Int → Prop) (hb : P b) (hs : ∀ d x t, Anc N E b d → P d → (d, x, t) ∈ E → (t, 1, 0) ∈ N → P t) : P t :=
  (h (fun v => Anc N E b v ∧ P v) ⟨Anc.rf, hb⟩ (fun d x t hd h2 h3 => ⟨hd.1.st h2 h3, hs d x t hd.1 hd.2 h2 h3⟩)).2
theorem Anc.cs {N E : List (Int × Int × Int)} {b t : Int} (h : Anc N E b t) : t = b ∨ ∃ d x, Anc N E b d ∧ (d, x, t) ∈ E ∧ (t, 1, 0) ∈ N :=
  h.ind (fun t => t = b ∨ ∃ d x, Anc N E b d ∧ (d, x, t) ∈ E ∧ (t, 1, 0) ∈ N) (Or.inl rfl) (fun d x t hd _ h2 h3 => Or.inr ⟨d, x, hd, h2, h3⟩)
theorem Anc.mono {N E E' : List (Int × Int × Int)} {b t : Int} (h : Anc N E b t) (q : ∀ e, e ∈ E → e ∈ E') : Anc N E' b t :=
  h.ind _ Anc.rf (fun _ _ _ _ ih h2 h3 => Anc.st ih (q _ h2) h3)
theorem Anc.le {N E : List (Int × Int × Int)} {rk : Int → Nat} (hr : RKo N E rk) {b t : Int} (h : Anc N E b t) : t = b ∨ rk b < rk t := by
  refine h.ind (fun t => t = b ∨ rk b < rk t) (Or.inl rfl) (fun d x t _ ih h2 h3 => ?_)
  have : rk d < rk t := hr _ h2 h3
  rcases ih with q | q
  · rw [q] at this; exact Or.inr this
  · exact Or.inr (Nat.lt_trans q this)
theorem Anc.le' {N E : List (Int × Int × Int)} {rk : Int → Nat} (hr : RKo N E rk) {b t : Int} (h : Anc N E b t) : rk b ≤ rk t := by
  rcases h.le hr with q | q
  · rw [q]; exact Nat.le_refl _
  · exact Nat.le_of_lt q
theorem Anc.add {N E : List (Int × Int × Int)} {a x u w v : Int} (h : Anc N ((a, x, u) :: E) w v) : Anc N E w v ∨ (Anc N E w a ∧ Anc N E u v) := by
  refine h.ind (fun v => Anc N E w v ∨ (Anc N E w a ∧ Anc N E u v)) (Or.inl Anc.rf) (fun d y t _ ih h2 h3 => ?_)
  rcases List.mem_cons.mp h2 with q | q
  · rw [Prod.mk.injEq, Prod.mk.injEq] at q
    obtain ⟨q1, q2, q3⟩ := q
    rw [q1] at ih
    rw [q3]
    rcases ih with i | ⟨i, -⟩
    · exact Or.inr ⟨i, Anc.rf⟩
    · exact Or.inr ⟨i, Anc.rf⟩
  · rcases ih with i | ⟨i, j⟩
    · exact Or.inl (Anc.st i q h3)
    · exact Or.inr ⟨i, Anc.st j q h3⟩
/-- ranks with one more entry -/
theorem rk_up {N E : List (Int × Int × Int)} {rk : Int → Nat} (hr : RKo N E rk) {t d : Int} (h : ¬ Anc N E t d) : ∃ rk', RKo N E rk' ∧ rk' d < rk' t := by
  classical
  refine ⟨fun v => if Anc N E t v then rk v + rk d + 1 else rk v, fun e he q => ?_, ?_⟩
  · have := hr e he q
    show (if Anc N E t e.1 then rk e.1 + rk d + 1 else rk e.1) < (if Anc N E t e.2.2 then rk e.2.2 + rk d + 1 else rk e.2.2)
    by_cases a : Anc N E t e.1
    · rw [if_pos a, if_pos (Anc.st (x := e.2.1) a he q)]; omega
    · rw [if_neg a]
      by_cases b : Anc N E t e.2.2
      · rw [if_pos b]; omega
      · rw [if_neg b]; exact this
  · show (if Anc N E t d then rk d + rk d + 1 else rk d) < (if Anc N E t t then rk t + rk d + 1 else rk t)
    rw [if_neg h, if_pos Anc.rf]; omega
theorem cn3_u {t : Int} {E : List (Int × Int × Int)} (h : cn3 t E = 1) {a b : Int × Int × Int} (ha : a ∈ E) (hb : b ∈ E) (ea : a.2.2 = t) (eb : b.2.2 = t) : a = b := by
  unfold cn3 at h
  obtain ⟨x, hx⟩ := List.length_eq_one_iff.mp h
  have ma : a ∈ E.filter (fun r => decide (r.2.2 = t)) := List.mem_filter.mpr ⟨ha, decide_eq_true ea⟩
  have mb : b ∈ E.filter (fun r => decide (r.2.2 = t)) := List.mem_filter.mpr ⟨hb, decide_eq_true eb⟩
  rw [hx] at ma mb
  rw [List.mem_singleton.mp ma, List.mem_singleton.mp mb]
theorem cn3_ex {t : Int} {E : List (Int × Int × Int)} (h : cn3 t E ≠ 0) : ∃ e, e ∈ E ∧ e.2.2 = t := by
  unfold cn3 at h
  cases e : E.filter (fun r => decide (r.2.2 = t)) with
  | nil => rw [e] at h; exact absurd rfl h
  | cons a l =>
    have : a ∈ E.filter (fun r => decide (r.2.2 = t)) := by rw [e]; exact List.mem_cons_self
    obtain ⟨a1, a2⟩ := List.mem_filter.mp this
    exact ⟨a, a1, of_decide_eq_true a2⟩
/-- one step up -/
theorem Anc.up {N E : List (Int × Int × Int)} {b t : Int} {e : Int × Int × Int} (hc : cn3 t E = 1) (ht : (t, 1, 0) ∈ N) (he : e ∈ E) (et : e.2.2 = t) (nb : t ≠ b) : Anc N E b t ↔ Anc N E b e.1 := by
  refine ⟨fun h => ?_, fun h => Anc.st (x := e.2.1) h (by rw [← et]; exact he) ht⟩
  rcases h.cs with q | ⟨d, x, h1, h2, h3⟩
  · exact absurd q nb
  · have := cn3_u hc he h2 et rfl
    rw [this]; exact h1
theorem Anc.root {N E : List (Int × Int × Int)} {b : Int} (h1 : ∀ e, e ∈ E → e.2.2 ≠ 1) (nb : b ≠ 1) : ¬ Anc N E b 1 := by
  intro h
  rcases h.cs with q | ⟨d, x, _, h2, _⟩
  · exact nb q.symm
  · exact h1 _ h2 rfl
