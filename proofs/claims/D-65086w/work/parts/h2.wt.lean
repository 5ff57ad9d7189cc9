/-! the table is put -/
theorem Fr.asd2 {M : Nat → Int → Prop} {U : Int → Int} {x y : St} (h : Fr (fun f o' => M f o' ∨ ((f = 324 ∨ f = 214) ∧ o' = 0)) x y) (hl : gI y 324 0 = gI x 324 0) (ht : ∀ i, gA y 214 0 i = gA x 214 0 i) : Fr M (gh U x) (gh U y) := by
  intro f o n
  refine ⟨?_, fun i => ?_⟩
  · rw [gh_i, gh_i]
    by_cases q : f = 214 ∧ o = 0
    · rw [if_pos q, if_pos q]
    · rw [if_neg q, if_neg q]
      by_cases w : f = 324 ∧ o = 0
      · rw [w.1, w.2]; exact hl
      · exact (h f o (fun z => by
          rcases z with z | z
          · exact n z
          · omega)).1
  · rw [gh_a, gh_a]
    by_cases q : f = 324 ∧ o = 0
    · rw [if_pos q, if_pos q]
    · rw [if_neg q, if_neg q]
      by_cases w : f = 214 ∧ o = 0
      · rw [w.1, w.2]; exact ht i
      · exact (h f o (fun z => by
          rcases z with z | z
          · exact n z
          · omega)).2 i
