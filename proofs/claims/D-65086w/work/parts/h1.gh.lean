/-! a state with the table set aside -/
def gh (U : Int → Int) (x : St) : St := sI (sAr x 324 0 U) 214 0 (-1)
theorem gh_i {U : Int → Int} {x : St} {f : Nat} {o : Int} : gI (gh U x) f o = if f = 214 ∧ o = 0 then -1 else gI x f o := by
  unfold gh
  rw [gI_sI]
  rfl
theorem gh_a {U : Int → Int} {x : St} {f : Nat} {o i : Int} : gA (gh U x) f o i = if f = 324 ∧ o = 0 then U i else gA x f o i := by
  show gA (sAr x 324 0 U) f o i = _
  rw [gA_sAr]
theorem Fr.asd {M : Nat → Int → Prop} {U : Int → Int} {x y : St} (h : Fr M x y) : Fr M (gh U x) (gh U y) := by
  intro f o n
  refine ⟨?_, fun i => ?_⟩
  · rw [gh_i, gh_i, (h f o n).1]
  · rw [gh_a, gh_a, (h f o n).2 i]
theorem gh_fr {U : Int → Int} (x : St) : Fr mAc x (gh U x) ∧ Fr mAc (gh U x) x := by
  refine ⟨fun f o n => ⟨?_, fun i => ?_⟩, fun f o n => ⟨?_, fun i => ?_⟩⟩
  · rw [gh_i, if_neg (fun q => n ⟨by omega, q.2⟩)]
  · rw [gh_a, if_neg (fun q => n ⟨by omega, q.2⟩)]
  · rw [gh_i, if_neg (fun q => n ⟨by omega, q.2⟩)]
  · rw [gh_a, if_neg (fun q => n ⟨by omega, q.2⟩)]
theorem mAc_w {o : Int} : ∀ f w, (w = o ∨ w = o + 2 ∨ w = o + 4) → 450 ≤ f → f ≤ 452 → ¬ mAc f w := fun f w _ a b q => by unfold mAc at q; omega
theorem GRo.asd {U : Int → Int} {cf : Cf} {σ τ : St} {dk dk' : Int → Int} {db db' : Int → Int → Int} {n : Int} (h : GRo cf σ τ 0 dk dk' db db' n) : GRo cf (gh U σ) (gh U τ) 0 dk dk' db db' n := by
  have e1 : ∀ d m, eE (gh U σ) 0 d m = eE σ 0 d m := fun d m => eE_fr (gh_fr σ).1 mAc_w
  have e2 : ∀ d m, eE (gh U τ) 0 d m = eE τ 0 d m := fun d m => eE_fr (gh_fr τ).1 mAc_w
  unfold GRo at h ⊢
  rw [e1, e2]
  obtain ⟨a, b, c⟩ := h
  exact ⟨fun m q => ⟨(a m q).1, fun z => by rw [e1, e2]; exact (a m q).2 z⟩, b, fun m p m0 m1 z => c m p m0 m1 (by rw [← e1]; exact z)⟩
theorem WW.asd {U : Int → Int} {cf : Cf} {σ : St} {dk : Int → Int} {db : Int → Int → Int} (h : WW cf σ 0 dk db) : WW cf (gh U σ) 0 dk db := h.fr (gh_fr σ).1 mAc_w
