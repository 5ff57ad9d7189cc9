/-! a new number for a head, the table set aside -/
theorem gh_l {U : Int → Int} {x : St} : gA (gh U x) 324 0 = U := funext (fun i => by rw [gh_a]; exact if_pos ⟨rfl, rfl⟩)
theorem gh_e {U : Int → Int} {x : St} {d : Int → Int} : eE (gh U x) 0 d = eE x 0 d := funext (fun m => eE_fr (gh_fr x).1 mAc_w)
theorem gh_s {U : Int → Int} {x : St} {f : Nat} (hf : f = 323 ∨ f = 325) : gA (gh U x) f 0 = gA x f 0 := (gh_fr x).1.a _ _ (fun q => by unfold mAc at q; omega)
theorem gh_w {U : Int → Int} {x : St} {f : Nat} {w : Int} (hf : f = 451 ∨ f = 452) : gI (gh U x) f w = gI x f w := (gh_fr x).1.i _ _ (fun q => by unfold mAc at q; omega)
theorem NEo.asd {cf : Cf} {σ τ : St} {dk dk' : Int → Int} {db db' : Int → Int → Int} {w n k : Int} (h : NEo cf σ τ 0 w dk dk' db db' n k) : NEo cf (gh (gA σ 324 0) σ) (gh (gA τ 324 0) τ) 0 w dk dk' db db' n k := by
  unfold NEo at h ⊢
  rw [gh_l, gh_l, gh_e, gh_e, gh_s (f := 323) (by omega), gh_s (f := 323) (by omega), gh_s (f := 325) (by omega), gh_s (f := 325) (by omega), gh_w (f := 451) (by omega), gh_w (f := 452) (by omega), gh_w (f := 452) (by omega)]
  exact h
