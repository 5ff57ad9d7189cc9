/-! items in another order -/
theorem pkT_app (t : Int) (A B : List (Int × Int × Int × (Int → Int))) : pkT t (A ++ B) = pkT t A ++ pkT t B := List.filter_append _ _
theorem pkT_cons {t : Int} {x : Int × Int × Int × (Int → Int)} {M : List (Int × Int × Int × (Int → Int))} : pkT t (x :: M) = if x.1 % 4 = t then x :: pkT t M else pkT t M := by
  unfold pkT
  rw [List.filter_cons]
  by_cases q : x.1 % 4 = t
  · rw [if_pos q, if_pos (decide_eq_true q)]
  · rw [if_neg q, if_neg (by rw [decide_eq_true_iff]; exact q)]
theorem nds_cons {x : Int × Int × Int × (Int → Int)} {M : List (Int × Int × Int × (Int → Int))} : nds (x :: M) = if x.1 % 4 = 0 then nrow x :: nds M else nds M := by
  unfold nds; rw [pkT_cons]; split <;> rfl
theorem ens_cons {x : Int × Int × Int × (Int → Int)} {M : List (Int × Int × Int × (Int → Int))} : ens (x :: M) = if x.1 % 4 = 2 then erow x :: ens M else ens M := by
  unfold ens; rw [pkT_cons]; split <;> rfl
theorem ats_cons {x : Int × Int × Int × (Int → Int)} {M : List (Int × Int × Int × (Int → Int))} : ats (x :: M) = if x.1 % 4 = 3 then arow x :: ats M else ats M := by
  unfold ats; rw [pkT_cons]; split <;> rfl
theorem pcs_cons {x : Int × Int × Int × (Int → Int)} {M : List (Int × Int × Int × (Int → Int))} : pcs (x :: M) = if x.1 % 4 = 1 then prow x :: pcs M else pcs M := by
  unfold pcs; rw [pkT_cons]; split <;> rfl
theorem nds_p {A B : List (Int × Int × Int × (Int → Int))} (h : A.Perm B) : (nds A).Perm (nds B) := (h.filter _).map _
theorem ens_p {A B : List (Int × Int × Int × (Int → Int))} (h : A.Perm B) : (ens A).Perm (ens B) := (h.filter _).map _
theorem ats_p {A B : List (Int × Int × Int × (Int → Int))} (h : A.Perm B) : (ats A).Perm (ats B) := (h.filter _).map _
theorem pcs_p {A B : List (Int × Int × Int × (Int → Int))} (h : A.Perm B) : (pcs A).Perm (pcs B) := (h.filter _).map _
theorem cpM_p {A B : List (Int × Int × Int × (Int → Int))} (h : A.Perm B) : cpM A = cpM B := perm_sum (h.map _)
theorem nlL_p {A B : List (Int × Int × Int × (Int → Int))} (h : A.Perm B) : (nlL A).length = (nlL B).length := ((h.filter _).map _).length_eq
theorem cpM_cons (x : Int × Int × Int × (Int → Int)) (M : List (Int × Int × Int × (Int → Int))) : cpM (x :: M) = (x.2.2.1 + 192) + cpM M := by unfold cpM; rw [List.map_cons, List.sum_cons]
theorem mput_new {M : List (Int × Int × Int × (Int → Int))} {x : Int × Int × Int × (Int → Int)} (hs : Srm M) (hn : ∀ y, y ∈ M → ak y ≠ ak x) : (mput x M).Perm (x :: M) := by
  obtain ⟨E, e1, e2, -⟩ := srm_at (ak x) hs
  have E0 : E = [] := by
    match E, e1, e2 with
    | [], _, _ => rfl
    | e :: E, e1, e2 => exact absurd (e2 e List.mem_cons_self) (hn e (by rw [e1]; exact List.mem_append_right _ (List.mem_append_left _ List.mem_cons_self)))
  rw [E0, List.nil_append] at e1
  unfold mput
  refine List.perm_middle.trans ?_
  refine List.Perm.cons _ ?_
  rw [← e1]
theorem mput_old {M : List (Int × Int × Int × (Int → Int))} {x y : Int × Int × Int × (Int → Int)} (hs : Srm M) (hy : y ∈ M) (hk : ak y = ak x) : ∃ N, M.Perm (y :: N) ∧ (mput x M).Perm (x :: N) ∧ (mdel (ak x) M).Perm N := by
  obtain ⟨E, e1, e2, e3⟩ := srm_at (ak x) hs
  have yE : y ∈ E := by
    rw [e1] at hy
    rcases List.mem_append.mp hy with w | w
    · have := (fl_mem (p := fun z : Int × Int × Int × (Int → Int) => ak z < ak x)).mp w; omega
    · rcases List.mem_append.mp w with w | w
      · exact w
      · have := (fl_mem (p := fun z : Int × Int × Int × (Int → Int) => ak x < ak z)).mp w; omega
  have E1 : E = [y] := by
    match E, yE, e3 with
    | [], h, _ => exact absurd h List.not_mem_nil
    | [e], h, _ => rw [List.mem_singleton.mp h]
    | _ :: _ :: _, _, h => exact absurd h (by rw [List.length_cons, List.length_cons]; omega)
  rw [E1] at e1
  generalize hA : M.filter (fun y => decide (ak y < ak x)) = A at e1
  generalize hB : M.filter (fun y => decide (ak x < ak y)) = B at e1
  refine ⟨A ++ B, by rw [e1]; exact List.perm_middle, ?_, ?_⟩
  · unfold mput
    rw [hA, hB]
    exact List.perm_middle
  · unfold mdel
    have ma : ∀ a, a ∈ A → ak a ≠ ak x := fun a ha => by rw [← hA] at ha; have := ((fl_mem (p := fun z : Int × Int × Int × (Int → Int) => ak z < ak x)).mp ha).2; omega
    have mb : ∀ a, a ∈ B → ak a ≠ ak x := fun a ha => by rw [← hB] at ha; have := ((fl_mem (p := fun z : Int × Int × Int × (Int → Int) => ak x < ak z)).mp ha).2; omega
    have : M.filter (fun z => decide (ak z ≠ ak x)) = A ++ B := by
      rw [e1, List.filter_append, List.filter_append, fl_all (p := fun z : Int × Int × Int × (Int → Int) => ak z ≠ ak x) ma, fl_all (p := fun z : Int × Int × Int × (Int → Int) => ak z ≠ ak x) mb, fl_none (p := fun z : Int × Int × Int × (Int → Int) => ak z ≠ ak x) (A := [y]) (fun a ha => by rw [List.mem_singleton.mp ha]; exact fun w => w hk)]
      rfl
    rw [this]
theorem mdel_srm {κ : Int} {M : List (Int × Int × Int × (Int → Int))} (h : Srm M) : Srm (mdel κ M) := by unfold mdel; exact fl_srm h
theorem mcut_srm {a b : Int} {M : List (Int × Int × Int × (Int → Int))} (h : Srm M) : Srm (mcut a b M) := by unfold mcut; exact fl_srm h
theorem mforget_srm {x : Int} {M : List (Int × Int × Int × (Int → Int))} (h : Srm M) : Srm (mforget x M) := by unfold mforget; exact mdel_srm (mcut_srm (mcut_srm h))
/-- a tree, its items in any order -/
def WX (cf : Cf) (M : List (Int × Int × Int × (Int → Int))) (nx : Int) : Prop :=
  (∀ x, x ∈ M → okN x ∧ okE x ∧ okA x ∧ okP x ∧ 1 ≤ x.1 / 4 ∧ x.1 / 4 < nx) ∧ (1, 1, 0) ∈ nds M ∧ (∀ e, e ∈ ens M → (e.1, 1, 0) ∈ nds M ∧ (∃ k s, (e.2.2, k, s) ∈ nds M) ∧ e.2.2 ≠ 1) ∧ (∀ a, a ∈ ats M → ∃ k s, (a.1, k, s) ∈ nds M) ∧ (∀ p, p ∈ pcs M → ∃ k s, (p.1, k, s) ∈ nds M ∧ k ≠ 1 ∧ 64 * p.2.1 + p.2.2.1 ≤ s ∧ (k = 3 → p.2.1 = 0)) ∧ ((ens M).map (fun e => (e.1, e.2.1))).Nodup ∧
  (∀ x, x ∈ M → x.1 % 4 = 0 → (rI4 x.2.2.2 28 = 1 → rI4 x.2.2.2 40 = cn1 (x.1 / 4) (ens M) ∧ rI4 x.2.2.2 36 = 0) ∧ (rI4 x.2.2.2 28 ≠ 1 → rI4 x.2.2.2 32 = cn3 (x.1 / 4) (ens M)) ∧ rI4 x.2.2.2 44 = cn1 (x.1 / 4) (ats M)) ∧ (∀ n, n ∈ nds M → n.2.1 ≠ 2 → n.1 ≠ 1 → cn3 n.1 (ens M) = 1) ∧ (∀ n, n ∈ nds M → n.2.1 = 3 → (1 ≤ n.2.2 ∧ n.2.2 ≤ 64) ∧ ∃ b, (n.1, 0, n.2.2, b) ∈ pcs M) ∧ (∃ rk : Int → Nat, ∀ e, e ∈ ens M → (e.2.2, 1, 0) ∈ nds M → rk e.1 < rk e.2.2) ∧ cpM M ≤ capa cf ∧ (nlL M).length ≤ 8
theorem WF.x {cf : Cf} {S : List (Int × Int × Int × (Int → Int)) × Int} (h : WF cf S) : WX cf S.1 S.2 := ⟨h.1.2, h.2⟩
theorem WX.f {cf : Cf} {S : List (Int × Int × Int × (Int → Int)) × Int} (h : WX cf S.1 S.2) (hs : Srm S.1) : WF cf S := ⟨⟨hs, h.1⟩, h.2⟩
theorem WX.p {cf : Cf} {A B : List (Int × Int × Int × (Int → Int))} {nx : Int} (h : WX cf A nx) (p : A.Perm B) : WX cf B nx := by
  obtain ⟨h1, h2, h3, h4, h5, h6, h7, h8, h9, ⟨rk, h10⟩, h11, h12⟩ := h
  have n : ∀ {r}, r ∈ nds B ↔ r ∈ nds A := fun {r} => (nds_p p).symm.mem_iff
  have e : ∀ {r}, r ∈ ens B ↔ r ∈ ens A := fun {r} => (ens_p p).symm.mem_iff
  have a : ∀ {r}, r ∈ ats B ↔ r ∈ ats A := fun {r} => (ats_p p).symm.mem_iff
  have c : ∀ {r}, r ∈ pcs B ↔ r ∈ pcs A := fun {r} => (pcs_p p).symm.mem_iff
  refine ⟨fun x hx => h1 x (p.mem_iff.mpr hx), n.mpr h2, fun r hr => ?_, fun r hr => ?_, fun r hr => ?_, ?_, fun x hx => ?_, fun r hr q1 q2 => ?_, fun r hr q => ?_, ⟨rk, fun r hr q => h10 r (e.mp hr) (n.mp q)⟩, by rw [← cpM_p p]; exact h11, by rw [← nlL_p p]; exact h12⟩
  · obtain ⟨x1, ⟨k, s, x2⟩, x3⟩ := h3 r (e.mp hr)
    exact ⟨n.mpr x1, ⟨k, s, n.mpr x2⟩, x3⟩
  · obtain ⟨k, s, x2⟩ := h4 r (a.mp hr)
    exact ⟨k, s, n.mpr x2⟩
  · obtain ⟨k, s, x2, x3⟩ := h5 r (c.mp hr)
    exact ⟨k, s, n.mpr x2, x3⟩
  · exact ((ens_p p).map _).nodup_iff.mp h6
  · rw [← perm_cn1 (ens_p p), ← perm_cn3 (ens_p p), ← perm_cn1 (ats_p p)]
    exact h7 x (p.mem_iff.mpr hx)
  · rw [← perm_cn3 (ens_p p)]
    exact h8 r (n.mp hr) q1 q2
  · obtain ⟨x1, b, x2⟩ := h9 r (n.mp hr) q
    exact ⟨x1, b, c.mpr x2⟩
/-- how the rows fit the tables -/
theorem len4 : ∀ M : List (Int × Int × Int × (Int → Int)), (nds M).length + (ens M).length + (ats M).length + (pcs M).length = M.length
  | [] => rfl
  | x :: M => by
    have ih := len4 M
    rw [nds_cons, ens_cons, ats_cons, pcs_cons, List.length_cons]
    have c : x.1 % 4 = 0 ∨ x.1 % 4 = 1 ∨ x.1 % 4 = 2 ∨ x.1 % 4 = 3 := by omega
    rcases c with q | q | q | q
    · rw [if_pos q, if_neg (by omega), if_neg (by omega), if_neg (by omega), List.length_cons]; omega
    · rw [if_neg (by omega), if_neg (by omega), if_neg (by omega), if_pos q, List.length_cons]; omega
    · rw [if_neg (by omega), if_pos q, if_neg (by omega), if_neg (by omega), List.length_cons]; omega
    · rw [if_neg (by omega), if_neg (by omega), if_pos q, if_neg (by omega), List.length_cons]; omega
/-- what items take, by the rows -/
theorem cpM_rows : ∀ {M : List (Int × Int × Int × (Int → Int))}, (∀ x, x ∈ M → okN x ∧ okE x ∧ okA x ∧ okP x) → cpM M = 240 * ((nds M).length + (ens M).length + (ats M).length : Int) + pSum (pcs M)
  | [], _ => rfl
  | x :: M, h => by
    have ih := cpM_rows (M := M) (fun y hy => h y (List.mem_cons_of_mem _ hy))
    obtain ⟨o1, o2, o3, o4⟩ := h x List.mem_cons_self
    rw [cpM_cons, nds_cons, ens_cons, ats_cons, pcs_cons]
    have c : x.1 % 4 = 0 ∨ x.1 % 4 = 1 ∨ x.1 % 4 = 2 ∨ x.1 % 4 = 3 := by omega
    rcases c with q | q | q | q
    · have := (o1 q).2.1
      rw [if_pos q, if_neg (by omega), if_neg (by omega), if_neg (by omega), List.length_cons]; omega
    · have := (o4 q).2.2.2.2.1
      rw [if_neg (by omega), if_neg (by omega), if_neg (by omega), if_pos q]
      have e : pSum (prow x :: pcs M) = (224 + (plen x + 7) / 8 * 8) + pSum (pcs M) := by unfold pSum; rw [List.map_cons, List.sum_cons]; rfl
      rw [e]; omega
    · have := (o2 q).1
      rw [if_neg (by omega), if_pos q, if_neg (by omega), if_neg (by omega), List.length_cons]; omega
    · have := (o3 q).1
      rw [if_neg (by omega), if_neg (by omega), if_pos q, if_neg (by omega), List.length_cons]; omega
theorem WX.fit {cf : Cf} (hc : CfOK cf) {M : List (Int × Int × Int × (Int → Int))} {nx : Int} (h : WX cf M nx) : (240 * ((nds M).length + (ens M).length + (ats M).length : Int) + pSum (pcs M) ≤ 164864) ∧ 232 * ((pcs M).length : Int) ≤ pSum (pcs M) ∧ ∀ p, p ∈ pcs M → (1 ≤ p.2.2.1 ∧ p.2.2.1 ≤ 64) ∧ 0 ≤ p.2.1 ∧ p.2.1 < 256 := by
  have a := cpM_rows (M := M) (fun x hx => ⟨(h.1 x hx).1, (h.1 x hx).2.1, (h.1 x hx).2.2.1, (h.1 x hx).2.2.2.1⟩)
  have b := h.2.2.2.2.2.2.2.2.2.2.1
  have c := capa_le hc
  have pr : ∀ p, p ∈ pcs M → (1 ≤ p.2.2.1 ∧ p.2.2.1 ≤ 64) ∧ 0 ≤ p.2.1 ∧ p.2.1 < 256 := fun p hp => by
    obtain ⟨x, x1, x2, x3⟩ := pcs_mem.mp hp
    have o := (h.1 x x1).2.2.2.1 x2
    rw [← x3]
    exact ⟨o.2.2.2.1, o.2.2.1⟩
  have lo : ∀ P : List (Int × Int × Int × (Int → Int)), (∀ p, p ∈ P → 1 ≤ p.2.2.1 ∧ p.2.2.1 ≤ 64) → 232 * (P.length : Int) ≤ pSum P := by
    intro P
    induction P with
    | nil => intro _; exact Int.le_refl _
    | cons p P ih =>
      intro hp
      have := ih (fun q hq => hp q (List.mem_cons_of_mem _ hq))
      have := hp p List.mem_cons_self
      have e : pSum (p :: P) = (224 + (p.2.2.1 + 7) / 8 * 8) + pSum P := by unfold pSum; rw [List.map_cons, List.sum_cons]
      rw [e, List.length_cons]; omega
  exact ⟨by omega, lo _ (fun p hp => (pr p hp).1), pr⟩
theorem WX.ft {cf : Cf} (hc : CfOK cf) {M : List (Int × Int × Int × (Int → Int))} {nx : Int} (h : WX cf M nx) : FT (nds M) (ens M) (ats M) (pcs M) ∧ M.length ≤ 711 ∧ ((nds M).length ≤ 687 ∧ (ens M).length ≤ 687 ∧ (ats M).length ≤ 687 ∧ (pcs M).length ≤ 710) := by
  obtain ⟨a, b, -⟩ := h.fit hc
  have c := len4 M
  refine ⟨⟨⟨by omega, by omega⟩, by omega, by omega⟩, by omega, by omega⟩
theorem WF.fts {cf : Cf} (hc : CfOK cf) {S : List (Int × Int × Int × (Int → Int)) × Int} (h : WF cf S) : FTs S := (h.x.ft hc).1
theorem WF.len {cf : Cf} (hc : CfOK cf) {S : List (Int × Int × Int × (Int → Int)) × Int} (h : WF cf S) : S.1.length ≤ 711 := (h.x.ft hc).2.1
theorem WF.ino {cf : Cf} {S : List (Int × Int × Int × (Int → Int)) × Int} (h : WF cf S) : ino0 S.1 := fun x hx q => ((h.1.2 x hx).1 q).1
theorem WF.okC {cf : Cf} (hc : CfOK cf) {S : List (Int × Int × Int × (Int → Int)) × Int} (h : WF cf S) (hn : 0 ≤ S.2 ∧ S.2 < 1073740000) : okC S 0 := ⟨by have := h.len hc; omega, by have := h.2.2.2.2.2.2.2.2.2.2.2; omega, by omega, h.ino⟩
/-- rows of entries are apart -/
theorem nodup_key {E : List (Int × Int × Int)} (h : (E.map (fun e => (e.1, e.2.1))).Nodup) {a b : Int × Int × Int} (ha : a ∈ E) (hb : b ∈ E) (e1 : a.1 = b.1) (e2 : a.2.1 = b.2.1) : a = b := by
  induction E with
  | nil => exact absurd ha List.not_mem_nil
  | cons x E ih =>
    rw [List.map_cons] at h
    obtain ⟨h1, h2⟩ := List.nodup_cons.mp h
    have no : ∀ y, y ∈ E → y.1 = x.1 → y.2.1 = x.2.1 → False := fun y hy q1 q2 => h1 (List.mem_map.mpr ⟨y, hy, by rw [q1, q2]⟩)
    rcases List.mem_cons.mp ha with u | u
    · rcases List.mem_cons.mp hb with v | v
      · rw [u, v]
      · rw [u] at e1 e2; exact absurd (no b v e1.symm e2.symm) id
    · rcases List.mem_cons.mp hb with v | v
      · rw [v] at e1 e2; exact absurd (no a u e1 e2) id
      · exact ih h2 u v
