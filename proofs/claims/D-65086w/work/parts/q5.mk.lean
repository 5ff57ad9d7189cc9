/-! a tree from its rows -/
/-- nameless ones, by rows -/
def nlc (N E : List (Int × Int × Int)) : Nat := (N.filter (fun n => decide (n.2.1 = 2 ∧ cn3 n.1 E = 0))).length
/-- what rows take -/
def szR (N E A : List (Int × Int × Int)) (P : List (Int × Int × Int × (Int → Int))) : Int := 240 * (N.length + E.length + A.length : Int) + pSum P
theorem nl_rows {N E A : List (Int × Int × Int)} {P : List (Int × Int × Int × (Int → Int))} {M : List (Int × Int × Int × (Int → Int))} (r : RWS M N E A P) (hC : ∀ x, x ∈ M → x.1 % 4 = 0 → CT E A x) : (nlL M).length = nlc N E := by
  have e1 : (nlL M).length = ((pkT 0 M).filter (fun x => decide (isNl x))).length := by
    unfold nlL nmF
    rw [List.length_map]
    unfold pkT
    rw [List.filter_filter]
    congr 1
    refine List.filter_congr (fun x _ => ?_)
    by_cases q : isNl x
    · rw [decide_eq_true q, decide_eq_true q.1]; rfl
    · rw [decide_eq_false q]; rfl
  have e2 : nlc N E = ((nds M).filter (fun n => decide (n.2.1 = 2 ∧ cn3 n.1 E = 0))).length := by
    unfold nlc
    exact ((r.1.symm).filter _).length_eq
  rw [e1, e2]
  unfold nds
  rw [List.filter_map, List.length_map]
  congr 1
  refine List.filter_congr (fun x hx => ?_)
  have mx := (fl_mem (p := fun z : Int × Int × Int × (Int → Int) => z.1 % 4 = 0)).mp hx
  obtain ⟨c1, c2, c3⟩ := hC x mx.1 mx.2
  show decide (isNl x) = decide (rI4 x.2.2.2 28 = 2 ∧ cn3 (x.1 / 4) E = 0)
  by_cases q : isNl x
  · rw [decide_eq_true q, decide_eq_true ⟨q.2.1, by have := c2 (by rw [q.2.1]; decide); rw [q.2.2] at this; omega⟩]
  · rw [decide_eq_false q, decide_eq_false (fun w => q ⟨mx.2, w.1, by have := c2 (by rw [w.1]; decide); rw [w.2] at this; omega⟩)]
theorem szR_of {N E A : List (Int × Int × Int)} {P : List (Int × Int × Int × (Int → Int))} {M : List (Int × Int × Int × (Int → Int))} {nx : Int} (r : RWS M N E A P) (ho : IOK M nx) : cpM M = szR N E A P := by
  rw [cpM_rows (fun x hx => ⟨(ho x hx).1, (ho x hx).2.1, (ho x hx).2.2.1, (ho x hx).2.2.2.1⟩), r.1.length_eq, r.2.1.length_eq, r.2.2.1.length_eq]
  unfold szR pSum
  rw [perm_sum (r.2.2.2.map _)]
theorem WF.mk {N E A : List (Int × Int × Int)} {P : List (Int × Int × Int × (Int → Int))} {cf : Cf} {S : List (Int × Int × Int × (Int → Int)) × Int} {ex : Int → Prop} (h : WR N E A P S.2 ex) (r : RWS S.1 N E A P) (hx : ∀ n, n ∈ N → n.2.1 ≠ 2 → n.1 ≠ 1 → ¬ ex n.1) (hs : Srm S.1) (ho : IOK S.1 S.2) (hC : ∀ x, x ∈ S.1 → x.1 % 4 = 0 → CT E A x) (hc : szR N E A P ≤ capa cf) (hn : nlc N E ≤ 8) : WF cf S ∧ cpM S.1 = szR N E A P := by
  have e := szR_of r ho
  exact ⟨h.wf r hx hs ho hC (by rw [e]; exact hc) (by rw [nl_rows r hC]; exact hn), e⟩
theorem WF.szr {cf : Cf} {S : List (Int × Int × Int × (Int → Int)) × Int} (w : WF cf S) : cpM S.1 = szR (nds S.1) (ens S.1) (ats S.1) (pcs S.1) := szR_of (RWS.rf _) w.iok
theorem WF.nlr {cf : Cf} {S : List (Int × Int × Int × (Int → Int)) × Int} (w : WF cf S) : nlc (nds S.1) (ens S.1) ≤ 8 := by
  rw [← nl_rows (RWS.rf S.1) w.ct]
  exact w.2.2.2.2.2.2.2.2.2.2.2
theorem nlc_cons {N E : List (Int × Int × Int)} {n : Int × Int × Int} : nlc (n :: N) E = (if n.2.1 = 2 ∧ cn3 n.1 E = 0 then 1 else 0) + nlc N E := by
  unfold nlc
  rw [List.filter_cons]
  by_cases q : n.2.1 = 2 ∧ cn3 n.1 E = 0
  · rw [if_pos q, if_pos (decide_eq_true q), List.length_cons]; omega
  · rw [if_neg q, if_neg (by rw [decide_eq_true_iff]; exact q)]; omega
/-- nameless ones, by one entry more -/
theorem nlc_addE {E : List (Int × Int × Int)} {e : Int × Int × Int} : ∀ {N : List (Int × Int × Int)}, nlc N (e :: E) ≤ nlc N E
  | [] => Nat.le_refl _
  | n :: N => by
    have ih := nlc_addE (E := E) (e := e) (N := N)
    rw [nlc_cons, nlc_cons, cn3_cons]
    by_cases q : n.2.1 = 2 ∧ cn3 n.1 E + (if e.2.2 = n.1 then 1 else 0) = 0
    · rw [if_pos q, if_pos ⟨q.1, by omega⟩]; omega
    · rw [if_neg q]; omega
/-- items of which a key is new -/
theorem kap_in2 {a l b m : Int} (h : kap a l = kap b m) : a = b ∧ l % 18446744073709551616 = m % 18446744073709551616 := by
  unfold kap at h; omega
theorem nk_n {M : List (Int × Int × Int × (Int → Int))} {nx y l : Int} (ho : IOK M nx) (h : y = 4 * nx ∨ y = 4 * nx + 1) : ∀ z, z ∈ M → kap z.1 z.2.1 ≠ kap y l := fun z hz q => by
  have := (kap_in2 q).1
  have := (ho z hz).2.2.2.2.2
  omega
