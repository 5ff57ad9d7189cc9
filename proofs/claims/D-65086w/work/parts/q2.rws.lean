/-! rows of items, up to their order -/
def RWS (M : List (Int × Int × Int × (Int → Int))) (N E A : List (Int × Int × Int)) (P : List (Int × Int × Int × (Int → Int))) : Prop := (nds M).Perm N ∧ (ens M).Perm E ∧ (ats M).Perm A ∧ (pcs M).Perm P
theorem RWS.rf (M : List (Int × Int × Int × (Int → Int))) : RWS M (nds M) (ens M) (ats M) (pcs M) := ⟨List.Perm.refl _, List.Perm.refl _, List.Perm.refl _, List.Perm.refl _⟩
theorem RWS.of {N E A : List (Int × Int × Int)} {P : List (Int × Int × Int × (Int → Int))} {M M' : List (Int × Int × Int × (Int → Int))} (h : RWS M N E A P) (p : M'.Perm M) : RWS M' N E A P := ⟨(nds_p p).trans h.1, (ens_p p).trans h.2.1, (ats_p p).trans h.2.2.1, (pcs_p p).trans h.2.2.2⟩
theorem RWS.pm {N E A : List (Int × Int × Int)} {P : List (Int × Int × Int × (Int → Int))} {N' E' A' : List (Int × Int × Int)} {P' : List (Int × Int × Int × (Int → Int))} {M : List (Int × Int × Int × (Int → Int))} (h : RWS M N E A P) (a : N.Perm N') (b : E.Perm E') (c : A.Perm A') (d : P.Perm P') : RWS M N' E' A' P' := ⟨h.1.trans a, h.2.1.trans b, h.2.2.1.trans c, h.2.2.2.trans d⟩
theorem RWS.c0 {N E A : List (Int × Int × Int)} {P : List (Int × Int × Int × (Int → Int))} {M : List (Int × Int × Int × (Int → Int))} {x : Int × Int × Int × (Int → Int)} (h : RWS M N E A P) (q : x.1 % 4 = 0) : RWS (x :: M) (nrow x :: N) E A P := by
  unfold RWS; rw [nds_cons, ens_cons, ats_cons, pcs_cons, if_pos q, if_neg (by omega), if_neg (by omega), if_neg (by omega)]
  exact ⟨h.1.cons _, h.2⟩
theorem RWS.c1 {N E A : List (Int × Int × Int)} {P : List (Int × Int × Int × (Int → Int))} {M : List (Int × Int × Int × (Int → Int))} {x : Int × Int × Int × (Int → Int)} (h : RWS M N E A P) (q : x.1 % 4 = 1) : RWS (x :: M) N E A (prow x :: P) := by
  unfold RWS; rw [nds_cons, ens_cons, ats_cons, pcs_cons, if_neg (by omega), if_neg (by omega), if_neg (by omega), if_pos q]
  exact ⟨h.1, h.2.1, h.2.2.1, h.2.2.2.cons _⟩
theorem RWS.c2 {N E A : List (Int × Int × Int)} {P : List (Int × Int × Int × (Int → Int))} {M : List (Int × Int × Int × (Int → Int))} {x : Int × Int × Int × (Int → Int)} (h : RWS M N E A P) (q : x.1 % 4 = 2) : RWS (x :: M) N (erow x :: E) A P := by
  unfold RWS; rw [nds_cons, ens_cons, ats_cons, pcs_cons, if_neg (by omega), if_pos q, if_neg (by omega), if_neg (by omega)]
  exact ⟨h.1, h.2.1.cons _, h.2.2⟩
theorem RWS.c3 {N E A : List (Int × Int × Int)} {P : List (Int × Int × Int × (Int → Int))} {M : List (Int × Int × Int × (Int → Int))} {x : Int × Int × Int × (Int → Int)} (h : RWS M N E A P) (q : x.1 % 4 = 3) : RWS (x :: M) N E (arow x :: A) P := by
  unfold RWS; rw [nds_cons, ens_cons, ats_cons, pcs_cons, if_neg (by omega), if_neg (by omega), if_pos q, if_neg (by omega)]
  exact ⟨h.1, h.2.1, h.2.2.1.cons _, h.2.2.2⟩
theorem RWS.u0 {N E A : List (Int × Int × Int)} {P : List (Int × Int × Int × (Int → Int))} {M : List (Int × Int × Int × (Int → Int))} {x : Int × Int × Int × (Int → Int)} (h : RWS (x :: M) (nrow x :: N) E A P) (q : x.1 % 4 = 0) : RWS M N E A P := by
  unfold RWS at h; rw [nds_cons, ens_cons, ats_cons, pcs_cons, if_pos q, if_neg (by omega), if_neg (by omega), if_neg (by omega)] at h
  exact ⟨h.1.cons_inv, h.2⟩
theorem RWS.u1 {N E A : List (Int × Int × Int)} {P : List (Int × Int × Int × (Int → Int))} {M : List (Int × Int × Int × (Int → Int))} {x : Int × Int × Int × (Int → Int)} (h : RWS (x :: M) N E A (prow x :: P)) (q : x.1 % 4 = 1) : RWS M N E A P := by
  unfold RWS at h; rw [nds_cons, ens_cons, ats_cons, pcs_cons, if_neg (by omega), if_neg (by omega), if_neg (by omega), if_pos q] at h
  exact ⟨h.1, h.2.1, h.2.2.1, h.2.2.2.cons_inv⟩
theorem RWS.u2 {N E A : List (Int × Int × Int)} {P : List (Int × Int × Int × (Int → Int))} {M : List (Int × Int × Int × (Int → Int))} {x : Int × Int × Int × (Int → Int)} (h : RWS (x :: M) N (erow x :: E) A P) (q : x.1 % 4 = 2) : RWS M N E A P := by
  unfold RWS at h; rw [nds_cons, ens_cons, ats_cons, pcs_cons, if_neg (by omega), if_pos q, if_neg (by omega), if_neg (by omega)] at h
  exact ⟨h.1, h.2.1.cons_inv, h.2.2⟩
theorem RWS.u3 {N E A : List (Int × Int × Int)} {P : List (Int × Int × Int × (Int → Int))} {M : List (Int × Int × Int × (Int → Int))} {x : Int × Int × Int × (Int → Int)} (h : RWS (x :: M) N E (arow x :: A) P) (q : x.1 % 4 = 3) : RWS M N E A P := by
  unfold RWS at h; rw [nds_cons, ens_cons, ats_cons, pcs_cons, if_neg (by omega), if_neg (by omega), if_pos q, if_neg (by omega)] at h
  exact ⟨h.1, h.2.1, h.2.2.1.cons_inv, h.2.2.2⟩
/-! one item more, another, one less -/
theorem RWS.n0 {N E A : List (Int × Int × Int)} {P : List (Int × Int × Int × (Int → Int))} {M : List (Int × Int × Int × (Int → Int))} {x : Int × Int × Int × (Int → Int)} (h : RWS M N E A P) (hs : Srm M) (hn : ∀ y, y ∈ M → ak y ≠ ak x) (q : x.1 % 4 = 0) : RWS (mput x M) (nrow x :: N) E A P := (h.c0 q).of (mput_new hs hn)
theorem RWS.n1 {N E A : List (Int × Int × Int)} {P : List (Int × Int × Int × (Int → Int))} {M : List (Int × Int × Int × (Int → Int))} {x : Int × Int × Int × (Int → Int)} (h : RWS M N E A P) (hs : Srm M) (hn : ∀ y, y ∈ M → ak y ≠ ak x) (q : x.1 % 4 = 1) : RWS (mput x M) N E A (prow x :: P) := (h.c1 q).of (mput_new hs hn)
theorem RWS.n2 {N E A : List (Int × Int × Int)} {P : List (Int × Int × Int × (Int → Int))} {M : List (Int × Int × Int × (Int → Int))} {x : Int × Int × Int × (Int → Int)} (h : RWS M N E A P) (hs : Srm M) (hn : ∀ y, y ∈ M → ak y ≠ ak x) (q : x.1 % 4 = 2) : RWS (mput x M) N (erow x :: E) A P := (h.c2 q).of (mput_new hs hn)
theorem RWS.n3 {N E A : List (Int × Int × Int)} {P : List (Int × Int × Int × (Int → Int))} {M : List (Int × Int × Int × (Int → Int))} {x : Int × Int × Int × (Int → Int)} (h : RWS M N E A P) (hs : Srm M) (hn : ∀ y, y ∈ M → ak y ≠ ak x) (q : x.1 % 4 = 3) : RWS (mput x M) N E (arow x :: A) P := (h.c3 q).of (mput_new hs hn)
theorem RWS.o0 {N E A : List (Int × Int × Int)} {P : List (Int × Int × Int × (Int → Int))} {M : List (Int × Int × Int × (Int → Int))} {x y : Int × Int × Int × (Int → Int)} (h : RWS M (nrow y :: N) E A P) (hs : Srm M) (hy : y ∈ M) (hk : ak y = ak x) (q : x.1 % 4 = 0) (q' : y.1 % 4 = 0) : RWS (mput x M) (nrow x :: N) E A P := by
  obtain ⟨K, k1, k2, -⟩ := mput_old hs hy hk
  exact (((h.of k1.symm).u0 q').c0 q).of k2
theorem RWS.o1 {N E A : List (Int × Int × Int)} {P : List (Int × Int × Int × (Int → Int))} {M : List (Int × Int × Int × (Int → Int))} {x y : Int × Int × Int × (Int → Int)} (h : RWS M N E A (prow y :: P)) (hs : Srm M) (hy : y ∈ M) (hk : ak y = ak x) (q : x.1 % 4 = 1) (q' : y.1 % 4 = 1) : RWS (mput x M) N E A (prow x :: P) := by
  obtain ⟨K, k1, k2, -⟩ := mput_old hs hy hk
  exact (((h.of k1.symm).u1 q').c1 q).of k2
theorem RWS.o2 {N E A : List (Int × Int × Int)} {P : List (Int × Int × Int × (Int → Int))} {M : List (Int × Int × Int × (Int → Int))} {x y : Int × Int × Int × (Int → Int)} (h : RWS M N (erow y :: E) A P) (hs : Srm M) (hy : y ∈ M) (hk : ak y = ak x) (q : x.1 % 4 = 2) (q' : y.1 % 4 = 2) : RWS (mput x M) N (erow x :: E) A P := by
  obtain ⟨K, k1, k2, -⟩ := mput_old hs hy hk
  exact (((h.of k1.symm).u2 q').c2 q).of k2
theorem RWS.o3 {N E A : List (Int × Int × Int)} {P : List (Int × Int × Int × (Int → Int))} {M : List (Int × Int × Int × (Int → Int))} {x y : Int × Int × Int × (Int → Int)} (h : RWS M N E (arow y :: A) P) (hs : Srm M) (hy : y ∈ M) (hk : ak y = ak x) (q : x.1 % 4 = 3) (q' : y.1 % 4 = 3) : RWS (mput x M) N E (arow x :: A) P := by
  obtain ⟨K, k1, k2, -⟩ := mput_old hs hy hk
  exact (((h.of k1.symm).u3 q').c3 q).of k2
theorem mdel_old {M : List (Int × Int × Int × (Int → Int))} {y : Int × Int × Int × (Int → Int)} (hs : Srm M) (hy : y ∈ M) : M.Perm (y :: mdel (ak y) M) := by
  obtain ⟨K, k1, -, k3⟩ := mput_old (x := y) hs hy rfl
  exact k1.trans (k3.symm.cons y)
theorem RWS.d2 {N E A : List (Int × Int × Int)} {P : List (Int × Int × Int × (Int → Int))} {M : List (Int × Int × Int × (Int → Int))} {y : Int × Int × Int × (Int → Int)} (h : RWS M N (erow y :: E) A P) (hs : Srm M) (hy : y ∈ M) (q : y.1 % 4 = 2) : RWS (mdel (ak y) M) N E A P := (h.of (mdel_old hs hy).symm).u2 q
theorem RWS.d3 {N E A : List (Int × Int × Int)} {P : List (Int × Int × Int × (Int → Int))} {M : List (Int × Int × Int × (Int → Int))} {y : Int × Int × Int × (Int → Int)} (h : RWS M N E (arow y :: A) P) (hs : Srm M) (hy : y ∈ M) (q : y.1 % 4 = 3) : RWS (mdel (ak y) M) N E A P := (h.of (mdel_old hs hy).symm).u3 q
/-! filters -/
theorem pk_fl {β : Type} {t : Int} {f : Int × Int × Int × (Int → Int) → β} {p : Int × Int × Int × (Int → Int) → Bool} {q : β → Bool} : ∀ {M : List (Int × Int × Int × (Int → Int))}, (∀ x, x ∈ M → x.1 % 4 = t → p x = q (f x)) → (pkT t (M.filter p)).map f = ((pkT t M).map f).filter q
  | [], _ => rfl
  | x :: M, h => by
    have ih := pk_fl (M := M) (fun y hy => h y (List.mem_cons_of_mem _ hy))
    rw [pkT_cons]
    by_cases c : x.1 % 4 = t
    · have e := h x List.mem_cons_self c
      rw [if_pos c, List.map_cons, List.filter_cons, List.filter_cons]
      by_cases d : p x = true
      · rw [if_pos d, if_pos (by rw [← e]; exact d), pkT_cons, if_pos c, List.map_cons, ih]
      · rw [if_neg d, if_neg (by rw [← e]; exact d), ih]
    · rw [if_neg c, List.filter_cons]
      by_cases d : p x = true
      · rw [if_pos d, pkT_cons, if_neg c, ih]
      · rw [if_neg d, ih]
theorem RWS.fl {N E A : List (Int × Int × Int)} {P : List (Int × Int × Int × (Int → Int))} {M : List (Int × Int × Int × (Int → Int))} (p : Int × Int × Int × (Int → Int) → Bool) (qn qe qa : Int × Int × Int → Bool) (qp : Int × Int × Int × (Int → Int) → Bool) (h : RWS M N E A P) (h0 : ∀ x, x ∈ M → x.1 % 4 = 0 → p x = qn (nrow x)) (h2 : ∀ x, x ∈ M → x.1 % 4 = 2 → p x = qe (erow x)) (h3 : ∀ x, x ∈ M → x.1 % 4 = 3 → p x = qa (arow x)) (h1 : ∀ x, x ∈ M → x.1 % 4 = 1 → p x = qp (prow x)) : RWS (M.filter p) (N.filter qn) (E.filter qe) (A.filter qa) (P.filter qp) := by
  refine ⟨?_, ?_, ?_, ?_⟩
  · unfold nds; rw [pk_fl h0]; exact h.1.filter _
  · unfold ens; rw [pk_fl h2]; exact h.2.1.filter _
  · unfold ats; rw [pk_fl h3]; exact h.2.2.1.filter _
  · unfold pcs; rw [pk_fl h1]; exact h.2.2.2.filter _
theorem fl_tt {α : Type} (A : List α) : A.filter (fun _ => true) = A := List.filter_eq_self.mpr (fun _ _ => rfl)
/-! a tree and its rows -/
/-- an item's counters -/
def CT (E A : List (Int × Int × Int)) (x : Int × Int × Int × (Int → Int)) : Prop := (rI4 x.2.2.2 28 = 1 → rI4 x.2.2.2 40 = cn1 (x.1 / 4) E) ∧ (rI4 x.2.2.2 28 ≠ 1 → rI4 x.2.2.2 32 = cn3 (x.1 / 4) E) ∧ rI4 x.2.2.2 44 = cn1 (x.1 / 4) A
/-- items by themselves -/
def IOK (M : List (Int × Int × Int × (Int → Int))) (nx : Int) : Prop := ∀ x, x ∈ M → okN x ∧ okE x ∧ okA x ∧ okP x ∧ 1 ≤ x.1 / 4 ∧ x.1 / 4 < nx
theorem CT.p {E A E' A' : List (Int × Int × Int)} {x : Int × Int × Int × (Int → Int)} (h : CT E A x) (e : E.Perm E') (a : A.Perm A') : CT E' A' x := by
  unfold CT at h ⊢; rw [← perm_cn1 e, ← perm_cn3 e, ← perm_cn1 a]; exact h
theorem nds_nd {M : List (Int × Int × Int × (Int → Int))} {nx : Int} (hs : Srm M) (ho : IOK M nx) : ((nds M).map (fun n => n.1)).Nodup := by
  unfold nds
  rw [List.map_map]
  refine List.Pairwise.map (R := fun x y : Int × Int × Int × (Int → Int) => x.1 / 4 ≠ y.1 / 4) _ (fun a b c => c) ?_
  have p : (pkT 0 M).Pairwise (fun x y => ak x < ak y) := fl_srm hs
  refine List.Pairwise.imp_of_mem (fun {x y} hx hy c q => ?_) p
  have mx := (fl_mem (p := fun z : Int × Int × Int × (Int → Int) => z.1 % 4 = 0)).mp hx
  have my := (fl_mem (p := fun z : Int × Int × Int × (Int → Int) => z.1 % 4 = 0)).mp hy
  have ox := ((ho x mx.1).1 mx.2).1
  have oy := ((ho y my.1).1 my.2).1
  have : ak x = ak y := by
    unfold ak; rw [ox, oy, show x.1 = y.1 by have := mx.2; have := my.2; omega]
  omega
theorem WF.wr {cf : Cf} {S : List (Int × Int × Int × (Int → Int)) × Int} (h : WF cf S) : WR (nds S.1) (ens S.1) (ats S.1) (pcs S.1) S.2 (fun _ => False) := by
  obtain ⟨⟨h0, h1⟩, h2, h3, h4, h5, h6, h7, h8, h9, h10, -⟩ := h
  refine ⟨⟨fun n hn => ?_, nds_nd h0 h1⟩, h2, fun e he => h3 e he, fun a ha => h4 a ha, h5, h6, fun n a b c _ => h8 n a b c, h9, h10⟩
  obtain ⟨x, x1, x2, x3⟩ := nds_mem.mp hn
  rw [← x3]
  exact ⟨(h1 x x1).2.2.2.2, fun q => ((h7 x x1 x2).1 q).2⟩
theorem WF.iok {cf : Cf} {S : List (Int × Int × Int × (Int → Int)) × Int} (h : WF cf S) : IOK S.1 S.2 := h.1.2
theorem WF.ct {cf : Cf} {S : List (Int × Int × Int × (Int → Int)) × Int} (h : WF cf S) : ∀ x, x ∈ S.1 → x.1 % 4 = 0 → CT (ens S.1) (ats S.1) x := fun x a b => by
  obtain ⟨c1, c2, c3⟩ := h.2.2.2.2.2.2.1 x a b
  exact ⟨fun q => (c1 q).1, c2, c3⟩
theorem WR.wf {N E A : List (Int × Int × Int)} {P : List (Int × Int × Int × (Int → Int))} {cf : Cf} {S : List (Int × Int × Int × (Int → Int)) × Int} {ex : Int → Prop} (h : WR N E A P S.2 ex) (r : RWS S.1 N E A P) (hx : ∀ n, n ∈ N → n.2.1 ≠ 2 → n.1 ≠ 1 → ¬ ex n.1) (hs : Srm S.1) (ho : IOK S.1 S.2) (hC : ∀ x, x ∈ S.1 → x.1 % 4 = 0 → CT E A x) (hc : cpM S.1 ≤ capa cf) (hn : (nlL S.1).length ≤ 8) : WF cf S := by
  have w := (h.m (ex' := fun _ => False) (fun n a b c d => hx n a b c d)).p r.1.symm r.2.1.symm r.2.2.1.symm r.2.2.2.symm
  obtain ⟨⟨w0, -⟩, w2, w3, w4, w5, w6, w7, w8, w9⟩ := w
  refine ⟨⟨hs, ho⟩, w2, w3, w4, w5, w6, fun x a b => ?_, fun n a b c => w7 n a b c id, w8, w9, hc, hn⟩
  obtain ⟨c1, c2, c3⟩ := (hC x a b).p r.2.1.symm r.2.2.1.symm
  exact ⟨fun q => ⟨c1 q, (w0 _ (nds_mem.mpr ⟨x, a, b, rfl⟩)).2 q⟩, c2, c3⟩
