/-! files that are nameless, by their nodes -/
abbrev isNl (x : Int × Int × Int × (Int → Int)) : Prop := x.1 % 4 = 0 ∧ rI4 x.2.2.2 28 = 2 ∧ rI4 x.2.2.2 32 = 0
def nmF (M : List (Int × Int × Int × (Int → Int))) : List (Int × Int × Int × (Int → Int)) := M.filter (fun x => decide (isNl x))
def nlL (M : List (Int × Int × Int × (Int → Int))) : List Int := (nmF M).map (fun x => x.1 / 4)
theorem nf_app (A B : List (Int × Int × Int × (Int → Int))) : nmF (A ++ B) = nmF A ++ nmF B := List.filter_append _ _
theorem nlL_app (A B : List (Int × Int × Int × (Int → Int))) : nlL (A ++ B) = nlL A ++ nlL B := by unfold nlL; rw [nf_app, List.map_append]
theorem nf_fl {p : Int × Int × Int × (Int → Int) → Prop} [DecidablePred p] {M : List (Int × Int × Int × (Int → Int))} (h : ∀ y, y ∈ M → isNl y → p y) : nmF (M.filter (fun y => decide (p y))) = nmF M := by
  unfold nmF
  rw [List.filter_filter]
  refine List.filter_congr (fun y hy => ?_)
  by_cases q : isNl y
  · rw [decide_eq_true q, decide_eq_true (h y hy q)]; rfl
  · rw [decide_eq_false q]; rfl
theorem nf_none {A : List (Int × Int × Int × (Int → Int))} (h : ∀ y, y ∈ A → y.1 % 4 ≠ 0) : nmF A = [] := fl_none (p := fun y : Int × Int × Int × (Int → Int) => isNl y) (fun y hy q => h y hy q.1)
theorem kap_h {h l h' l' : Int} (e : kap h l = kap h' l') : h = h' := by unfold kap at e; omega
theorem nf_cut {h l : Int} {M : List (Int × Int × Int × (Int → Int))} (hh : h % 4 ≠ 0) : nmF (mcut h l M) = nmF M := nf_fl (p := fun y : Int × Int × Int × (Int → Int) => ¬ (y.1 = h ∧ kap h l ≤ ak y)) (fun y _ q w => by have := q.1; rw [w.1] at this; exact hh this)
theorem nf_del {h l : Int} {M : List (Int × Int × Int × (Int → Int))} (hh : h % 4 ≠ 0) : nmF (mdel (kap h l) M) = nmF M := nf_fl (p := fun y : Int × Int × Int × (Int → Int) => ak y ≠ kap h l) (fun y _ q w => by have := q.1; rw [kap_h w] at this; exact hh this)
theorem nf_put {x : Int × Int × Int × (Int → Int)} {M : List (Int × Int × Int × (Int → Int))} (hs : Srm M) (hx : x.1 % 4 ≠ 0) : nmF (mput x M) = nmF M := by
  obtain ⟨E, e1, e2, -⟩ := srm_at (ak x) hs
  have hE : nmF E = [] := nf_none (fun y hy => by rw [kap_h (e2 y hy)]; exact hx)
  have hx' : nmF [x] = [] := nf_none (fun y hy => by rw [List.mem_singleton.mp hy]; exact hx)
  unfold mput
  rw [← List.singleton_append, nf_app, nf_app, hx', List.nil_append]
  conv => rhs; rw [e1]
  rw [nf_app, nf_app, hE, List.nil_append]
theorem hiT4 {t x : Int} (ht : t ≠ 1) : hiT t x % 4 ≠ 0 := by
  unfold hiT
  rw [if_neg ht]
  split
  · omega
  · split <;> omega
theorem nf_ap {g : Int → Int} {a n : Int} {M : List (Int × Int × Int × (Int → Int))} (hs : Srm M) (h1 : g (a + 16) ≠ 1) : nmF (apM g a n M) = nmF M := by
  unfold apM
  split
  · exact nf_cut (by omega)
  · split
    · rename_i q; exact absurd q.1 h1
    · split
      · exact nf_del (hiT4 h1)
      · split
        · exact nf_put hs (hiT4 h1)
        · rfl
/-- keys of things are told by their numbers alone -/
def ino0 (M : List (Int × Int × Int × (Int → Int))) : Prop := ∀ x, x ∈ M → x.1 % 4 = 0 → x.2.1 = 0
theorem nf_cons (x : Int × Int × Int × (Int → Int)) (A : List (Int × Int × Int × (Int → Int))) : nmF (x :: A) = (if isNl x then [x] else []) ++ nmF A := by
  unfold nmF
  rw [List.filter_cons]
  by_cases q : isNl x
  · rw [if_pos (decide_eq_true q), if_pos q]; rfl
  · rw [if_neg (by rw [decide_eq_true_iff]; exact q), if_neg q]; rfl
/-- a thing's node: the row of the nameless goes with the items -/
theorem nl_ino {x : Int} {b : Prop} {M N A E B : List (Int × Int × Int × (Int → Int))} {os os' : List Int} (h0 : ino0 M) (hM : M = A ++ (E ++ B)) (hE : ∀ e, e ∈ E → ak e = kap (4 * x) 0) (hE1 : E.length ≤ 1) (hA : ∀ y, y ∈ A → ak y ≠ kap (4 * x) 0) (hB : ∀ y, y ∈ B → ak y ≠ kap (4 * x) 0) (hb : b → nlL N = nlL A ++ x :: nlL B) (hnb : ¬ b → nlL N = nlL A ++ nlL B) (hp : os.Perm (nlL M)) (ho : orN x b os os') : os'.Perm (nlL N) := by
  have out : ∀ C : List (Int × Int × Int × (Int → Int)), (∀ y, y ∈ C → y ∈ M) → (∀ y, y ∈ C → ak y ≠ kap (4 * x) 0) → x ∉ nlL C := by
    intro C c1 c2 w
    obtain ⟨y, y1, y2⟩ := List.mem_map.mp w
    have y3 := fl_mem.mp y1
    have y4 : y.1 = 4 * x := by have := y3.2.1; omega
    refine c2 y y3.1 ?_
    show kap y.1 y.2.1 = _
    rw [y4, h0 y (c1 y y3.1) y3.2.1]
  have xA := out A (fun y hy => by rw [hM]; exact List.mem_append_left _ hy) hA
  have xB := out B (fun y hy => by rw [hM]; exact List.mem_append_right _ (List.mem_append_right _ hy)) hB
  have nE : nlL E = [] ∨ nlL E = [x] := by
    match E, hE, hE1 with
    | [], _, _ => exact Or.inl rfl
    | [e], he, _ =>
      have k : e.1 = 4 * x := kap_h (he e List.mem_cons_self)
      unfold nlL
      rw [nf_cons]
      by_cases q : isNl e
      · right
        rw [if_pos q]
        show [e.1 / 4] = [x]
        rw [k]; congr 1; omega
      · left
        rw [if_neg q]; rfl
    | _ :: _ :: _, _, h => exact absurd h (by rw [List.length_cons, List.length_cons]; omega)
  rw [hM, nlL_app, nlL_app] at hp
  have mem : x ∈ os ↔ nlL E = [x] := by
    rw [hp.mem_iff, List.mem_append, List.mem_append]
    constructor
    · rintro (w | w | w)
      · exact absurd w xA
      · rcases nE with e | e
        · rw [e] at w; exact absurd w List.not_mem_nil
        · exact e
      · exact absurd w xB
    · intro w
      rw [w]; exact Or.inr (Or.inl List.mem_cons_self)
  by_cases hbb : b
  · rw [hb hbb]
    rcases ho.1 hbb with ⟨w, e⟩ | ⟨w, e⟩
    · rw [e]; rw [mem.mp w] at hp; exact hp
    · have : nlL E = [] := nE.resolve_right (fun z => w (mem.mpr z))
      rw [this, List.nil_append] at hp
      rw [e]
      refine (hp.append_right [x]).trans ?_
      exact (List.perm_append_singleton x _).trans List.perm_middle.symm
  · rw [hnb hbb]
    rcases ho.2 hbb with ⟨w, e⟩ | w
    · have : nlL E = [] := nE.resolve_right (fun z => w (mem.mpr z))
      rw [this, List.nil_append] at hp
      rw [e]; exact hp
    · have xo : x ∈ os := w.mem_iff.mp List.mem_cons_self
      rw [mem.mp xo] at hp
      have p2 := (w.trans hp).trans (List.perm_middle (a := x) (l₁ := nlL A) (l₂ := nlL B))
      exact p2.cons_inv
theorem nl_ap1 {g : Int → Int} {a n : Int} {M : List (Int × Int × Int × (Int → Int))} {os os' : List Int} (hs : Srm M) (h0 : ino0 M) (hn : 36 ≤ n) (h1 : g (a + 16) = 1) (hp : os.Perm (nlL M)) (ho : orN (rI4 g (a + 24)) (rI4 g (a + 28) = 2 ∧ rI4 g (a + 32) = 0) os os') : os'.Perm (nlL (apM g a n M)) := by
  generalize hx : rI4 g (a + 24) = x at ho
  obtain ⟨E, e1, e2, e3⟩ := srm_at (kap (4 * x) 0) hs
  have hi : hiN g a = 4 * x := by unfold hiN hiT; rw [if_pos h1, hx]; omega
  have lo : loN g a = 0 := by unfold loN; rw [if_pos h1]
  refine nl_ino h0 e1 e2 e3 (fun y hy => by have := (fl_mem.mp hy).2; omega) (fun y hy => by have := (fl_mem.mp hy).2; omega) ?_ ?_ hp ho
  · intro b
    have : apM g a n M = mput (4 * x, 0, n, pay g a n) M := by
      unfold apM
      rw [if_neg (by omega), if_neg (by omega), if_neg (by omega), if_pos (Or.inl h1), hi, lo]
    rw [this]
    unfold mput
    have ik : ak (4 * x, 0, n, pay g a n) = kap (4 * x) 0 := rfl
    rw [ik, nlL_app]
    congr 1
    have p28 : rI4 (pay g a n) 28 = rI4 g (a + 28) := rI4_sh (fun i i0 i1 => by unfold pay; rw [if_pos (by omega)]; congr 1; omega)
    have p32 : rI4 (pay g a n) 32 = rI4 g (a + 32) := rI4_sh (fun i i0 i1 => by unfold pay; rw [if_pos (by omega)]; congr 1; omega)
    unfold nlL
    rw [nf_cons, if_pos ⟨by show 4 * x % 4 = 0; omega, by show rI4 (pay g a n) 28 = 2; rw [p28]; exact b.1, by show rI4 (pay g a n) 32 = 0; rw [p32]; exact b.2⟩]
    show 4 * x / 4 :: _ = _
    congr 1
    omega
  · intro nb
    by_cases k0 : rI4 g (a + 28) = 0
    · have : apM g a n M = mforget x M := by
        unfold apM
        rw [if_neg (by omega), if_pos ⟨h1, k0⟩, hx]
      rw [this]
      unfold mforget
      generalize hN : mcut (4 * x + 3) 0 (mcut (4 * x + 1) 0 M) = N
      have nN : nmF N = nmF M := by rw [← hN, nf_cut (by omega), nf_cut (by omega)]
      have : nmF (mdel (kap (4 * x) 0) N) = nmF (mdel (kap (4 * x) 0) M) := by
        unfold mdel nmF at *
        rw [List.filter_filter, List.filter_filter]
        have sw : ∀ K : List (Int × Int × Int × (Int → Int)), K.filter (fun y => decide (isNl y) && decide (ak y ≠ kap (4 * x) 0)) = (K.filter (fun y => decide (isNl y))).filter (fun y => decide (ak y ≠ kap (4 * x) 0)) := by
          intro K
          rw [List.filter_filter]
          exact List.filter_congr (fun y _ => Bool.and_comm _ _)
        rw [sw, sw, nN]
      unfold nlL
      rw [this]
      have dm : mdel (kap (4 * x) 0) M = M.filter (fun y => decide (ak y < kap (4 * x) 0)) ++ M.filter (fun y => decide (kap (4 * x) 0 < ak y)) := by
        conv => lhs; rw [e1]
        unfold mdel
        rw [List.filter_append, List.filter_append, fl_all (p := fun y : Int × Int × Int × (Int → Int) => ak y ≠ kap (4 * x) 0) (fun y hy => by have := (fl_mem.mp hy).2; omega), fl_none (p := fun y : Int × Int × Int × (Int → Int) => ak y ≠ kap (4 * x) 0) (fun y hy q => q (e2 y hy)), fl_all (p := fun y : Int × Int × Int × (Int → Int) => ak y ≠ kap (4 * x) 0) (fun y hy => by have := (fl_mem.mp hy).2; omega), List.nil_append]
      rw [dm, nf_app, List.map_append]
    · have : apM g a n M = mput (4 * x, 0, n, pay g a n) M := by
        unfold apM
        rw [if_neg (by omega), if_neg (by omega), if_neg (by omega), if_pos (Or.inl h1), hi, lo]
      rw [this]
      unfold mput
      have ik : ak (4 * x, 0, n, pay g a n) = kap (4 * x) 0 := rfl
      rw [ik, nlL_app]
      congr 1
      have p28 : rI4 (pay g a n) 28 = rI4 g (a + 28) := rI4_sh (fun i i0 i1 => by unfold pay; rw [if_pos (by omega)]; congr 1; omega)
      have p32 : rI4 (pay g a n) 32 = rI4 g (a + 32) := rI4_sh (fun i i0 i1 => by unfold pay; rw [if_pos (by omega)]; congr 1; omega)
      unfold nlL
      rw [nf_cons, if_neg (fun q => nb ⟨by rw [← p28]; exact q.2.1, by rw [← p32]; exact q.2.2⟩)]
      rfl
theorem ino_ap {g : Int → Int} {a n : Int} {M : List (Int × Int × Int × (Int → Int))} (h : ino0 M) : ino0 (apM g a n M) := by
  have fl : ∀ {p : Int × Int × Int × (Int → Int) → Bool} {K : List (Int × Int × Int × (Int → Int))}, ino0 K → ino0 (K.filter p) := fun hk y hy => hk y (List.mem_filter.mp hy).1
  unfold apM
  split
  · exact fl h
  · split
    · exact fl (fl (fl h))
    · split
      · exact fl h
      · split
        · intro y hy q
          rcases mput_mem.mp hy with w | w
          · rw [w] at q ⊢
            by_cases h1 : g (a + 16) = 1
            · show loN g a = 0
              unfold loN; rw [if_pos h1]
            · exact absurd q (hiT4 h1)
          · exact h y w.1 q
        · exact h
