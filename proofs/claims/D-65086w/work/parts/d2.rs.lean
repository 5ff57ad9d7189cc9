/-! memory as the items are: one node more -/
theorem cat1_len (f : Int → Int) (n : Nat) : (cat1 f n).length = n := cat_len1 f n
theorem orL_len {σ : St} {o : Int} (h : 0 ≤ gI σ 218 o) : ((orL σ o).length : Int) = gI σ 218 o := by unfold orL; rw [cat1_len]; omega
theorem hiN_sh {g h : Int → Int} {a b n : Int} (hn : 28 ≤ n) (e : ∀ k, 0 ≤ k → k < n → g (a + k) = h (b + k)) : hiN g a = hiN h b := by
  unfold hiN
  rw [e 16 (by omega) (by omega), rI4_sh (g := g) (h := h) (a := a + 24) (b := b + 24) (fun i i0 i1 => by rw [show a + 24 + i = a + (24 + i) by omega, show b + 24 + i = b + (24 + i) by omega]; exact e _ (by omega) (by omega))]
theorem loN_sh {tv : Nat → Int} {g h : Int → Int} {a b n : Int} (w : jnV tv g a n) (lf : lfT (g (a + 16))) (e : ∀ k, 0 ≤ k → k < n → g (a + k) = h (b + k)) : loN g a = loN h b := by
  have nn := apM_n w
  have n40 := w.n
  unfold loN
  rw [← e 16 (by omega) (by omega)]
  by_cases q1 : g (a + 16) = 1
  · rw [if_pos q1, if_pos q1]
  rw [if_neg q1, if_neg q1]
  by_cases q2 : g (a + 16) = 3
  · rw [if_pos q2, if_pos q2, rI4_sh (g := g) (h := h) (a := a + 28) (b := b + 28) (fun i i0 i1 => by rw [show a + 28 + i = a + (28 + i) by omega, show b + 28 + i = b + (28 + i) by omega]; exact e _ (by omega) (by omega))]
  rw [if_neg q2, if_neg q2]
  unfold lfT at lf
  have e32 : rL8 g (a + 32) = rL8 h (b + 32) := rL8_sh (fun i i0 i1 => by rw [show a + 32 + i = a + (32 + i) by omega, show b + 32 + i = b + (32 + i) by omega]; exact e _ (by omega) (by omega))
  have e40 : rI4 g (a + 40) = rI4 h (b + 40) := rI4_sh (fun i i0 i1 => by rw [show a + 40 + i = a + (40 + i) by omega, show b + 40 + i = b + (40 + i) by omega]; exact e _ (by omega) (by omega))
  rw [e32, e40]
theorem jnV.sh {tv : Nat → Int} {g h : Int → Int} {a b n : Int} (w : jnV tv g a n) (e : ∀ k, 0 ≤ k → k < n → g (a + k) = h (b + k)) : jnV tv h b n := by
  have nn := w.n
  obtain ⟨w1, w2, w3⟩ := w
  have r : ∀ j, 0 ≤ j → j + 4 ≤ n → rI4 g (a + j) = rI4 h (b + j) := fun j j0 j1 => rI4_sh (fun i i0 i1 => by rw [show a + j + i = a + (j + i) by omega, show b + j + i = b + (j + i) by omega]; exact e _ (by omega) (by omega))
  refine ⟨w1.ext e, ?_, ?_⟩
  · rw [← e 16 (by omega) (by omega), ← r 28 (by omega) (by omega)]; exact w2
  · rw [← r 24 (by omega) (by omega)]; exact w3
/-- place p is reached from the beginning, node by node -/
def onC (tv : Nat → Int) (g : Int → Int) (p : Int) : Prop := ∃ t, chn tv g t 0 p
theorem onC.ch {tv : Nat → Int} {g : Int → Int} {u : List Int} {a b : Int} (h : onC tv g a) (w : chn tv g u a b) : onC tv g b := by
  obtain ⟨t, q⟩ := h
  exact ⟨t ++ u, chn_app q w⟩
theorem onC.n {tv : Nat → Int} {g : Int → Int} {a n : Int} (h : onC tv g a) (w : ndV tv g a n) : onC tv g (a + n) := by
  refine h.ch (u := [n]) ?_
  show if n = 0 then _ else ndV tv g a n ∧ chn tv g [] (a + n) (a + n)
  rw [if_neg (by have := w.2.1; omega)]
  exact ⟨w, rfl⟩
theorem onC.p {tv : Nat → Int} {g : Int → Int} {a : Int} (h : onC tv g a) (w : pdZ g a) : onC tv g ((a + 127) / 128 * 128) := by
  refine h.ch (u := [0]) ?_
  show if (0 : Int) = 0 then pdZ g a ∧ chn tv g [] ((a + 127) / 128 * 128) ((a + 127) / 128 * 128) else _
  rw [if_pos rfl]
  exact ⟨w, rfl⟩
theorem onC.ext {tv : Nat → Int} {g h : Int → Int} {p : Int} (w : onC tv g p) (e : ∀ i, 0 ≤ i → i < p → h i = g i) : onC tv h p := by
  obtain ⟨t, q⟩ := w
  exact ⟨t, chn_ext q e⟩
/-- keys lead to nodes that tell them -/
def eV (tv : Nat → Int) (cf : Cf) (db : Int → Int → Int) (lim : Int → Int) (L : List (Int × Int × Int × Int × Int × Int)) : Prop := ∀ e, e ∈ L → (4 + cf.2.2 ≤ e.2.2.1 ∧ e.2.2.1 < cf.1 - 6) ∧ jnV tv (db e.2.2.1) e.2.2.2.1 e.2.2.2.2.1 ∧ lfT (db e.2.2.1 (e.2.2.2.1 + 16)) ∧ hiN (db e.2.2.1) e.2.2.2.1 = e.1 ∧ loN (db e.2.2.1) e.2.2.2.1 = e.2.1 ∧ (0 ≤ e.2.2.2.1 ∧ onC tv (db e.2.2.1) e.2.2.2.1) ∧ e.2.2.2.1 + e.2.2.2.2.1 ≤ lim e.2.2.1
theorem eV.ap {tv : Nat → Int} {cf : Cf} {db : Int → Int → Int} {lim : Int → Int} {L : List (Int × Int × Int × Int × Int × Int)} {g : Int → Int} {a n m p : Int} (h : eV tv cf db lim L) (w : jnV tv g a n) (hm : 4 + cf.2.2 ≤ m ∧ m < cf.1 - 6) (hp : 0 ≤ p ∧ p + n ≤ lim m) (e : ∀ k, 0 ≤ k → k < n → g (a + k) = db m (p + k)) (hon : onC tv (db m) p) : eV tv cf db lim (apL g a n m p L) := by
  have fl : ∀ {q : Int × Int × Int × Int × Int × Int → Bool} {K : List (Int × Int × Int × Int × Int × Int)}, eV tv cf db lim K → eV tv cf db lim (K.filter q) := fun hk y hy => hk y (List.mem_filter.mp hy).1
  have nn := w.n
  unfold apL
  split
  · exact fl h
  · split
    · exact fl (fl (fl h))
    · split
      · exact fl h
      · split
        · rename_i lf
          intro y hy
          rcases lput_mem hy with q | q
          · rw [q]
            refine ⟨hm, w.sh e, ?_, ?_, ?_, ⟨hp.1, hon⟩, hp.2⟩
            · show lfT (db m (p + 16)); rw [← e 16 (by omega) (by omega)]; exact lf
            · exact (hiN_sh (by omega) e).symm
            · exact (loN_sh w lf e).symm
          · exact h y q.1
        · exact h
/-- serial numbers of what keys lead to -/
def ES (db : Int → Int → Int) (L : List (Int × Int × Int × Int × Int × Int)) (X : Int) : Prop := ∀ e, e ∈ L → srl (db e.2.2.1) e.2.2.2.1 ≤ X
theorem ES.le {db : Int → Int → Int} {L : List (Int × Int × Int × Int × Int × Int)} {X X' : Int} (h : ES db L X) (hX : X ≤ X') : ES db L X' := fun e he => Int.le_trans (h e he) hX
theorem ES.g {db db' : Int → Int → Int} {L : List (Int × Int × Int × Int × Int × Int)} {X : Int} (h : ES db L X) (hd : ∀ e, e ∈ L → ∀ p, e.2.2.2.1 ≤ p → p < e.2.2.2.1 + 16 → db' e.2.2.1 p = db e.2.2.1 p) : ES db' L X := fun e he => by
  rw [srl_ext (g := db e.2.2.1) (n := 16) (by omega) (hd e he)]
  exact h e he
theorem apL_mem {g : Int → Int} {a n m p : Int} {L : List (Int × Int × Int × Int × Int × Int)} {y : Int × Int × Int × Int × Int × Int} (h : y ∈ apL g a n m p L) : y ∈ L ∨ (y.2.2.1 = m ∧ y.2.2.2.1 = p) := by
  unfold apL at h
  split at h
  · exact Or.inl (List.mem_filter.mp h).1
  · split at h
    · unfold lforget at h
      exact Or.inl (List.mem_filter.mp (List.mem_filter.mp (List.mem_filter.mp h).1).1).1
    · split at h
      · exact Or.inl (List.mem_filter.mp h).1
      · split at h
        · rcases lput_mem h with q | q
          · rw [q]; exact Or.inr ⟨rfl, rfl⟩
          · exact Or.inl q.1
        · exact Or.inl h
/-- index, next and the nameless are those of S -/
def RS (tv : Nat → Int) (cf : Cf) (db : Int → Int → Int) (lim : Int → Int) (X : Int) (σ : St) (o : Int) (S : List (Int × Int × Int × (Int → Int)) × Int) (L : List (Int × Int × Int × Int × Int × Int)) : Prop := XI cf σ o L ∧ AM db L = S.1 ∧ gI σ 203 o = S.2 ∧ (orL σ o).Perm (nlL S.1) ∧ 0 ≤ gI σ 218 o ∧ eV tv cf db lim L ∧ ES db L X
def mRs (o : Int) (f : Nat) (o' : Int) : Prop := ((f = 203 ∨ f = 217 ∨ f = 218) ∧ o' = o) ∨ (576 ≤ f ∧ f ≤ 587) ∨ ((385 ≤ f ∧ f ≤ 390) ∧ o' = o) ∨ (f = 324 ∧ o' = o)
theorem RS.fr {tv : Nat → Int} {cf : Cf} {db : Int → Int → Int} {lim : Int → Int} {X : Int} {σ τ : St} {o : Int} {S : List (Int × Int × Int × (Int → Int)) × Int} {L : List (Int × Int × Int × Int × Int × Int)} {M : Nat → Int → Prop} (h : RS tv cf db lim X σ o S L) (f : Fr M σ τ) (n : ∀ f o', mRs o f o' → ¬ M f o') : RS tv cf db lim X τ o S L := by
  obtain ⟨h1, h2, h3, h4, h5, h6⟩ := h
  refine ⟨⟨h1.1.fr f (fun f x a b => n f x (Or.inr (Or.inl ⟨a, b⟩))) (fun f a b => n f o (Or.inr (Or.inr (Or.inl ⟨⟨a, b⟩, rfl⟩)))), h1.2.1, ?_⟩, h2, ?_, ?_, ?_, h6⟩
  · rw [f.a 324 o (n _ _ (Or.inr (Or.inr (Or.inr ⟨rfl, rfl⟩))))]; exact h1.2.2
  · rw [f.i 203 o (n _ _ (Or.inl ⟨Or.inl rfl, rfl⟩))]; exact h3
  · rw [orL_fr f (n _ _ (Or.inl ⟨Or.inr (Or.inl rfl), rfl⟩)) (n _ _ (Or.inl ⟨Or.inr (Or.inr rfl), rfl⟩))]; exact h4
  · rw [f.i 218 o (n _ _ (Or.inl ⟨Or.inr (Or.inr rfl), rfl⟩))]; exact h5
theorem sp_ap1 {tv : Nat → Int} {cf : Cf} {db : Int → Int → Int} {lim : Int → Int} {X : Int} {σ : St} {o r a n m p : Int} {S : List (Int × Int × Int × (Int → Int)) × Int} {L : List (Int × Int × Int × Int × Int × Int)} {g : Int → Int} {Q : St → Prop} (ho : o = 0 ∨ o = 1) (hrk : RK σ) (h : RS tv cf db lim X σ o S L) (hS : okS S) (hg : gA σ 512 r = g) (he : gI σ 513 r = a) (ha : 0 ≤ a) (hl : a + 44 ≤ rowL r) (w : jnV tv g a n) (hm : 4 + cf.2.2 ≤ m ∧ m < cf.1 - 6) (hm0 : 0 ≤ cf.2.2) (hp : 0 ≤ p ∧ p + n ≤ lim m) (e : ∀ k, 0 ≤ k → k < n → g (a + k) = db m (p + k)) (hon : onC tv (db m) p) (hX : srl g a ≤ X)
    (hQ : ∀ τ, RS tv cf db lim X τ o (apS g a n S) (apL g a n m p L) → XQ cf σ τ o L (apL g a n m p L) → Q τ) : wp_Store_apply cf tv o r m p Q σ := by
  obtain ⟨h1, h2, h3, h4, h5, h6⟩ := h
  obtain ⟨s1, s2, s3, s4⟩ := hS
  have nn := w.n
  have oc := orL_len h5
  have pl := h4.length_eq
  have ll : L.length ≤ 880 := by rw [← AM_len db L, h2]; exact s1
  have hw := w
  obtain ⟨w1, w2, w3, w4⟩ := hw
  have srm : Srm S.1 := by rw [← h2]; exact h1.1.srt.am
  refine sp_apply (n := n) ho hrk h1 (by omega) hg he ha hl w1.2.1 ⟨by omega, by omega⟩ ⟨by omega, hm.2⟩ (fun q => by omega) (by omega) ⟨h5, by omega⟩ (fun τ i x n1 n2 n3 n4 => hQ τ ⟨i, ?_, ?_, ?_, n4, h6.1.ap w hm hp e hon, fun y hy => ?_⟩ x)
  · rw [AM_ap (fun k k0 k1 => e k (by omega) k1), h2]; rfl
  · rw [n1, h3]; rfl
  · by_cases q : g (a + 16) = 1
    · exact nl_ap1 srm s4 (by omega) q h4 (n2 q)
    · rw [n3 q]
      show (orL σ o).Perm (nlL (apM g a n S.1))
      unfold nlL
      rw [nf_ap srm q]
      exact h4
  · rcases apL_mem hy with q | ⟨q1, q2⟩
    · exact h6.2 y q
    · rw [q1, q2]
      have : srl g a = srl (db m) p := rL8_sh (fun i i0 i1 => by
        rw [show a + 8 + i = a + (8 + i) by omega, show p + 8 + i = p + (8 + i) by omega]
        exact e _ (by omega) (by omega))
      rw [← this]; exact hX
theorem lS_fl {p : Int × Int × Int × Int × Int × Int → Bool} {cf : Cf} : ∀ {L : List (Int × Int × Int × Int × Int × Int)}, szOK cf L → ∀ m, lS (L.filter p) m ≤ lS L m
  | [], _, m => Int.le_refl _
  | e :: L, h, m => by
    have a := lS_fl (p := p) (L := L) (cf := cf) (fun x hx => h x (List.mem_cons_of_mem _ hx)) m
    have b := (h e List.mem_cons_self).2
    rw [List.filter_cons, lS_cons]
    split
    · rw [lS_cons]; omega
    · split <;> omega
theorem szOK.fl {p : Int × Int × Int × Int × Int × Int → Bool} {cf : Cf} {L : List (Int × Int × Int × Int × Int × Int)} (h : szOK cf L) : szOK cf (L.filter p) := fun x hx => h x (List.mem_filter.mp hx).1
/-- a node adds its length where it lies, at most -/
theorem lS_ap {cf : Cf} {g : Int → Int} {a n m p : Int} {L : List (Int × Int × Int × Int × Int × Int)} (h : szOK cf L) (hn : 0 ≤ n) (k : Int) : lS (apL g a n m p L) k ≤ lS L k + (if k = m then n else 0) := by
  have z : lS L k ≤ lS L k + (if k = m then n else 0) := by split <;> omega
  unfold apL
  split
  · exact Int.le_trans (lS_fl h k) z
  · split
    · exact Int.le_trans (lS_fl (szOK.fl (szOK.fl h)) k) (Int.le_trans (lS_fl (szOK.fl h) k) (Int.le_trans (lS_fl h k) z))
    · split
      · exact Int.le_trans (lS_fl h k) z
      · split
        · unfold lput
          rw [lS_app, lS_cons]
          have key : ∀ {K : List (Int × Int × Int × Int × Int × Int)}, szOK cf K → ∀ κ : Int, lS (K.filter (fun y => decide (kyE y < κ))) k + lS (K.filter (fun y => decide (κ < kyE y))) k ≤ lS K k := by
            intro K hK κ
            induction K with
            | nil => exact Int.le_refl _
            | cons x K ih =>
              have a := ih (fun y hy => hK y (List.mem_cons_of_mem _ hy))
              have b := (hK x List.mem_cons_self).2
              rw [List.filter_cons, List.filter_cons, lS_cons]
              by_cases q : kyE x < κ
              · rw [if_pos (decide_eq_true q), if_neg (by rw [decide_eq_true_iff]; omega), lS_cons]; omega
              · rw [if_neg (by rw [decide_eq_true_iff]; exact q)]
                split
                · rw [lS_cons]; omega
                · split <;> omega
          have := key h (kyE (hiN g a, loN g a, m, p, n, -1))
          show _ + ((if m = k then n else 0) + _) ≤ _
          by_cases q : k = m
          · rw [if_pos q, if_pos q.symm]; omega
          · rw [if_neg q, if_neg (fun w => q w.symm)]; omega
        · exact z
