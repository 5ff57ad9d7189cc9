/-- what a field is: 0 int, 1 long, 2 a knot, 3 boolean, 4 an array of its own, 5 a fixed object, 6 a fixed int -/
def ftT : List (List Nat) := [[], [5, 5, 5, 4, 6, 3, 4, 0, 0, 0, 0, 5, 5, 4, 5, 5, 5, 5, 4, 4, 4, 4, 4, 4, 0, 4, 6, 0, 0, 1], [6, 6, 4, 4, 4, 4, 4, 4, 0], [5, 5, 5, 5, 5, 5, 5, 5, 5, 4, 1, 0, 4, 0, 0, 0, 0, 0, 4, 0, 0, 3, 0, 0, 0, 4, 0, 0, 4, 0, 0, 0, 0, 3, 6, 6, 1], [5, 6, 4, 4, 4, 1, 4, 4, 4, 0, 0, 0, 0, 0, 1, 3, 0, 0], [5, 6, 6, 4, 4, 4], [5, 4, 0, 2, 4, 4, 0, 1, 1, 0, 0, 0, 2, 0], [5, 5, 4, 0, 0], [4, 0, 0], [0, 0, 4, 4, 4, 4, 4, 4, 3, 0, 0, 0], [0, 0, 0, 0, 0, 0], [6, 6, 3, 0, 0, 0, 0, 4, 4, 4, 4, 4, 4, 4, 4, 4, 4, 4, 4, 4, 4, 4, 4, 4, 4, 4, 0, 4, 4, 4, 4, 4, 4, 4, 4, 4, 4, 4, 4, 0, 4, 0, 4, 4, 0, 0, 6, 4, 4]]
def atT : List (List Nat) := [[], [9, 9, 9, 0, 9, 9, 0, 9, 9, 9, 9, 9, 9, 1, 9, 9, 9, 9, 0, 3, 0, 1, 1, 1, 9, 1, 9, 9, 9, 9], [9, 9, 1, 0, 2, 0, 2, 2, 9], [9, 9, 9, 9, 9, 9, 9, 9, 9, 1, 9, 9, 0, 9, 9, 9, 9, 9, 0, 9, 9, 9, 9, 9, 9, 0, 9, 9, 4, 9, 9, 9, 9, 9, 9, 9, 9], [9, 9, 0, 0, 0, 9, 1, 1, 1, 9, 9, 9, 9, 9, 9, 9, 9, 9], [9, 9, 9, 0, 0, 2], [9, 4, 9, 9, 0, 0, 9, 9, 9, 9, 9, 9, 9, 9], [9, 9, 1, 9, 9], [1, 9, 9], [9, 9, 3, 3, 0, 0, 0, 4, 9, 9, 9, 9], [9, 9, 9, 9, 9, 9], [9, 9, 9, 9, 9, 9, 9, 0, 0, 0, 0, 0, 0, 0, 0, 3, 0, 0, 0, 3, 3, 0, 0, 0, 0, 1, 9, 0, 0, 0, 0, 0, 0, 2, 3, 3, 1, 1, 1, 9, 1, 9, 0, 0, 9, 9, 9, 0, 1]]
def nfT : List Nat := [0, 30, 9, 37, 18, 6, 14, 5, 3, 12, 6, 49]
def cnT : List Int := [0, 1, 1, 2, 2, 2, 2, 6, 8, 640, 4, 1]
def ft (f : Nat) : Nat := (ftT.getD (f / 64) []).getD (f % 64) 9
def aty (f : Nat) : Nat := (atT.getD (f / 64) []).getD (f % 64) 9
def nf (K : Nat) : Nat := nfT.getD K 0
def orf (f : Nat) (o : Int) : Nat × Int := match f with
  | 64 => (2, 0)
  | 65 => (3, 0)
  | 66 => (3, 1)
  | 75 => (8, 6)
  | 76 => (8, 7)
  | 78 => (10, 0)
  | 79 => (10, 1)
  | 80 => (10, 2)
  | 81 => (10, 3)
  | 192 => (4, o)
  | 193 => (5, o)
  | 194 => (6, o)
  | 195 => (7, o)
  | 196 => (7, (o + 2))
  | 197 => (7, (o + 4))
  | 198 => (8, o)
  | 199 => (8, (o + 2))
  | 200 => (8, (o + 4))
  | 256 => (2, 0)
  | 320 => (4, o)
  | 384 => (5, o)
  | 448 => (4, (o % 2))
  | 449 => (5, (o % 2))
  | _ => (0, 0)
def rowL (o : Int) : Int := if o < 4 then 320 else if o < 6 then 128 else if o < 7 then 512 else 320
abbrev Cf : Type := Int × Int × Int
def cap (c : Cf) : Int := (c.1 - 18 - c.2.2) * ((c.2.1 - 2) * 128 - 256)
def tbl (c : Cf) : Int := (24 + 4 * (c.1 - 10 - c.2.2) + 7) / 8 * 8
def cst (c : Cf) (y : Int) : Int := 1 + (y + tbl c) / ((c.2.1 - 2) * 128 - 248)
def whl (c : Cf) : Int := cst c (48 * ((c.1 - 10 - c.2.2 - 8) * ((c.2.1 - 2) * 128 - 256) / 232 + 1) + 64)
def cin (c : Cf) (f : Nat) : Int := match f with
  | 68 => (cap c)
  | 90 => c.2.2
  | 128 => c.1
  | 129 => c.2.1
  | 257 => (c.1 - 6)
  | 321 => (4 + c.2.2)
  | 322 => ((c.2.1 - 2) * 128)
  | 226 => (whl c)
  | 227 => (tbl c)
  | 704 => ((c.2.1 - 2) * 128)
  | 705 => (cap c)
  | 750 => c.2.2
  | _ => 0
def aln (c : Cf) (f : Nat) (o : Int) : Int := match f with
  | 130 => (128 * (c.1 * c.2.1))
  | 131 => (c.1 * c.2.1)
  | 132 => (c.1 * c.2.1)
  | 133 => c.1
  | 134 => c.1
  | 135 => c.1
  | 258 => (c.1 - 6)
  | 259 => c.1
  | 260 => c.1
  | 262 => 128
  | 263 => 128
  | 264 => 128
  | 323 => (c.1 - 6)
  | 324 => (c.1 - 6)
  | 325 => (c.1 - 6)
  | 450 => 128
  | 512 => (rowL o)
  | 578 => 9
  | 579 => 9
  | 580 => 9
  | 581 => 9
  | 582 => 9
  | 583 => 9
  | 385 => 320
  | 388 => 640
  | 389 => 640
  | 201 => 128
  | 204 => 128
  | 210 => 8
  | 217 => 16
  | 220 => 320
  | 67 => (c.1 - 6)
  | 70 => 8
  | 77 => 64
  | 82 => 1024
  | 83 => 768
  | 84 => 768
  | 85 => 2048
  | 86 => 128
  | 87 => 200
  | 89 => 1024
  | 711 => 8
  | 712 => 2
  | 713 => 2
  | 714 => 1400
  | 715 => 1400
  | 716 => 1400
  | 717 => 2
  | 718 => 1400
  | 719 => 1400
  | 720 => 1400
  | 721 => 2
  | 722 => 1400
  | 723 => 1400
  | 724 => 1400
  | 725 => 2
  | 726 => 1440
  | 727 => 1440
  | 728 => 1440
  | 729 => 92160
  | 731 => 8
  | 732 => 8
  | 733 => 8
  | 734 => 8
  | 735 => 8
  | 736 => 8
  | 737 => 8
  | 738 => 8
  | 739 => 8
  | 740 => 512
  | 741 => 64
  | 742 => 2048
  | 744 => 200
  | 746 => 10
  | 747 => 10
  | 751 => 4
  | 752 => 15360
  | _ => 0
/-! the world: what lies in the heap -/
abbrev clL : List vw_C := [(RX1, TX1, 30), (RX4, TX4, 9), (RX5, TX5, 37), (RX6, TX6, 18), (RX7, TX7, 6), (RX8, TX8, 14), (RX10, TX10, 5), (RX2, TX2, 3), (RX9, TX9, 12), (RX3, TX3, 6), (RX11, TX11, 49)]
abbrev Wp : Type := va_G × (Nat → Int → Nat) × (ClassId × ClassId × ClassId × ClassId × ClassId) × Nat × Cf × (Nat × (Nat → Int)) × List (Nat × Int)
abbrev wD (w : Wp) : va_G := w.1
abbrev wad (w : Wp) : Nat → Int → Nat := w.2.1
abbrev wcI (w : Wp) : ClassId := w.2.2.1.1
abbrev wcB (w : Wp) : ClassId := w.2.2.1.2.1
abbrev wcZ (w : Wp) : ClassId := w.2.2.1.2.2.1
abbrev wcJ (w : Wp) : ClassId := w.2.2.1.2.2.2.1
abbrev wcK (w : Wp) : ClassId := w.2.2.1.2.2.2.2
abbrev wb0 (w : Wp) : Nat := w.2.2.2.1
abbrev wc (w : Wp) : Cf := w.2.2.2.2.1
abbrev wtu (w : Wp) : Nat := w.2.2.2.2.2.1.1
abbrev wtv (w : Wp) : Nat → Int := w.2.2.2.2.2.1.2
abbrev wL (w : Wp) : List (Nat × Int) := w.2.2.2.2.2.2
def wA (w : Wp) : Nat → Prop := fun q => wb0 w ≤ q
def vl (w : Wp) (K : Nat) (o : Int) : Prop := (K, o) ∈ wL w
abbrev tyL (w : Wp) : List (ClassId × FieldType) := [(wcI w, .int), (wcB w, .byte), (wcZ w, .boolean), (wcJ w, .long), (wcK w, .object "NandHouse$Knot")]
def knO (w : Wp) (z : Int) : Option Nat := if z < 0 then none else some (wad w 9 z)
def fvl (w : Wp) (σ : St) (f : Nat) (o : Int) : Value := match ft f with
  | 0 => .int (oI (gI σ f o))
  | 1 => .long (oL (gI σ f o))
  | 2 => va_rf (knO w (gI σ f o))
  | 3 => .int (oI (gI σ f o))
  | 4 => .ref (wad w f o)
  | 5 => .ref (wad w (orf f o).1 (orf f o).2)
  | _ => .int (oI (cin (wc w) f))
def fldL (w : Wp) (σ : St) (K : Nat) (o : Int) : List Value := (List.range (nf K)).map (fun k => fvl w σ (64 * K + k) o)
def arE (w : Wp) (t : Nat) (n : Int) (g : Int → Int) : va_E := match t with
  | 0 => .inl (wcI w, n.toNat, .inl (fun j => oI (g j)))
  | 1 => .inl (wcB w, n.toNat, .inl (fun j => oI (g j)))
  | 2 => .inl (wcZ w, n.toNat, .inl (fun j => oI (g j)))
  | 3 => .inl (wcJ w, n.toNat, .inr (.inl (fun j => oL (g j))))
  | _ => .inl (wcK w, n.toNat, .inr (.inr (.inr (.inr (fun j => knO w (g j))))))
def ent (w : Wp) (σ : St) (K : Nat) (o : Int) : va_E := if K < 64 then .inr (K - 1, fldL w σ K o) else arE w (aty K) (aln (wc w) K o) (gA σ K o)
def rgF (t : Nat) (x : Int) : Prop := match t with
  | 0 => rI x
  | 1 => rJ x
  | 2 => rK x
  | 3 => rZ x
  | _ => True
def rgA (t : Nat) (x : Int) : Prop := match t with
  | 0 => rI x
  | 1 => rB x
  | 2 => rZ x
  | 3 => rJ x
  | 4 => rK x
  | _ => True
/-- every number is in its range -/
def RK (σ : St) : Prop := (∀ f o, rgF (ft f) (gI σ f o)) ∧ ∀ f o i, rgA (aty f) (gA σ f o i)
def wsL (w : Wp) (σ : St) : va_W := (wL w).map (fun t => (wad w t.1 t.2, ent w σ t.1 t.2))
def Wo (w : Wp) (σ : St) (H : Heap) : Prop := va_P (wD w) clL (wsL w σ) H ∧ va_D (wA w) (wsL w σ) ∧ RK σ
theorem Wo.r {w : Wp} {σ : St} {H : Heap} (h : Wo w σ H) : RK σ := h.2.2
theorem RK.i {σ : St} (h : RK σ) (f : Nat) (o : Int) (hf : ft f = 0) : rI (gI σ f o) := by have := h.1 f o; rw [hf] at this; exact this
theorem RK.j {σ : St} (h : RK σ) (f : Nat) (o : Int) (hf : ft f = 1) : rJ (gI σ f o) := by have := h.1 f o; rw [hf] at this; exact this
theorem RK.k {σ : St} (h : RK σ) (f : Nat) (o : Int) (hf : ft f = 2) : rK (gI σ f o) := by have := h.1 f o; rw [hf] at this; exact this
theorem RK.z {σ : St} (h : RK σ) (f : Nat) (o : Int) (hf : ft f = 3) : rZ (gI σ f o) := by have := h.1 f o; rw [hf] at this; exact this
theorem RK.ai {σ : St} (h : RK σ) (f : Nat) (o i : Int) (hf : aty f = 0) : rI (gA σ f o i) := by have := h.2 f o i; rw [hf] at this; exact this
theorem RK.ab {σ : St} (h : RK σ) (f : Nat) (o i : Int) (hf : aty f = 1) : rB (gA σ f o i) := by have := h.2 f o i; rw [hf] at this; exact this
theorem RK.az {σ : St} (h : RK σ) (f : Nat) (o i : Int) (hf : aty f = 2) : rZ (gA σ f o i) := by have := h.2 f o i; rw [hf] at this; exact this
theorem RK.aj {σ : St} (h : RK σ) (f : Nat) (o i : Int) (hf : aty f = 3) : rJ (gA σ f o i) := by have := h.2 f o i; rw [hf] at this; exact this
theorem RK.ak {σ : St} (h : RK σ) (f : Nat) (o i : Int) (hf : aty f = 4) : rK (gA σ f o i) := by have := h.2 f o i; rw [hf] at this; exact this
theorem RK.sI {σ : St} (h : RK σ) {f : Nat} {o v : Int} (hv : rgF (ft f) v) : RK (sI σ f o v) := by
  refine ⟨fun f' o' => ?_, h.2⟩
  rw [gI_sI]
  split
  · rename_i q; rw [q.1]; exact hv
  · exact h.1 f' o'
theorem RK.sA {σ : St} (h : RK σ) {f : Nat} {o i v : Int} (hv : rgA (aty f) v) : RK (sA σ f o i v) := by
  refine ⟨h.1, fun f' o' i' => ?_⟩
  rw [gA_sA]
  split
  · rename_i q; rw [q.1]; exact hv
  · exact h.2 f' o' i'
theorem RK.sAr {σ : St} (h : RK σ) {f : Nat} {o : Int} {g : Int → Int} (hv : ∀ i, rgA (aty f) (g i)) : RK (sAr σ f o g) := by
  refine ⟨h.1, fun f' o' i' => ?_⟩
  rw [gA_sAr]
  split
  · rename_i q; rw [q.1]; exact hv i'
  · exact h.2 f' o' i'
theorem nf_le : ∀ K, nf K ≤ 49 := by
  intro K
  unfold nf
  by_cases h : K < 12
  · have : ∀ K, K < 12 → nfT.getD K 0 ≤ 49 := by decide
    exact this K h
  · have : nfT.length ≤ K := by show 12 ≤ K; omega
    rw [List.getD_eq_getElem?_getD, List.getElem?_eq_none this]; decide
theorem ent_sI {w : Wp} {σ : St} {K k : Nat} {o v : Int} (hk : k < 64) {K' : Nat} {o' : Int} (hne : ¬ (K' = K ∧ o' = o)) : ent w (sI σ (64 * K + k) o v) K' o' = ent w σ K' o' := by
  unfold ent
  split
  · unfold fldL
    congr 2
    refine List.map_congr_left fun k' hk' => ?_
    have h1 : k' < nf K' := List.mem_range.mp hk'
    have h2 := nf_le K'
    have h3 : gI (sI σ (64 * K + k) o v) (64 * K' + k') o' = gI σ (64 * K' + k') o' := by
      rw [gI_sI, if_neg]
      intro q
      exact hne ⟨by omega, q.2⟩
    unfold fvl
    rw [h3]
  · rfl
theorem ent_sA {w : Wp} {σ : St} {f : Nat} {o i v : Int} {K' : Nat} {o' : Int} (hne : ¬ (K' = f ∧ o' = o)) : ent w (sA σ f o i v) K' o' = ent w σ K' o' := by
  unfold ent
  split
  · rfl
  · have : gA (sA σ f o i v) K' o' = gA σ K' o' := by
      funext j; rw [gA_sA, if_neg]; intro q; exact hne ⟨q.1, q.2.1⟩
    rw [this]
theorem ent_sAr {w : Wp} {σ : St} {f : Nat} {o : Int} {g : Int → Int} {K' : Nat} {o' : Int} (hne : ¬ (K' = f ∧ o' = o)) : ent w (sAr σ f o g) K' o' = ent w σ K' o' := by
  unfold ent
  split
  · rfl
  · have : gA (sAr σ f o g) K' o' = gA σ K' o' := by
      funext j; rw [gA_sAr, if_neg]; intro q; exact hne ⟨q.1, q.2⟩
    rw [this]
theorem wsL_at {w : Wp} {σ : St} {K : Nat} {o : Int} (h : vl w K o) : ∃ k : Nat, (wL w)[k]? = some (K, o) ∧ (wsL w σ)[k]? = some (wad w K o, ent w σ K o) := by
  obtain ⟨k, hk⟩ := List.getElem?_of_mem h
  exact ⟨k, hk, by unfold wsL; rw [List.getElem?_map, hk]; rfl⟩
theorem wsL_set {w : Wp} {σ σ' : St} {K : Nat} {o : Int} {k : Nat} (hD : va_D (wA w) (wsL w σ)) (hk : (wL w)[k]? = some (K, o)) (he : ∀ K' o', ¬ (K' = K ∧ o' = o) → ent w σ' K' o' = ent w σ K' o') : (wsL w σ).set k (wad w K o, ent w σ' K o) = wsL w σ' := by
  refine List.ext_getElem? fun j => ?_
  unfold wsL
  by_cases hj : j = k
  · subst hj
    rw [List.getElem?_set_self (by rw [List.length_map]; exact (List.getElem?_eq_some_iff.mp hk).1), List.getElem?_map, hk]
    rfl
  · rw [List.getElem?_set_ne (Ne.symm hj), List.getElem?_map, List.getElem?_map]
    cases h : (wL w)[j]? with
    | none => rfl
    | some t =>
      show some (wad w t.1 t.2, ent w σ t.1 t.2) = some (wad w t.1 t.2, ent w σ' t.1 t.2)
      rw [he t.1 t.2]
      intro q
      have e1 : (wsL w σ)[j]? = some (wad w t.1 t.2, ent w σ t.1 t.2) := by unfold wsL; rw [List.getElem?_map, h]; rfl
      have e2 : (wsL w σ)[k]? = some (wad w K o, ent w σ K o) := by unfold wsL; rw [List.getElem?_map, hk]; rfl
      exact hj (hD.1 j k _ _ e1 e2 (by show wad w t.1 t.2 = wad w K o; rw [q.1, q.2]))
theorem wsL_D {w : Wp} {σ σ' : St} (h : va_D (wA w) (wsL w σ)) : va_D (wA w) (wsL w σ') := by
  have key : ∀ (k : Nat) (q : Nat × va_E), (wsL w σ')[k]? = some q → ∃ e0, (wsL w σ)[k]? = some (q.1, e0) := by
    intro k q hk
    unfold wsL at hk ⊢
    rw [List.getElem?_map] at hk ⊢
    cases hh : (wL w)[k]? with
    | none => rw [hh] at hk; cases hk
    | some t => rw [hh] at hk; cases hk; exact ⟨_, rfl⟩
  refine ⟨fun i j x y hi hj hxy => ?_, fun k q hk => ?_⟩
  · obtain ⟨e1, h1⟩ := key i x hi
    obtain ⟨e2, h2⟩ := key j y hj
    exact h.1 i j _ _ h1 h2 hxy
  · obtain ⟨e1, h1⟩ := key k q hk
    exact h.2 k (q.1, e1) h1
theorem fld_at {w : Wp} {σ : St} {K k f : Nat} {o : Int} {v : Value} (hk : k < nf K) (hf1 : 64 * K + k = f) (hf : fvl w σ f o = v) : (fldL w σ K o)[k]? = some v := by
  unfold fldL
  rw [List.getElem?_map, List.getElem?_range hk]
  show some (fvl w σ (64 * K + k) o) = _
  rw [hf1, hf]
theorem fld_set {w : Wp} {σ : St} {K k f : Nat} {o v : Int} {x : Value} (hk : k < nf K) (hf1 : 64 * K + k = f) (hx : fvl w (sI σ f o v) f o = x) : (fldL w σ K o).set k x = fldL w (sI σ f o v) K o := by
  subst hf1
  have hl : (fldL w σ K o).length = nf K := by unfold fldL; rw [List.length_map, List.length_range]
  refine List.ext_getElem? fun j => ?_
  by_cases hj : j = k
  · subst hj
    rw [List.getElem?_set_self (by rw [hl]; exact hk)]
    exact (fld_at hk rfl hx).symm
  · rw [List.getElem?_set_ne (Ne.symm hj)]
    by_cases hn : j < nf K
    · rw [fld_at hn rfl rfl, fld_at hn rfl rfl]
      have : gI (sI σ (64 * K + k) o v) (64 * K + j) o = gI σ (64 * K + j) o := by
        rw [gI_sI, if_neg]; intro q; omega
      unfold fvl
      rw [this]
    · rw [List.getElem?_eq_none (by rw [hl]; omega), List.getElem?_eq_none (by unfold fldL; rw [List.length_map, List.length_range]; omega)]
def cn (K : Nat) : Int := cnT.getD (if K < 64 then K else K / 64) 0
/-- a thing of the house (not of the model) that lies there -/
def hvl (K : Nat) (o : Int) : Prop := (0 ≤ o ∧ o < cn K) ∧ (if K < 64 then decide (1 ≤ K ∧ K ≤ 10) else decide (ft K = 4 ∧ K < 704)) = true
def CfOK (c : Cf) : Prop := (24 ≤ c.1 ∧ c.1 ≤ 64) ∧ (8 ≤ c.2.1 ∧ c.2.1 ≤ 32) ∧ 0 ≤ c.2.2 ∧ c.2.2 ≤ 4
def nestW : List Cond := [.methodLinkNest "NandHouse" 53 ⟨"NandHouse$Inode", "<init>", "()V"⟩ "NandHouse",
  .methodLinkNest "NandHouse$Store" 89 ⟨"NandHouse", "eights", "(I)I"⟩ "NandHouse",
  .methodLinkNest "NandHouse$Index" 28 ⟨"NandHouse$Knot", "<init>", "()V"⟩ "NandHouse",
  .fieldLinkNest "NandHouse$Store" 576 "NandHouse$Index" "oldNumber" "[I" "NandHouse",
  .fieldLinkNest "NandHouse$Store" 579 "NandHouse$Index" "oldSize" "[I" "NandHouse",
  .fieldLinkNest "NandHouse$Store" 573 "NandHouse$Index" "olds" "I" "NandHouse",
  .methodLinkNest "NandHouse$Blocks" 57 ⟨"NandHouse", "putInt", "([BII)V"⟩ "NandHouse",
  .methodLinkNest "NandHouse$Blocks" 61 ⟨"NandHouse", "check", "(I[BII)I"⟩ "NandHouse",
  .methodLinkNest "NandHouse$Row" 28 ⟨"NandHouse", "putInt", "([BII)V"⟩ "NandHouse",
  .methodLinkNest "NandHouse$Row" 33 ⟨"NandHouse", "putLong", "([BIJ)V"⟩ "NandHouse",
  .methodLinkNest "NandHouse$Row" 37 ⟨"NandHouse", "getInt", "([BI)I"⟩ "NandHouse",
  .methodLinkNest "NandHouse$Row" 49 ⟨"NandHouse", "check", "(I[BII)I"⟩ "NandHouse",
  .methodLinkNest "NandHouse$Blocks" 74 ⟨"NandHouse", "putLong", "([BIJ)V"⟩ "NandHouse",
  .methodLinkNest "NandHouse$Store" 460 ⟨"NandHouse", "keyOf", "(II)J"⟩ "NandHouse",
  .methodLinkNest "NandHouse$Index" 183 ⟨"NandHouse", "eights", "(I)I"⟩ "NandHouse",
  .methodLinkNest "NandHouse$Row" 41 ⟨"NandHouse", "getLong", "([BI)J"⟩ "NandHouse",
  .methodLinkNest "NandHouse$Store" 465 ⟨"NandHouse", "hash", "(J)J"⟩ "NandHouse",
  .methodLinkNest "NandHouse$Blocks" 86 ⟨"NandHouse", "getInt", "([BI)I"⟩ "NandHouse",
  .methodLinkNest "NandHouse$Blocks" 93 ⟨"NandHouse", "getLong", "([BI)J"⟩ "NandHouse",
  .methodLinkNest "NandHouse$Blocks" 110 ⟨"NandHouse", "isIn", "(III)Z"⟩ "NandHouse"]
/-- what the tables and the statics say, at a state -/
def Tb (w : Wp) (s : State) : Prop := va_K (wD w) clL (tyL w) s ∧ (∀ x ∈ nestW, va_Nw x s) ∧ va_Z "NandHouse" "TURNS" "[I" (.ref (wtu w)) (wA w) s s.heap ∧ va_T .int (wtu w) 256 (fun j => .int (oI (wtv w j))) (wA w) s s.heap ∧ CfOK (wc w) ∧ ∀ j, rI (wtv w j)
/-- all of the house lies there -/
def Hvl (w : Wp) : Prop := ∀ K o, hvl K o → vl w K o
theorem Hvl.hv {w : Wp} (h : Hvl w) (K : Nat) {o : Int} (hk : (if K < 64 then decide (1 ≤ K ∧ K ≤ 10) else decide (ft K = 4 ∧ K < 704)) = true) (ho : 0 ≤ o ∧ o < cn K) : vl w K o := h K o ⟨ho, hk⟩
theorem Tb.tv {w : Wp} {s : State} (h : Tb w s) (j : Nat) : rI (wtv w j) := h.2.2.2.2.2 j
theorem Tb.c {w : Wp} {s : State} (h : Tb w s) : CfOK (wc w) := h.2.2.2.2.1
theorem nest_on : ∀ x ∈ nestW, x.onTables = true := by decide +kernel
theorem nest_warm {s U : State} (hW : s.WarmedH U.vm) (h : ∀ x ∈ nestW, va_Nw x s) : ∀ x ∈ nestW, va_Nw x U := by
  intro x hx
  have h0 := h x hx
  unfold nestW at hx
  simp only [List.mem_cons, List.not_mem_nil, or_false] at hx
  rcases hx with rfl | rfl | rfl | rfl | rfl | rfl | rfl | rfl | rfl | rfl | rfl | rfl | rfl | rfl | rfl | rfl | rfl | rfl | rfl | rfl <;> first | exact va_Nw.warmM hW h0 | exact va_Nw.warmF hW h0
theorem Tb.warm {w : Wp} {s U : State} {H : Heap} {locs : List Loc} (h : Tb w s) (hW : s.WarmedH U.vm) (hU : U.heap = H) (hS : va_S (wA w) s.heap H locs) : Tb w U := by
  obtain ⟨h1, h2, h3, h4, h5⟩ := h
  refine ⟨va_K.moved hW.alike h1, nest_warm hW h2, ?_, ?_, h5⟩
  · exact va_Z.moved hW.alike (h3.kept (fun a ha hA => by rw [hU]; exact hS.2.1 a ha hA))
  · exact va_T.moved hW.alike (h4.kept (fun a ha hA => by rw [hU]; exact hS.2.1 a ha hA))
theorem Tb.blind {w : Wp} {U : State} {g : JFrame} {mk : MethodId} {a : Array Value} (h : Tb w U) : Tb w (U.calling g mk a) := by
  obtain ⟨h1, h2, h3, h4, h5⟩ := h
  exact ⟨va_K.moved (u := U) (U := U.calling g mk a) (Vm.Alike.refl U.vm) h1, fun x hx => va_Nw.same (nest_on x hx) (u := U) (U := U.calling g mk a) rfl (h2 x hx), va_Z.moved (u := U) (U := U.calling g mk a) (Vm.Alike.refl U.vm) h3, va_T.moved (u := U) (U := U.calling g mk a) (Vm.Alike.refl U.vm) h4, h5⟩
def PcW (w : Wp) (σ : St) (As : List Value) : Array Value → State → Prop := va_Pc As (fun U => Wo w σ U.heap ∧ Tb w U)
theorem PcW.blind (w : Wp) (σ : St) (As : List Value) : FrameBlind (PcW w σ As) := fun _ _ _ _ q => ⟨q.1, q.2.1, q.2.2.blind⟩
abbrev QcI (w : Wp) (Qp : Int → St → Prop) : Array Value → State → Outcome → State → Prop := va_Qi (fun (r : Int32) (σ' : St) => ∃ z, r = oI z ∧ rI z ∧ Qp z σ') (fun σ' (t : State) => Wo w σ' t.heap) (wA w)
abbrev QcZ (w : Wp) (Qp : Int → St → Prop) : Array Value → State → Outcome → State → Prop := va_Qi (fun (r : Int32) (σ' : St) => ∃ z, r = oI z ∧ rZ z ∧ Qp z σ') (fun σ' (t : State) => Wo w σ' t.heap) (wA w)
abbrev QcB (w : Wp) (Qp : Int → St → Prop) : Array Value → State → Outcome → State → Prop := va_Qi (fun (r : Int32) (σ' : St) => ∃ z, r = oI z ∧ rB z ∧ Qp z σ') (fun σ' (t : State) => Wo w σ' t.heap) (wA w)
abbrev QcJ (w : Wp) (Qp : Int → St → Prop) : Array Value → State → Outcome → State → Prop := va_Ql (fun (r : Int64) (σ' : St) => ∃ z, r = oL z ∧ rJ z ∧ Qp z σ') (fun σ' (t : State) => Wo w σ' t.heap) (wA w)
abbrev QcV (w : Wp) (Qp : St → Prop) : Array Value → State → Outcome → State → Prop := va_Qv (fun (σ' : St) => Qp σ') (fun σ' (t : State) => Wo w σ' t.heap) (wA w)
abbrev QcK (w : Wp) (Qp : Int → St → Prop) : Array Value → State → Outcome → State → Prop := va_Qq (fun (r : Option Nat) (σ' : St) => ∃ z, r = knO w z ∧ rK z ∧ Qp z σ') (fun σ' (t : State) => Wo w σ' t.heap) (wA w)
abbrev QcR (w : Wp) (K : Nat) (o : Int) (Qp : St → Prop) : Array Value → State → Outcome → State → Prop := va_Qr (fun (σ' : St) => Qp σ') (fun σ' a (t : State) => a = wad w K o ∧ Wo w σ' t.heap) (wA w)
section
variable {p : Program} {l : Launch} {e : Env} {R : Room} {s : State} {m : MethodId} {args : Array Value} {below : List Frame} {meth : Method} {c : Code} {H : Heap} {locs : List Loc} {cells slots : Nat} {Q : State → Prop} {cc : ByteArray} {nL : Nat} {own : String} {pc : Nat} {ls : Array Slot} {rest : List Value} {w : Wp} {σ : St}
theorem wg (X : CallFix p m c cc nL s args lw_all own) (hT : Tb w s) (hW : Wo w σ H) (K k f : Nat) {idx : Nat} {o : Int} {C : String} {T : u_T} {N : Nat} {v : Value} (hv : vl w K o) (hf1 : 64 * K + k = f) (hc : clL[K - 1]? = some (C, T, N)) (hK : K < 64) (hN : nf K = N) (hk : k < N) (hin : ∀ w ∈ u_ws C T N, w ∈ lw_all) (hl : Cond.fieldLink own idx (T k).1 (T k).2.1 (T k).2.2.1 ∈ lw_all) (hf : fvl w σ f o = v) (hdg : decode cc pc = .ok (.getfield idx, 3)) (kk : W p l e R s m args below meth c H locs cells slots Q (F0 m (pc + 3) ls (v :: rest))) : W p l e R s m args below meth c H locs cells slots Q (F0 m pc ls (.ref (wad w K o) :: rest)) := by
  obtain ⟨hx, hb, hml, hown, hts⟩ := X
  obtain ⟨q, hq, he⟩ := wsL_at (σ := σ) hv
  have he : (wsL w σ)[q]? = some (wad w K o, .inr (K - 1, fldL w σ K o)) := by rw [he]; unfold ent; rw [if_pos hK]
  subst hN
  exact va_get (D := wD w) (cl := clL) (tys := tyL w) (ws := wsL w σ) (ci := K - 1) (C := C) (T := T) (N := nf K) hx hb hts hin hown hT.1 hW.1 q he hc k hk (hts _ hl) (fun _ h => h) (fld_at hk hf1 hf) hdg kk
theorem wgN (X : CallFix p m c cc nL s args lw_all own) (hT : Tb w s) (hW : Wo w σ H) (K k f : Nat) {idx : Nat} {o : Int} {C : String} {T : u_T} {N : Nat} {v : Value} (hv : vl w K o) (hf1 : 64 * K + k = f) (hc : clL[K - 1]? = some (C, T, N)) (hK : K < 64) (hN : nf K = N) (hk : k < N) (hin : ∀ w ∈ u_ws C T N, w ∈ lw_all) (j : Nat) (hl : nestW[j]? = some (Cond.fieldLinkNest own idx (T k).1 (T k).2.1 (T k).2.2.1 "NandHouse")) (hf : fvl w σ f o = v) (hdg : decode cc pc = .ok (.getfield idx, 3)) (kk : W p l e R s m args below meth c H locs cells slots Q (F0 m (pc + 3) ls (v :: rest))) : W p l e R s m args below meth c H locs cells slots Q (F0 m pc ls (.ref (wad w K o) :: rest)) := by
  obtain ⟨hx, hb, hml, hown, hts⟩ := X
  obtain ⟨q, hq, he⟩ := wsL_at (σ := σ) hv
  have he : (wsL w σ)[q]? = some (wad w K o, .inr (K - 1, fldL w σ K o)) := by rw [he]; unfold ent; rw [if_pos hK]
  subst hN
  exact va_getN (D := wD w) (cl := clL) (tys := tyL w) (ws := wsL w σ) (ci := K - 1) (C := C) (T := T) (N := nf K) hx hb hts hin hown hT.1 hW.1 q he hc k hk (va_Nw.use rfl (hT.2.1 _ (List.mem_of_getElem? hl))) (fun _ h => h) (fld_at hk hf1 hf) hdg kk
theorem wput (X : CallFix p m c cc nL s args lw_all own) (hT : Tb w s) (hW : Wo w σ H) (hS : va_S (wA w) s.heap H locs) (K k f : Nat) {idx : Nat} {o z : Int} {C : String} {T : u_T} {N : Nat} {v : Value} {ty : FieldType} (hv : vl w K o) (hf1 : 64 * K + k = f) (hc : clL[K - 1]? = some (C, T, N)) (hK : K < 64) (hN : nf K = N) (hk : k < N) (hin : ∀ w ∈ u_ws C T N, w ∈ lw_all) (ty0 : Nat → FieldType) (hty : ∀ k, k < N → parseFieldDescriptor (T k).2.2.1 = some (ty0 k)) (hnm : ∀ a, a < N → ∀ b, b < N → a ≠ b → (T a).2.1 ≠ (T b).2.1) (hl : Cond.fieldLink own idx (T k).1 (T k).2.1 (T k).2.2.1 ∈ lw_all) (hfin : (T k).2.2.2 = false) (hty2 : ty0 k = ty) (hr : rgF (ft f) z) (hx : fvl w (sI σ f o z) f o = v) (hn : narrow ty v = v) (hft : fits ty v = true) (hdg : decode cc pc = .ok (.putfield idx, 3)) (kk : ∀ (H1 : Heap) (locs1 : List Loc), Wo w (sI σ f o z) H1 → va_S (wA w) s.heap H1 locs1 → W p l e R s m args below meth c H1 locs1 cells slots Q (F0 m (pc + 3) ls rest)) : W p l e R s m args below meth c H locs cells slots Q (F0 m pc ls (v :: .ref (wad w K o) :: rest)) := by
  obtain ⟨hxx, hb, hml, hown, hts⟩ := X
  obtain ⟨q, hq, he⟩ := wsL_at (σ := σ) hv
  have he : (wsL w σ)[q]? = some (wad w K o, .inr (K - 1, fldL w σ K o)) := by rw [he]; unfold ent; rw [if_pos hK]
  subst hN
  have hk64 : k < 64 := Nat.lt_of_lt_of_le hk (Nat.le_trans (nf_le K) (by decide))
  have hset : (wsL w σ).set q (wad w K o, .inr (K - 1, (fldL w σ K o).set k v)) = wsL w (sI σ f o z) := by
    rw [fld_set hk hf1 hx]
    have := wsL_set (σ := σ) (σ' := sI σ f o z) (K := K) (o := o) hW.2.1 hq (fun K' o' hne => by rw [← hf1]; exact ent_sI hk64 hne)
    rw [← this]
    congr 2
    unfold ent
    rw [if_pos hK]
  refine va_put (D := wD w) (cl := clL) (tys := tyL w) (ws := wsL w σ) (ci := K - 1) (C := C) (T := T) (N := nf K) (v := v) (ty := ty) hxx hb hts hin ty0 hty hnm hown hT.1 hW.1 hW.2.1 hS q he hc k hk (hts _ hl) (fun _ h => h) hfin (by rw [hty k hk, hty2]) hn hft (by unfold fldL; rw [List.length_map, List.length_range]; exact hk) hdg (fun H1 locs1 h1 h2 h3 => ?_)
  rw [hset] at h1 h2
  exact kk H1 locs1 ⟨h1, h2, hW.2.2.sI hr⟩ h3
end
