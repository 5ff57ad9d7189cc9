/-! on: what was found, without the nameless, in memory -/
theorem eV.ino {tv : Nat → Int} {cf : Cf} {db : Int → Int → Int} {lim : Int → Int} {L : List (Int × Int × Int × Int × Int × Int)} (h : eV tv cf db lim L) : ino0 (AM db L) := by
  intro x hx h4
  obtain ⟨e, e1, e2⟩ := List.mem_map.mp hx
  have v := h e e1
  rw [← e2] at h4 ⊢
  have a : e.1 % 4 = 0 := h4
  show e.2.1 = 0
  rw [← v.2.2.2.1] at a
  have t1 : db e.2.2.1 (e.2.2.2.1 + 16) = 1 := by
    apply Classical.byContradiction
    intro w
    exact hiT4 (x := rI4 (db e.2.2.1) (e.2.2.2.1 + 24)) w a
  rw [← v.2.2.2.2.1]
  unfold loN
  rw [if_pos t1]
theorem oSm_z {g s : Int → Int} {n : Int} : ∀ k : Nat, (∀ i : Int, 0 ≤ i → i < k → g i ≠ n) → oSm g s n k = 0
  | 0, _ => rfl
  | k + 1, h => by
    show oSm g s n k + (if g k = n then s k else 0) = 0
    rw [oSm_z k (fun i i0 i1 => h i i0 (by omega)), if_neg (h k (by omega) (by omega))]; rfl
/-- what a memory without heads that write needs -/
theorem SA.mk0 {tv : Nat → Int} {cf : Cf} {σ : St} {dk dk1 : Int → Int} {db : Int → Int → Int} {L : List (Int × Int × Int × Int × Int × Int)} {I : Int → Prop} {tn : Int} (hc : CfOK cf) (hrk : RK σ) (hw : noW σ 0) (hX : XI cf σ 0 L) (hlen : L.length ≤ 885) (hV : eV tv cf db (lmF dk1) L) (hIr : ∀ m, I m → 4 + cf.2.2 ≤ m ∧ m < cf.1 - 6) (hIt : I tn) (hlv : ∀ m, 4 + cf.2.2 ≤ m → m < cf.1 - 6 → gA σ 324 0 m = lS L m + kS σ (krt σ 0) m + oS σ 0 m + (if m = tn then tbl cf else 0)) (hlow : ∀ m, 0 ≤ m → m < 4 + cf.2.2 → gA σ 324 0 m = 0)
    (hu : ∀ m, 4 + cf.2.2 ≤ m → m < cf.1 - 6 → (gA σ 324 0 m ≤ 0 → gA σ 323 0 m = 0 ∧ dk m = -1) ∧ (¬ gA σ 324 0 m ≤ 0 → gA σ 323 0 m = 1 ∧ dk m = dk1 m ∧ gA σ 324 0 m ≤ lmF dk1 m ∧ CN tv (db m) (lmF dk1 m) 0))
    (hk : ∀ x, x ∈ krt σ 0 → gI σ 584 x = 0 → knE tv cf db (lmF dk1) σ x ∧ I (gI σ 585 x)) (ho : ∀ i, 0 ≤ i → i < gI σ 390 0 → I (gA σ 388 0 i) ∧ 32 ≤ gA σ 389 0 i ∧ gA σ 389 0 i ≤ 256) (hx : ∀ m, 0 ≤ m → m < cf.1 - 6 → (I m → gA σ 325 0 m = 1 ∧ lS L m = 0) ∧ (¬ I m → gA σ 325 0 m = 0)) (ht : gI σ 214 0 = tn ∧ gI σ 216 0 = tbl cf) : SA tv cf σ dk db L := by
  have hR : 0 ≤ cf.2.2 ∧ cf.2.2 ≤ 4 := hc.2.2
  have hBl : 24 ≤ cf.1 ∧ cf.1 ≤ 64 := hc.1
  obtain ⟨w0, w2, w4⟩ := hw
  rw [Int.zero_add] at w2 w4
  have wn : ∀ w, isW 0 w → gI σ 451 w = -1 := fun w q => by
    rcases q with q | q | q
    · rw [q]; exact w0
    · rw [q]; exact w2
    · rw [q]; exact w4
  have ee : ∀ m, 0 ≤ m → eE σ 0 dk m = lmF dk m := fun m m0 => eE_no (fun w q => by rw [wn w q]; omega)
  have kn0 : ∀ m, 0 ≤ kS σ (krt σ 0) m := fun m => (kS_r (fun x hx hf => by have := (hk x hx hf).1.sz (krt_cnt hX.1 x hx); omega)).1
  have on0 : ∀ m, 0 ≤ oS σ 0 m := fun m => oSm_nn _ (fun i i0 i1 => by have := (ho i i0 (by omega)).2; omega)
  have ln0 : ∀ m, 0 ≤ lS L m := fun m => (lS_r hX.2.1 m).1
  have tb0 : 0 < tbl cf := by unfold tbl; omega
  have used : ∀ m, 4 + cf.2.2 ≤ m → m < cf.1 - 6 → ¬ gA σ 324 0 m ≤ 0 → lmF dk m = lmF dk1 m := fun m m0 m1 q => by
    unfold lmF; rw [((hu m m0 m1).2 q).2.1]
  have lpos : ∀ m, 4 + cf.2.2 ≤ m → m < cf.1 - 6 → (0 < lS L m ∨ 0 < kS σ (krt σ 0) m ∨ 0 < oS σ 0 m ∨ m = tn) → ¬ gA σ 324 0 m ≤ 0 := fun m m0 m1 q => by
    have a := hlv m m0 m1
    have b := kn0 m
    have c := on0 m
    have d := ln0 m
    by_cases e : m = tn
    · rw [if_pos e] at a; omega
    · rw [if_neg e] at a; omega
  have nh : ∀ m, 0 ≤ m → ¬ hld σ 0 m := fun m m0 ⟨w, q1, q2⟩ => by rw [wn w q1] at q2; omega
  refine ⟨⟨⟨Or.inl w0, Or.inl w2, Or.inl w4, Or.inl w0, Or.inl w2⟩, hrk⟩, ⟨hX, hlen, fun e he => ?_⟩, fun m m0 m1 => ?_, fun w q1 q2 => absurd (wn w q1) q2, fun x hx1 hf => ?_, fun i i0 i1 => ?_, Or.inr ⟨by rw [ht.1]; exact hIr tn hIt, ht.2, ?_⟩, hlow⟩
  · obtain ⟨v1, v2, v3, v4, v5, v6, v7⟩ := hV e he
    refine ⟨v1, v2, v3, v4, v5, v6, ?_⟩
    rw [ee _ (by omega), used _ v1.1 v1.2 (lpos _ v1.1 v1.2 (Or.inl (lS_pos hX.2.1 he (by have := v2.n; omega))))]
    exact v7
  · have tbe : tbS σ m = if m = tn then tbl cf else 0 := by unfold tbS; rw [ht.1, ht.2]
    have lv := hlv m m0 m1
    obtain ⟨u0, u1⟩ := hu m m0 m1
    have hxm := hx m (by omega) m1
    have lvr : 0 ≤ gA σ 324 0 m := by
      have b := kn0 m
      have c := on0 m
      have d := ln0 m
      have e : 0 ≤ (if m = tn then tbl cf else 0) := by split <;> omega
      omega
    refine ⟨?_, fun q => ?_, by rw [tbe]; exact lv, ?_, fun q => ?_, fun q => ?_, fun q => ⟨fun y => absurd y (nh m (by omega)), fun _ => ?_⟩⟩
    · by_cases w : gA σ 324 0 m ≤ 0
      · have := (u0 w).1; omega
      · have := (u1 w).1; omega
    · by_cases w : gA σ 324 0 m ≤ 0
      · exact ⟨(u0 w).2, by omega, nh m (by omega)⟩
      · have := (u1 w).1; omega
    · rw [ee m (by omega)]
      by_cases w : gA σ 324 0 m ≤ 0
      · unfold lmF; omega
      · rw [used m m0 m1 w]; exact (u1 w).2.2.1
    · apply Classical.byContradiction
      intro w
      exact w (hxm.1 (Classical.byContradiction (fun y => q (hxm.2 y)))).2
    · have nI : ¬ I m := fun y => by have := (hxm.1 y).1; omega
      refine ⟨?_, oSm_z _ (fun i i0 i1 e => nI (by rw [← e]; exact (ho i i0 (by omega)).1)), fun e => nI (by rw [e, ht.1]; exact hIt)⟩
      apply Classical.byContradiction
      intro w
      obtain ⟨y, y1, y2, y3⟩ := kS_ex w
      exact nI (by rw [← y3]; exact (hk y y1 y2).2)
    · have w : ¬ gA σ 324 0 m ≤ 0 := fun y => q (u0 y).1
      rw [used m m0 m1 w]
      exact (u1 w).2.2.2
  · have k1 := hk x hx1 hf
    have kr := hIr _ k1.2
    have kp := kS_pos (fun y hy hfy => by have := (hk y hy hfy).1.sz (krt_cnt hX.1 y hy); omega) x hx1 hf
    refine ⟨k1.1.grow (krt_cnt hX.1 x hx1).1 ?_ (fun p _ => rfl), by rw [((hx _ (by omega) kr.2).1 k1.2).1]; decide⟩
    rw [ee _ (by omega), used _ kr.1 kr.2 (lpos _ kr.1 kr.2 (Or.inr (Or.inl (by omega))))]
    exact Int.le_refl _
  · have o1 := ho i i0 i1
    have kr := hIr _ o1.1
    exact ⟨kr, by rw [((hx _ (by omega) kr.2).1 o1.1).1]; decide, o1.2⟩
  · have kr := hIr _ hIt
    rw [ht.1, ((hx _ (by omega) kr.2).1 hIt).1]; decide
