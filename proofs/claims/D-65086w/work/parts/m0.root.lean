/-! the root's node, and a store that holds nothing -/
/-- what the root's first node tells -/
def rtG : Int → Int := pI4 (pI4 (fun _ => 0) 24 1) 28 1
def rtN : Int × Int × Int × (Int → Int) := (4, 0, 48, pay rtG 0 48)
/-- the row as it is built -/
def rtR (g : Int → Int) : Int → Int := pI4 (pI4 (nBeg g 0 1 48) (0 + 24 + 0) 1) (0 + 24 + 4) 1
theorem rtR_v {g : Int → Int} : rI4 (rtR g) (0 + 4) = 48 ∧ rI4 (rtR g) (0 + 20) = 1414677829 ∧ rtR g (0 + 16) = 1 ∧ rI4 (rtR g) (0 + 24) = 1 ∧ rI4 (rtR g) (0 + 28) = 1 ∧ ∀ k, 24 ≤ k → k < 48 → rtR g k = rtG k := by
  refine ⟨?_, ?_, ?_, ?_, ?_, fun k k0 k1 => ?_⟩
  · have e : rI4 (rtR g) (0 + 4) = rI4 (pI4 (fun i => if 0 ≤ i ∧ i < 0 + 48 then 0 else g i) (0 + 4) 48) (0 + 4) := rI4_ext (fun i i0 i1 => by
      unfold rtR nBeg
      rw [pI4_out (by omega), pI4_out (by omega), pI4_out (by omega)]
      unfold upF
      rw [if_neg (by omega)])
    rw [e]; exact rI4_p (by unfold rI; omega)
  · have e : rI4 (rtR g) (0 + 20) = rI4 (nBeg g 0 1 48) (0 + 20) := rI4_ext (fun i i0 i1 => by
      unfold rtR
      rw [pI4_out (by omega), pI4_out (by omega)])
    rw [e]; exact rI4_p (by unfold rI; omega)
  · unfold rtR nBeg
    rw [pI4_out (by omega), pI4_out (by omega), pI4_out (by omega)]
    unfold upF
    rw [if_pos rfl]; rfl
  · have e : rI4 (rtR g) (0 + 24) = rI4 (pI4 (nBeg g 0 1 48) (0 + 24 + 0) 1) (0 + 24 + 0) := rI4_ext (fun i i0 i1 => by
      unfold rtR
      rw [pI4_out (by omega)])
    rw [e]; exact rI4_p (by unfold rI; omega)
  · exact rI4_p (by unfold rI; omega)
  · unfold rtR rtG
    by_cases q : 28 ≤ k ∧ k < 32
    · unfold pI4
      rw [if_pos (by omega), if_pos (by omega)]
      rfl
    · rw [pI4_out (by omega), pI4_out (g := pI4 (fun _ => 0) 24 1) (by omega)]
      by_cases q2 : k < 28
      · unfold pI4
        rw [if_pos (by omega), if_pos (by omega)]
        rfl
      · rw [pI4_out (by omega), pI4_out (by omega)]
        unfold nBeg
        rw [pI4_out (by omega)]
        unfold upF
        rw [if_neg (by omega), pI4_out (by omega), if_pos (by omega)]
theorem rtR_c {tv : Nat → Int} {g : Int → Int} : jnV tv (nCls tv (rtR g) 0 1 1 48) 0 48 ∧ srl (nCls tv (rtR g) 0 1 1 48) 0 = 1 ∧ hiN (nCls tv (rtR g) 0 1 1 48) 0 = 4 ∧ loN (nCls tv (rtR g) 0 1 1 48) 0 = 0 ∧ nCls tv (rtR g) 0 1 1 48 (0 + 16) = 1 ∧ pay (nCls tv (rtR g) 0 1 1 48) 0 48 = pay rtG 0 48 := by
  obtain ⟨v4, v20, v16, v24, v28, vk⟩ := rtR_v (g := g)
  have o16 : nCls tv (rtR g) 0 1 1 48 (0 + 16) = 1 := by rw [nCls_out (by omega)]; exact v16
  have r : ∀ k, 20 ≤ k → rI4 (nCls tv (rtR g) 0 1 1 48) (0 + k) = rI4 (rtR g) (0 + k) := fun k k0 => rI4_ext (fun i i0 i1 => nCls_out (by omega))
  refine ⟨⟨whN_cls (by omega) v4 v20, Or.inl ⟨o16, rfl⟩, ?_, ?_⟩, ?_, ?_, ?_, o16, ?_⟩
  · rw [r 24 (by omega), v24]; omega
  · rw [r 24 (by omega), v24]; omega
  · show rL8 (nCls tv (rtR g) 0 1 1 48) (0 + 8) = 1
    have : rL8 (nCls tv (rtR g) 0 1 1 48) (0 + 8) = rL8 (pL8 (rtR g) (0 + 8) 1) (0 + 8) := rL8_ext (fun i i0 i1 => by
      unfold nCls nSer
      rw [pI4_out (by omega)]
      unfold upF
      rw [if_neg (by omega)])
    rw [this]
    exact rL8_p (by unfold rJ; omega)
  · unfold hiN
    rw [o16, r 24 (by omega), v24]; rfl
  · unfold loN
    rw [o16, if_pos rfl]
  · funext k
    unfold pay
    by_cases q : 24 ≤ k ∧ k < 48
    · rw [if_pos q, if_pos q, nCls_out (by omega), vk _ (by omega) (by omega)]
    · rw [if_neg q, if_neg q]
/-- nothing is nameless -/
theorem rtN_nl : nlL [rtN] = [] := by
  have : ¬ isNl rtN := fun q => by
    have q2 : rI4 (pay rtG 0 48) 28 = 2 := q.2.1
    have e : rI4 (pay rtG 0 48) 28 = rI4 rtG 28 := rI4_ext (fun i i0 i1 => by unfold pay; rw [if_pos (by omega), Int.zero_add])
    have e2 : rI4 rtG 28 = 1 := rI4_p (by unfold rI; omega)
    omega
  unfold nlL nmF
  rw [List.filter_cons, if_neg (by rw [decide_eq_true_eq]; exact this)]
  rfl
theorem SA.nil {tv : Nat → Int} {cf : Cf} {σ : St} {db : Int → Int → Int} {t : Int} (hc : CfOK cf) (rk : RK σ) (hw : ∀ w, isW 0 w → gI σ 451 w = -1) (hI : IX σ 0 []) (h0 : gI σ 390 0 = 0) (kt : krt σ 0 = [t]) (ft : gI σ 584 t = 1) (hu : ∀ k, 0 ≤ k → k < cf.1 - 6 → gA σ 323 0 k = 0 ∧ gA σ 324 0 k = 0 ∧ gA σ 325 0 k = 0) (ht : gI σ 214 0 = -1) : SA tv cf σ (fun _ => -1) db [] := by
  have hR : 0 ≤ cf.2.2 ∧ cf.2.2 ≤ 4 := hc.2.2
  have hBl : 24 ≤ cf.1 ∧ cf.1 ≤ 64 := hc.1
  have w0 := hw 0 (Or.inl rfl)
  have w2 := hw 2 (Or.inr (Or.inl rfl))
  have w4 := hw 4 (Or.inr (Or.inr rfl))
  have nh : ∀ m, 0 ≤ m → ¬ hld σ 0 m := fun m m0 ⟨w, a, b⟩ => by rw [hw w a] at b; omega
  have ee : ∀ m, 0 ≤ m → eE σ 0 (fun _ => -1) m = 0 := fun m m0 => by
    unfold eE
    rw [if_neg (by omega), if_neg (by show ¬ m = gI σ 451 (0 + 2); rw [Int.zero_add, w2]; omega), if_neg (by show ¬ m = gI σ 451 (0 + 4); rw [Int.zero_add, w4]; omega)]
    rfl
  have ks : ∀ m, kS σ (krt σ 0) m = 0 := fun m => by
    rw [kt]
    show fz σ t m + 0 = 0
    unfold fz
    rw [if_neg (by omega)]
    rfl
  have os : ∀ m, oS σ 0 m = 0 := fun m => by unfold oS; rw [h0]; rfl
  have ts : ∀ m, 0 ≤ m → tbS σ m = 0 := fun m m0 => by unfold tbS; rw [if_neg (by omega)]
  have ls0 : ∀ m, lS [] m = 0 := fun m => rfl
  refine ⟨⟨⟨Or.inl w0, Or.inl (by rw [Int.zero_add]; exact w2), Or.inl (by rw [Int.zero_add]; exact w4), Or.inl w0, Or.inl (by rw [Int.zero_add]; exact w2)⟩, rk⟩, ⟨⟨hI, fun e he => absurd he List.not_mem_nil, fun m m0 m1 => ?_⟩, Nat.zero_le _, fun e he => absurd he List.not_mem_nil⟩, fun m m0 m1 => ?_, fun w hw1 hw2 => absurd (hw w hw1) hw2, fun x hx hf => ?_, fun i i0 i1 => by omega, Or.inl ht, fun m m0 m1 => (hu m m0 (by omega)).2.1⟩
  · rw [(hu m m0 m1).2.1, ls0]; omega
  · obtain ⟨u1, u2, u3⟩ := hu m (by omega) m1
    refine ⟨by omega, fun _ => ⟨rfl, u2, nh m (by omega)⟩, by rw [u2, ls0, ks, os, ts m (by omega)]; rfl, by rw [u2, ee m (by omega)]; omega, fun _ => rfl, fun _ => ⟨ks m, os m, by omega⟩, fun q => absurd u1 q⟩
  · rw [kt, List.mem_singleton] at hx
    rw [hx] at hf; omega
