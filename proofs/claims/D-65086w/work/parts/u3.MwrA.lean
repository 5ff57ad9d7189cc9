/-! Model.writeAll -/
theorem wrS_F {cf : Cf} {S S2 : List (Int × Int × Int × (Int → Int)) × Int} {w T d m e : Int} {by' : Int → Int} (W : WF cf S) (h : wrS cf S S2 w T d m by' e) : ¬ wrF cf S w T d m := by
  obtain ⟨k, f, l, b, P0, s0, N0, ⟨x1, x2, x3, x4⟩, pO, -, -, -, -, -, -, x7⟩ := h
  rintro ⟨k', f', l2, b2, P2, ⟨z1, z2, z3, z4⟩, pO2, z5⟩
  have ek : k' = k := by omega
  have ef : f' = f := by omega
  rw [ek] at pO2
  obtain ⟨u1, u2, u3⟩ := pO.u W pO2
  rw [← u1, ef] at z5
  omega
theorem sp_MwrA {tv : Nat → Int} {cf : Cf} {σ : St} {S S' : List (Int × Int × Int × (Int → Int)) × Int} {W : List (Int × (List (Int × Int × Int × (Int → Int)) × Int))} {p : Int} {h w T n v way s d' pn : Int} {by' : Int → Int} {Sn Sn' : List (Int × Int × Int × (Int → Int)) × Int} {Wn : List (Int × (List (Int × Int × Int × (Int → Int)) × Int))} {Q : Int → St → Prop} (hc : CfOK cf) (hrk : RK σ) (mp : MP cf σ S S' W p) (hh : 0 ≤ h ∧ h < 8) (ew : gA σ 711 0 h = w) (hw : (w, 2, s) ∈ nds S.1) (hT : 0 ≤ T) (hn : 1 ≤ n ∧ n ≤ 2048) (hTn : T + n ≤ 16384) (hbr : ∀ i, rB (by' i))
    (hby : ∀ i, 0 ≤ i → i < n → (way = 2 → gA σ 742 0 i = by' i) ∧ (way = 1 → b8 (w32 (w64 (v + w64 (7 * i)))) = by' i) ∧ (way ≠ 1 → way ≠ 2 → b8 (w32 (lshr v (w32 (8 * i)))) = by' i))
    (tr : WTr cf w T n by' 0 S S' W p d' Sn Sn' Wn pn)
    (hQ : ∀ τ, MP cf τ Sn Sn' Wn pn → Fr mMw σ τ → RK τ → Q (if d' = 0 then -10 else d') τ) : wp_Model_writeAll cf tv h T n v way Q σ := by
  unfold wp_Model_writeAll
  refine lQ2_rule (fun d may τ => ∃ Sc Sc' Wc pc, MP cf τ Sc Sc' Wc pc ∧ Fr mMw σ τ ∧ RK τ ∧ (∃ s, (w, 2, s) ∈ nds Sc.1) ∧ (0 ≤ d ∧ d ≤ n) ∧ ((may = 1 ∧ WTr cf w T n by' d Sc Sc' Wc pc d' Sn Sn' Wn pn) ∨ (may = 0 ∧ d = d' ∧ Sc = Sn ∧ Sc' = Sn' ∧ Wc = Wn ∧ pc = pn))) (fun d may _ => 2 * (n - d).toNat + (if may = 0 then 0 else 1)) ?_ 0 1 σ ⟨S, S', W, p, mp, Fr.rf _ _, hrk, ⟨s, hw⟩, by omega, Or.inl ⟨rfl, tr⟩⟩
  intro K d may τ hI hK
  obtain ⟨Sc, Sc', Wc, pc, mc, fr, rk, ⟨sc, hwc⟩, hd, hm⟩ := hI
  have wf := mc.2.1.1
  have fin : d = d' → MP cf τ Sn Sn' Wn pn → wp_Model_writeAll_b94 cf tv h T n v way Q d τ := by
    intro e M
    have := hQ τ M fr rk
    rw [← e] at this
    unfold wp_Model_writeAll_b94
    exact ⟨fun q => by rw [if_neg q] at this; exact this, fun q => by rw [if_pos q] at this; exact this⟩
  unfold wp_Model_writeAll_L6
  refine ⟨fun q => ?_, fun q => ⟨fun q0 => ?_, fun q0 => ?_⟩⟩
  · rcases hm with ⟨-, t⟩ | ⟨-, e, e1, e2, e3, e4⟩
    · rcases t.cs with ⟨-, e, e1, e2, e3, e4⟩ | ⟨a, -⟩
      · subst e1; subst e2; subst e3; subst e4
        exact fin e mc
      · omega
    · subst e1; subst e2; subst e3; subst e4
      exact fin e mc
  · rcases hm with ⟨a, -⟩ | ⟨-, e, e1, e2, e3, e4⟩
    · omega
    · subst e1; subst e2; subst e3; subst e4
      exact fin e mc
  · have t : WTr cf w T n by' d Sc Sc' Wc pc d' Sn Sn' Wn pn := by
      rcases hm with ⟨-, t⟩ | ⟨a, -⟩
      · exact t
      · exact absurd a q0
    have m1 : may = 1 := by
      rcases hm with ⟨a, -⟩ | ⟨a, -⟩
      · exact a
      · exact absurd a q0
    intro y9 e9 y10 e10
    rw [w32_id (x := T + d) (by unfold rI; omega)] at e9
    rw [e9, jrm_nn (by omega) (by omega) (by omega), w32_id (by unfold rI; omega)] at e10
    rw [w32_id (x := n - d) (by unfold rI; omega), e9]
    have B51 : ∀ m, m = mny T n d → wp_Model_writeAll_b51 cf tv h T n v way Q K d (T + d) m τ := by
      intro m em
      have hmb : 1 ≤ m ∧ (T + d) % 64 + m ≤ 64 ∧ m ≤ n - d := by unfold mny at em; omega
      unfold wp_Model_writeAll_b51 wp_Model_writeAll_b88
      refine ⟨hh, ?_⟩
      rw [show gA τ 711 0 h = w by rw [fr.a 711 0 (fun q => by unfold mMw mMh at q; omega)]; exact ew]
      refine sp_MwrP hc rk mc hwc hT (by omega) (by omega) (by omega) hbr (fun i i0 i1 => ?_) (fun hF _ _ => ⟨fun _ y7 e7 => ?_, fun g => absurd rfl g⟩) (fun hF => ?_)
      · rw [fr.a 742 0 (fun q => by unfold mMw mMh at q; omega)]
        exact hby i (by omega) (by omega)
      · rw [w32_id (by unfold rI; omega)] at e7
        rw [e7]
        refine hK (d + 0) 0 τ ⟨Sc, Sc', Wc, pc, mc, fr, rk, ⟨sc, hwc⟩, by omega, Or.inr ⟨rfl, ?_⟩⟩ (by rw [if_pos rfl, if_neg q0, Int.add_zero]; omega)
        rw [em] at hF
        rcases t.cs with ⟨-, e, e1, e2, e3, e4⟩ | ⟨a, e, p0, S2, S0, W0, k, b, -⟩
        · exact ⟨by omega, e1, e2, e3, e4⟩
        · exact absurd hF (wrS_F wf b)
      · rw [em] at hF ⊢
        rcases t.cs with ⟨q1 | ⟨-, q1⟩, -⟩ | ⟨a, e, p0, S2, S0, W0, k, b, c, e', f'⟩
        · omega
        · exact absurd q1 hF
        · refine ⟨S2, e, p0, S0, W0, k, b, c, e', fun τ2 M f2 k2 _ _ => ⟨fun g => absurd g (by decide), fun _ y7 e7 => ?_⟩⟩
          rw [← em] at e7 f' b
          rw [w32_id (by unfold rI; omega)] at e7
          rw [e7]
          obtain ⟨k', f1, l2, b2, P2, s2, N2, -, -, -, -, R, -⟩ := b
          exact hK (d + m) 1 τ2 ⟨S2, _, _, _, M, fr.tr f2, k2, ⟨_, R.1.mem_iff.mpr List.mem_cons_self⟩, by omega, Or.inl ⟨rfl, f'⟩⟩ (by rw [if_neg (by decide), if_neg q0]; omega)
    refine ⟨fun g => B51 y10 (by unfold mny; omega), fun g => B51 (n - d) (by unfold mny; omega)⟩
