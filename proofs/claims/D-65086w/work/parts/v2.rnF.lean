/-! House.rename: the last part -/
/-- 0 and below: nothing changes; 1: what had the name goes; 2: nothing had it (the answer is 0) -/
noncomputable def rnB (S : List (Int × Int × Int × (Int → Int)) × Int) (a x b q : Int) : Int := cif (∃ w, (a, x, w) ∈ ens S.1 ∧ (b, q, w) ∈ ens S.1) 0 (cif (∃ w, (a, x, w) ∈ ens S.1 ∧ rngS S w b) (-9) (cif (∃ w w2, (a, x, w) ∈ ens S.1 ∧ (b, q, w2) ∈ ens S.1 ∧ (w, 1, 0) ∈ nds S.1 ∧ (w2, 1, 0) ∉ nds S.1) (-6) (cif (∃ w w2, (a, x, w) ∈ ens S.1 ∧ (b, q, w2) ∈ ens S.1 ∧ (w, 1, 0) ∉ nds S.1 ∧ (w2, 1, 0) ∈ nds S.1) (-7) (cif (∃ w2, (b, q, w2) ∈ ens S.1 ∧ (w2, 1, 0) ∈ nds S.1 ∧ cn1 w2 (ens S.1) ≠ 0) (-8) (cif (∃ w2, (b, q, w2) ∈ ens S.1) 1 2)))))
noncomputable def rnA (S : List (Int × Int × Int × (Int → Int)) × Int) (a x b q : Int) : Int := cif (¬ nmV q) (-3) (cif (namA S a x = 0) (dirA (nds S.1) b (rnB S a x b q)) (namA S a x))
def rnR (gP : Int → Int → List (Int × Int × Int) → Prop) (S S2 : List (Int × Int × Int × (Int → Int)) × Int) (a x w b q : Int) : Prop := S2.2 = S.2 ∧ ((∃ E0, (ens S.1).Perm ((a, x, w) :: E0) ∧ (∀ e, e ∈ ens S.1 → ¬ (e.1 = b ∧ e.2.1 = q)) ∧ RWS S2.1 (nds S.1) ((b, q, w) :: E0) (ats S.1) (pcs S.1)) ∨ (∃ w2 k s E1, (ens S.1).Perm ((a, x, w) :: (b, q, w2) :: E1) ∧ w ≠ w2 ∧ (w2, k, s) ∈ nds S.1 ∧ (¬ gP w2 k E1 → RWS S2.1 (nds S.1) ((b, q, w) :: E1) (ats S.1) (pcs S.1)) ∧ (gP w2 k E1 → RWS S2.1 ((nds S.1).filter (fun n => decide (n.1 ≠ w2))) ((b, q, w) :: E1) ((ats S.1).filter (fun r => decide (kpA w2 r))) ((pcs S.1).filter (fun p => decide (p.1 ≠ w2))))))
noncomputable def rnE (S : List (Int × Int × Int × (Int → Int)) × Int) (a b q : Int) : Int := (if a = b then 144 else 192) + cif (∃ w2, (b, q, w2) ∈ ens S.1) 48 0
theorem inF_ex {x k l s en at' : Int} (h1 : rI x) (h2 : rI k) (h3 : rI l) (h4 : rI s) (h5 : rI en) (h6 : rI at') : ∃ P, inF P x k l s en at' := by
  refine ⟨pI4 (pI4 (pI4 (pI4 (pI4 (pI4 (fun _ => 0) 24 x) 28 k) 32 l) 36 s) 40 en) 44 at', ?_, ?_, ?_, ?_, ?_, ?_⟩
  · rw [rI4_o (by omega), rI4_o (by omega), rI4_o (by omega), rI4_o (by omega), rI4_o (by omega)]; exact rI4_p h1
  · rw [rI4_o (by omega), rI4_o (by omega), rI4_o (by omega), rI4_o (by omega)]; exact rI4_p h2
  · rw [rI4_o (by omega), rI4_o (by omega), rI4_o (by omega)]; exact rI4_p h3
  · rw [rI4_o (by omega), rI4_o (by omega)]; exact rI4_p h4
  · rw [rI4_o (by omega)]; exact rI4_p h5
  · exact rI4_p h6
/-- the last part: the nodes of both directories, hand -/
theorem sp_rnF {tv : Nat → Int} {cf : Cf} {σ : St} {S S' : List (Int × Int × Int × (Int → Int)) × Int} {W : List (Int × (List (Int × Int × Int × (Int → Int)) × Int))} {r : RT} {B : Int} {τ8 : St} {a x b q there y13 e ea eb E : Int} {M3 : List (Int × Int × Int × (Int → Int))} {yd yt : Int × Int × Int × (Int → Int)} {R : List (Int × Int × Int × (Int → Int)) → Prop} {Q : Int → St → Prop} (hc : CfOK cf) (h : HP tv cf σ S S' W r B) (hC : HC σ S) (hB : B + 49772 < 1073741000) (aR : 1 ≤ a ∧ a < S.2) (bR : 1 ≤ b ∧ b < S.2) (e13 : y13 = if a = b then (1 : Int) else 0) (he : e = 96 ∨ e = 144) (g8 : GR τ8 S e (M3, S.2)) (ok8 : okC (M3, S.2) 5) (f8 : Fr (fun f o' => mHs f o' ∨ ((f = 71 ∨ f = 72) ∧ o' = 0)) σ τ8) (k8 : RK τ8)
    (va : gI τ8 640 0 = a ∧ gI τ8 641 0 = 1 ∧ gI τ8 642 0 = rI4 yd.2.2.2 32 ∧ gI τ8 643 0 = 0 ∧ gI τ8 644 0 = rI4 yd.2.2.2 40 + ea ∧ gI τ8 645 0 = rI4 yd.2.2.2 44)
    (vb : a ≠ b → gI τ8 640 2 = b ∧ gI τ8 641 2 = 1 ∧ gI τ8 642 2 = rI4 yt.2.2.2 32 ∧ gI τ8 643 2 = 0 ∧ gI τ8 644 2 = rI4 yt.2.2.2 40 + eb ∧ gI τ8 645 2 = rI4 yt.2.2.2 44) (hyt : 0 ≤ rI4 yt.2.2.2 40 + eb ∧ rI4 yt.2.2.2 40 + eb < 1000000)
    (hre : e + (if a = b then 48 else 96) = E)
    (law : ∀ P3 P4 M5, dirI yt P3 b eb → dirI yd P4 a ea → M5 = mput (4 * a, 0, 48, P4) (if a = b then M3 else mput (4 * b, 0, 48, P3) M3) → WF cf (M5, S.2) ∧ gI τ8 71 0 = cpM M5 ∧ gI τ8 72 0 = ((nds M5).length : Int) ∧ R M5)
    (hQ : ∀ τ M5 p0 S0 W0 k, R M5 → TKo cf σ E S S' W p0 S0 W0 → SFo (p0 + E) (W0 ++ [(p0 + E, (M5, S.2))]) k → HP tv cf τ (M5, S.2) (laS S0 ((W0 ++ [(p0 + E, (M5, S.2))]).take k)) ((W0 ++ [(p0 + E, (M5, S.2))]).drop k) r (B + 49772) → HC τ (M5, S.2) → gI τ 451 0 ≠ -1 → gI τ 452 0 = p0 + E → Fr mHo σ τ → RK τ → Q (if there ≤ 0 then (0 : Int) else 1) τ) : wp_House_rename_b331 cf tv a x b q Q there y13 τ8 := by
  have n1 := h.nx
  have on : gI σ 69 0 = 1 := hC.2.2
  have b345 : ∀ (τ9 : St) (e' : Int) (M4 : List (Int × Int × Int × (Int → Int))), e' + 48 = E → 0 ≤ e' → e' ≤ 400 → GR τ9 S e' (M4, S.2) → okC (M4, S.2) 6 → Fr (fun f o' => mHs f o' ∨ ((f = 71 ∨ f = 72) ∧ o' = 0)) σ τ9 → Fr (mRow 6) τ8 τ9 → RK τ9 → (∀ P4 M5, dirI yd P4 a ea → M5 = mput (4 * a, 0, 48, P4) M4 → WF cf (M5, S.2) ∧ gI τ8 71 0 = cpM M5 ∧ gI τ8 72 0 = ((nds M5).length : Int) ∧ R M5) → wp_House_rename_b345 cf tv a x b q Q there τ9 := by
    intro τ9 e' M4 ee e0 e4' g9 ok9 f9 f89 k9 law
    unfold wp_House_rename_b345
    have vi : ∀ g, 640 ≤ g → g ≤ 645 → gI τ9 g 0 = gI τ8 g 0 := fun g p q => f89.i _ _ (by unfold mRow; omega)
    refine sp_gIno (l := 1) (a := a) (kd := 1) (lk := rI4 yd.2.2.2 32) (sz := 0) (en := rI4 yd.2.2.2 40 + ea) (at' := rI4 yd.2.2.2 44) k9 g9 (by omega) (ok9.s (by omega)) (by rw [vi _ (by decide) (by decide)]; exact va.1) (by rw [vi _ (by decide) (by decide)]; exact va.2.1) (by rw [vi _ (by decide) (by decide)]; exact va.2.2.1) (by rw [vi _ (by decide) (by decide)]; exact va.2.2.2.1) (by rw [vi _ (by decide) (by decide)]; exact va.2.2.2.2.1) (by rw [vi _ (by decide) (by decide)]; exact va.2.2.2.2.2) (by omega) (fun τa P4 p4 ga fa ka _ => ?_)
    have ga := ga.2 (by decide)
    obtain ⟨L1, L2, L3, L4⟩ := law P4 _ p4 rfl
    have sI : sIn (M4, S.2) a 1 P4 = (mput (4 * a, 0, 48, P4) M4, S.2) := by
      unfold sIn; rw [if_neg (by decide)]
      show (_, max S.2 (a + 1)) = _
      rw [show max S.2 (a + 1) = S.2 by omega]
    rw [sI, ee] at ga
    generalize mput (4 * a, 0, 48, P4) M4 = M5 at *
    have fT : Fr (fun f o' => mHs f o' ∨ ((f = 71 ∨ f = 72) ∧ o' = 0)) σ τa := f9.tr (fa.mono (fun f o' q => Or.inl (R6_s q)))
    have Ha := h.frH fT (fun f o' q => by
      rcases q with q | q
      · exact q.1
      · unfold mHR; omega) ka
    refine sp_handS (e := E) hc Ha hB ga (by omega) L1 (by show S.2 < 1073740000; omega) (fun τb p0 S0 W0 kk tk sf Hb nn pl fb kb _ => ?_)
    have fbs : Fr stS τa τb := fb.mono (fun f o' => st_Hh)
    refine hQ τb M5 p0 S0 W0 kk L4 (tk.fr fT ⟨fun q => ?_, fun q => ?_⟩) sf Hb ⟨?_, ?_, ?_⟩ nn pl ((fT.mono (fun f o' q => ?_)).tr (fbs.mono (fun f o' q => Or.inr (Or.inl q)))) kb
    · rcases q with q | q
      · exact (mHs_W q).1 rfl
      · omega
    · rcases q with q | q
      · exact (mHs_W q).2 rfl
      · omega
    · show gI τb 71 0 = cpM M5
      rw [fbs.i _ _ (by unfold stS; omega), fa.i _ _ (by unfold mRow; omega), f89.i _ _ (by unfold mRow; omega)]; exact L2
    · show gI τb 72 0 = ((nds M5).length : Int)
      rw [fbs.i _ _ (by unfold stS; omega), fa.i _ _ (by unfold mRow; omega), f89.i _ _ (by unfold mRow; omega)]; exact L3
    · show gI τb 69 0 = 1
      rw [fbs.i _ _ (by unfold stS; omega), fT.i _ _ (fun q => by
        rcases q with q | q
        · exact q.2 (by unfold hK; omega)
        · omega)]; exact on
    · rcases q with q | q
      · exact Or.inl q
      · exact Or.inr (Or.inr q)
  unfold wp_House_rename_b331
  by_cases ab : a = b
  · rw [if_pos ab] at e13 hre
    refine ⟨fun _ => ?_, fun z => by omega⟩
    refine b345 τ8 e M3 hre (by omega) (by omega) g8 (ok8.up (by omega)) f8 (Fr.rf _ _) k8 (fun P4 M5 p4 e5 => ?_)
    obtain ⟨P3, p3⟩ := inF_ex (x := b) (k := 1) (l := rI4 yt.2.2.2 32) (s := 0) (en := rI4 yt.2.2.2 40 + eb) (at' := rI4 yt.2.2.2 44) (by unfold rI; omega) (by unfold rI; omega) (rI4_r _ _) (by unfold rI; omega) (by unfold rI; omega) (rI4_r _ _)
    exact law P3 P4 M5 p3 p4 (by rw [if_pos ab]; exact e5)
  · rw [if_neg ab] at e13 hre
    refine ⟨fun z => by omega, fun _ => ?_⟩
    obtain ⟨u1, u2, u3, u4, u5, u6⟩ := vb ab
    refine sp_gIno (l := 0) (a := b) (kd := 1) (lk := rI4 yt.2.2.2 32) (sz := 0) (en := rI4 yt.2.2.2 40 + eb) (at' := rI4 yt.2.2.2 44) k8 g8 (by omega) (ok8.s (by omega)) u1 u2 u3 u4 u5 u6 (by omega) (fun τa P3 p3 ga fa ka _ => ?_)
    have ga := ga.1 rfl
    have sI : sIn (M3, S.2) b 1 P3 = (mput (4 * b, 0, 48, P3) M3, S.2) := by
      unfold sIn; rw [if_neg (by decide)]
      show (_, max S.2 (b + 1)) = _
      rw [show max S.2 (b + 1) = S.2 by omega]
    rw [sI] at ga
    refine b345 τa (e + 48) _ (by omega) (by omega) (by omega) ga (ok8.put (fun _ => rfl)) (f8.tr (fa.mono (fun f o' q => Or.inl (R6_s q)))) fa ka (fun P4 M5 p4 e5 => law P3 P4 M5 p3 p4 (by rw [if_neg ab]; exact e5))
