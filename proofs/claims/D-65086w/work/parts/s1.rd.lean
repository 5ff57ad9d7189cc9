/-! House.rmdir -/
theorem sp_Hrmdir {tv : Nat → Int} {cf : Cf} {σ : St} {S S' : List (Int × Int × Int × (Int → Int)) × Int} {W : List (Int × (List (Int × Int × Int × (Int → Int)) × Int))} {r : RT} {B : Int} {d x : Int} {Q : Int → St → Prop} (hc : CfOK cf) (h : HP tv cf σ S S' W r B) (hC : HC σ S) (hrk : RK σ) (hB : B + 49772 < 1073741000) (hd : rI d) (hx : rJ x) (hop : ∀ w k s, (w, k, s) ∈ nds S.1 → opn σ w → k = 2) (hNU : NU σ (nds S.1) (ens S.1))
    (h0 : ∀ τ no, namA S d x = no → no < 0 → HP tv cf τ S S' W r B → Fr mHs σ τ → RK τ → Q no τ)
    (hF : ∀ τ w k s, namA S d x = 0 → (d, x, w) ∈ ens S.1 → (w, k, s) ∈ nds S.1 → k ≠ 1 → HP tv cf τ S S' W r B → Fr mHs σ τ → RK τ → Q (-6) τ)
    (hN : ∀ τ w, namA S d x = 0 → (d, x, w) ∈ ens S.1 → (w, 1, 0) ∈ nds S.1 → cn1 w (ens S.1) ≠ 0 → HP tv cf τ S S' W r B → Fr mHs σ τ → RK τ → Q (-8) τ)
    (h1 : ∀ τ w E0 S2 p0 S0 W0 n, namA S d x = 0 → (d, x, w) ∈ ens S.1 → (w, 1, 0) ∈ nds S.1 → cn1 w (ens S.1) = 0 → (ens S.1).Perm ((d, x, w) :: E0) → unR σ S S2 w 1 E0 → TKo cf σ 144 S S' W p0 S0 W0 → SFo (p0 + 144) (W0 ++ [(p0 + 144, S2)]) n → HP tv cf τ S2 (laS S0 ((W0 ++ [(p0 + 144, S2)]).take n)) ((W0 ++ [(p0 + 144, S2)]).drop n) r (B + 49772) → HC τ S2 → gI τ 451 0 ≠ -1 → gI τ 452 0 = p0 + 144 → Fr mHo σ τ → RK τ → Q w τ) : wp_House_rmdir cf tv d x Q σ := by
  have wf := h.wf
  have on : gI σ 69 0 = 1 := hC.2.2
  unfold wp_House_rmdir
  refine ⟨fun _ => ?_, fun w => by have w : gI σ 69 0 = 0 := w; omega⟩
  refine sp_Hnamed hc h hrk hd (fun τ no a b c f k _ _ => ⟨fun w => by omega, fun _ => h0 τ no a b c f k⟩) (fun τ y x0 z w A y1 y2 y3 y4 x1 x2 x3 x4 sl z1 z2 z3 w1 H f k _ _ => ⟨fun _ => ?_, fun w => absurd (Int.le_refl 0) w⟩)
  obtain ⟨nr, nn1, nn2, nk, ns, ⟨nc1, nc2, nc3⟩, ⟨ncd, -, nca⟩, nak⟩ := nd_put (M := S.1) (nx := S.2) wf z1 z2
  have kd : gI τ 641 1 = rI4 z.2.2.2 28 := z3.2.1
  have en : gI τ 644 1 = rI4 z.2.2.2 40 := z3.2.2.2.2.1
  have h70 : gA τ 70 0 = gA σ 70 0 := f.a _ _ (fun q => q.2 (by unfold hK; omega))
  rw [kd, en]
  refine ⟨fun k1 => ?_, fun k1 => hF τ w _ _ A x4 nn2 k1 H f k⟩
  have ncd := ncd k1
  rw [k1, ncd.2] at nn2
  refine ⟨fun e0 => ?_, fun e0 => hN τ w A x4 nn2 (by omega) H f k⟩
  have c1 : cn1 w (ens S.1) = 0 := by omega
  have pE := List.perm_cons_erase x4
  refine sp_Hunn hc H (hC.fr f (fun g q v => v.2 q)) k hB hx y1 y2 y3 y4 z1 z2 k1 ncd.2 z3 w1 x1 x2 x3 sl pE (fun _ => c1) (fun o => hop _ _ _ nn2 (by unfold opn at o ⊢; rw [← h70]; exact o)) (NU_fr h70 hNU) (fun τ2 S2 p0 S0 W0 n a b c d' e f' g l1 n1 nn pl fr kr _ => ?_)
  rw [show gI τ2 640 1 = w from n1]
  refine h1 τ2 w _ S2 p0 S0 W0 n A x4 nn2 c1 pE ⟨fun v => ?_, fun v => b ((gnP_fr h70).mpr v), c⟩ (d'.fr f ⟨fun q => (mHs_W q).1 rfl, fun q => (mHs_W q).2 rfl⟩) e f' g nn pl ((f.mono (fun f o' => Or.inl)).tr fr) kr
  obtain ⟨u1, u2⟩ := a (fun t => v ((gnP_fr h70).mp t))
  exact ⟨u1, NU_fr h70.symm u2⟩
