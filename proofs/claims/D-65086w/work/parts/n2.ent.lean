/-! House.entry -/
def mRe (f : Nat) (o' : Int) : Prop := mR0 0 f o' ∨ ((f = 91 ∨ f = 92) ∧ o' = 0)
theorem mRe_h {f : Nat} {o' : Int} (h : mRe f o') : mHR f o' := by
  rcases h with h | h
  · exact mR0_h h
  · unfold mHR; omega
theorem kyE_cmp {x l : Int} {y : Int × Int × Int × Int × Int × Int} (h : kap x l ≤ kyE y) (h0 : 0 ≤ l) (r : rJ l) (hy : y.1 = x → 0 ≤ y.2.1) (r' : rJ y.2.1) : x < y.1 ∨ (x = y.1 ∧ l ≤ y.2.1) := by
  unfold kyE kap at h
  unfold rJ at r r'
  omega
theorem sp_Hentry {tv : Nat → Int} {cf : Cf} {σ : St} {dk : Int → Int} {db : Int → Int → Int} {L : List (Int × Int × Int × Int × Int × Int)} {d nm : Int} {Q : Int → St → Prop} (hc : CfOK cf) (h : RD tv cf σ dk db L) (hd : rI d) (hE : ∀ x, x ∈ AM db L → okE x) (hlen : L.length ≤ 880)
    (h0 : ∀ τ f, (0 ≤ f ∧ f < 1024) → (∀ x, x ∈ AM db L → x.1 = 4 * d + 2 → x.2.1 ≠ hs nm + f) → (∀ x, x ∈ AM db L → x.1 = 4 * d + 2 → rL8 x.2.2.2 32 ≠ nm) → gI τ 91 0 = f → Fr mRe σ τ → RK τ → Q 0 τ)
    (h1 : ∀ τ x, x ∈ AM db L → x.1 = 4 * d + 2 → rL8 x.2.2.2 32 = nm → gI τ 91 0 = rI4 x.2.2.2 40 → Fr mRe σ τ → RK τ → Q (rI4 x.2.2.2 28) τ) : wp_House_entry cf tv d nm Q σ := by
  have hd' := hd
  unfold rI at hd'
  have hr := hs_r nm
  have srt := h.srt
  unfold wp_House_entry
  refine sp_keyOf hd ⟨by omega, by omega⟩ (fun _ _ => ?_)
  refine sp_hash (fun _ _ σ1 e1 => ?_)
  have f1 : Fr mRe σ σ1 := by rw [e1]; exact (Fr.rf _ _).sI (Or.inr ⟨Or.inr rfl, rfl⟩)
  have k1 : RK σ1 := by rw [e1]; exact h.rk.sI (by show rI 0; unfold rI; omega)
  have z1 : gI σ1 92 0 = 0 := by rw [e1, gI_sI1]
  have H1 := h.fr f1 (fun _ _ q => mRe_h q) k1
  -- an entry of the row looked through
  have inR : ∀ e, e ∈ L → e.1 = 4 * d + 2 → e.2.1 = hs (rL8 (anE db e).2.2.2 32) + rI4 (anE db e).2.2.2 40 ∧ (0 ≤ rI4 (anE db e).2.2.2 40 ∧ rI4 (anE db e).2.2.2 40 < 1024) ∧ e.2.2.2.2.1 = 48 := fun e he q => by
    have o := hE (anE db e) (List.mem_map.mpr ⟨e, he, rfl⟩) (by show e.1 % 4 = 2; omega)
    exact ⟨o.2.2.2.2.1, o.2.2.2.2.2, o.1⟩
  -- the end
  have fin : ∀ τ A B, L = A ++ B → (∀ e, e ∈ B → ¬ (e.1 = 4 * d + 2 ∧ hs nm ≤ e.2.1 ∧ e.2.1 < hs nm + 1024)) → (∀ e, e ∈ A → e.1 = 4 * d + 2 → hs nm ≤ e.2.1 → e.2.1 < hs nm + 1024 → rL8 (anE db e).2.2.2 32 ≠ nm ∧ e.2.1 ≠ hs nm + gI τ 92 0) → (0 ≤ gI τ 92 0 ∧ gI τ 92 0 ≤ A.length) → Fr mRe σ τ → RK τ → wp_House_entry_b171 cf tv d nm Q τ := by
    intro τ A B eL nB pA hf fr rk
    unfold wp_House_entry_b171
    intro σ9 e9
    have la : (A.length : Int) ≤ 880 := by have := congrArg List.length eL; rw [List.length_append] at this; omega
    have all : ∀ e, e ∈ L → e.1 = 4 * d + 2 → hs nm ≤ e.2.1 → e.2.1 < hs nm + 1024 → rL8 (anE db e).2.2.2 32 ≠ nm ∧ e.2.1 ≠ hs nm + gI τ 92 0 := fun e he q1 q2 q3 => by
      rw [eL] at he
      rcases List.mem_append.mp he with w | w
      · exact pA e w q1 q2 q3
      · exact absurd ⟨q1, q2, q3⟩ (nB e w)
    refine h0 σ9 (gI τ 92 0) ⟨hf.1, by omega⟩ (fun x hx q w => ?_) (fun x hx q w => ?_) (by rw [e9, gI_sI1]) (fr.tr (by rw [e9]; exact (Fr.rf _ _).sI (Or.inr ⟨Or.inl rfl, rfl⟩))) (by rw [e9]; exact rk.sI (by show rI _; unfold rI; omega))
    · obtain ⟨e, he, ex⟩ := List.mem_map.mp hx
      rw [← ex] at q w
      have w' : e.2.1 = hs nm + gI τ 92 0 := w
      exact (all e he q (by omega) (by omega)).2 w'
    · obtain ⟨e, he, ex⟩ := List.mem_map.mp hx
      rw [← ex] at q w
      obtain ⟨i1, i2, i3⟩ := inR e he q
      rw [w] at i1
      exact (all e he q (by omega) (by omega)).1 w
  refine sp_itseek H1 (by unfold rJ; omega) (by unfold rJ; omega) (fun c τ A B q1 q2 q3 q4 f k => ?_)
  refine lQ3_rule (fun a b c τ => a = 4 * d + 2 ∧ b = hs nm ∧ Fr mRe σ τ ∧ RK τ ∧ (0 ≤ gI τ 92 0) ∧ ∃ A B, L = A ++ B ∧ (∀ y, y ∈ B → kap (4 * d + 2) (hs nm) ≤ kyE y) ∧ (∀ y, y ∈ A → y.1 = 4 * d + 2 → hs nm ≤ y.2.1 → y.2.1 < hs nm + 1024 → rL8 (anE db y).2.2.2 32 ≠ nm ∧ y.2.1 ≠ hs nm + gI τ 92 0) ∧ gI τ 92 0 ≤ A.length ∧ IT τ B c) (fun _ _ c τ => mI L c τ) ?_ _ _ _ τ ⟨rfl, rfl, f1.tr (f.mono (fun f o' q => Or.inl (Or.inl q))), k, by rw [f.i _ _ (fun q => by unfold mIs at q; omega), z1]; omega, A, B, q1, q3, fun y hy w1 w2 w3 => ?_, by rw [f.i _ _ (fun q => by unfold mIs at q; omega), z1]; omega, q4⟩
  · intro K a b c τ hI hK
    obtain ⟨ea, eb, fr, rk, f0, A, B, eL, hB, hA, fl, it⟩ := hI
    subst ea; subst eb
    have hm := mI_it srt eL it
    unfold wp_House_entry_L38
    rcases it with ⟨c0, b0⟩ | ⟨c1, e, B', b1, cu⟩
    · refine ⟨fun _ => fin τ A B eL (fun e he => by rw [b0] at he; exact absurd he List.not_mem_nil) hA ⟨f0, fl⟩ fr rk, fun w => absurd c0 w⟩
    · rw [b1] at eL hB hm
      have he : e ∈ L := by rw [eL]; exact List.mem_append_right _ List.mem_cons_self
      have sp := srt_mid (by rw [← eL]; exact srt)
      have hk := hB e List.mem_cons_self
      have RDt := h.fr fr (fun _ _ q => mRe_h q) rk
      have lo := h.lo he
      have ll : A.length + B'.length + 1 = L.length := by rw [eL, List.length_append, List.length_cons]; omega
      have out : ¬ (e.1 = 4 * d + 2 ∧ hs nm ≤ e.2.1 ∧ e.2.1 < hs nm + 1024) → wp_House_entry_b171 cf tv d nm Q τ := fun no => by
        refine fin τ A (e :: B') eL (fun y hy w => ?_) hA ⟨f0, fl⟩ fr rk
        rcases List.mem_cons.mp hy with u | u
        · rw [u] at w; exact no w
        · have a := sp.2 y u
          have hy' : y ∈ L := by rw [eL]; exact List.mem_append_right _ hy
          have ly := h.lo hy'
          refine no ?_
          have e1 : e.1 = 4 * d + 2 := by
            unfold kyE kap at a hk
            omega
          have i1 := inR e he e1
          have hr2 := hs_r (rL8 (anE db e).2.2.2 32)
          refine ⟨e1, ?_⟩
          unfold kyE kap at a hk
          unfold rJ at ly lo
          omega
      rw [cu.1, cu.2.1]
      refine ⟨fun w => absurd w (by omega), fun _ => ⟨fun w => out (fun q => w q.1), fun e1 => ⟨fun w => ?_, fun w σ28 e28 => ?_⟩⟩⟩
      · rw [w64_id (by unfold rJ; omega)] at w
        exact out (fun q => by omega)
      · rw [w64_id (by unfold rJ; omega)] at w
        obtain ⟨i1, i2, i3⟩ := inR e he e1
        have hr2 := hs_r (rL8 (anE db e).2.2.2 32)
        have low : hs nm ≤ e.2.1 := by
          unfold kyE kap at hk
          unfold rJ at lo
          omega
        rw [w64_id (by unfold rJ; omega), w32_id (by unfold rI; omega)] at e28
        have s28 : gI σ28 91 0 = e.2.1 - hs nm := by rw [e28, gI_sI1]
        have v28 : gI σ28 92 0 = gI τ 92 0 := by rw [e28, gI_sIo (by decide)]
        have f28 : Fr mRe τ σ28 := by rw [e28]; exact (Fr.rf _ _).sI (Or.inr ⟨Or.inl rfl, rfl⟩)
        have k28 : RK σ28 := by rw [e28]; exact rk.sI (by show rI _; unfold rI; omega)
        have cu28 := cu.fr (M := fun f o' => f = 91 ∧ o' = 0) (τ := σ28) (by rw [e28]; exact (Fr.rf _ _).sI ⟨rfl, rfl⟩) (fun g a b q => by omega)
        clear e28
        -- what is behind either way
        have go : ∀ υ, CU υ e → Fr mRe τ υ → RK υ → gI υ 91 0 = e.2.1 - hs nm → (0 ≤ gI υ 92 0 ∧ gI υ 92 0 ≤ A.length + 1) → e.2.1 ≠ hs nm + gI υ 92 0 → (∀ y, y ∈ A → y.1 = 4 * d + 2 → hs nm ≤ y.2.1 → y.2.1 < hs nm + 1024 → y.2.1 ≠ hs nm + gI υ 92 0) → wp_House_entry_b103 cf tv d nm Q K (4 * d + 2) (hs nm) υ := by
          intro υ cυ fυ kυ sυ bυ nυ aυ
          unfold wp_House_entry_b103
          have RDu := RDt.fr fυ (fun _ _ q => mRe_h q) kυ
          refine sp_hread hc RDu he cυ (Or.inl rfl) (fun τ2 b2 a2 c2 f2 k2 => ?_)
          have rg' : rowL 0 = 320 := rfl
          refine sp_rgetL a2 (by omega) (by omega) (by omega) (fun k3 _ _ => ?_)
          rw [show (0 : Int) + 24 + 8 = 32 by omega, rL8_row (P := (anE db e).2.2.2) (n := 48) (fun i i0 i1' => b2 i i0 (by omega)) (by omega) (by omega)]
          have F2 : Fr mRe υ τ2 := f2.mono (fun f o' q => Or.inl (Or.inr q))
          have hm' : anE db e ∈ AM db L := List.mem_map.mpr ⟨e, he, rfl⟩
          refine ⟨fun ne => ?_, fun eq => ?_⟩
          · refine sp_itnext (RDu.fr F2 (fun _ _ q => mRe_h q) k2) eL c2 (fun c' τ3 it3 m3 f3 k4 => ?_)
            have fs3 : gI τ3 92 0 = gI υ 92 0 := by rw [f3.i _ _ (fun q => by unfold mIs at q; omega), f2.i _ _ (fun q => by unfold mRd2 mPg mRow at q; omega)]
            refine hK _ _ c' τ3 ⟨rfl, rfl, ((fr.tr fυ).tr F2).tr (f3.mono (fun f o' q => Or.inl (Or.inl q))), k4, by omega, A ++ [e], B', by rw [eL, List.append_assoc]; rfl, fun y hy => hB y (List.mem_cons_of_mem _ hy), fun y hy w1 w2 w3 => ?_, ?_, it3⟩ (by rw [hm, List.length_cons]; exact m3)
            · rw [fs3]
              rcases List.mem_append.mp hy with u | u
              · exact ⟨(hA y u w1 w2 w3).1, aυ y u w1 w2 w3⟩
              · rw [List.mem_singleton.mp u]; exact ⟨ne, nυ⟩
            · rw [fs3, List.length_append, List.length_singleton]; omega
          · refine sp_rget a2 (by omega) (by omega) (by omega) (fun k4 _ _ => ?_)
            rw [show (0 : Int) + 24 + 4 = 28 by omega, rI4_row (P := (anE db e).2.2.2) (n := 48) (fun i i0 i1' => b2 i i0 (by omega)) (by omega) (by omega)]
            refine h1 τ2 (anE db e) hm' e1 eq ?_ ((fr.tr fυ).tr F2) k2
            rw [f2.i _ _ (fun q => by unfold mRd2 mPg mRow at q; omega), sυ, i1, eq]
            omega
        have mono : ∀ y, y ∈ A → y.1 = 4 * d + 2 → hs nm ≤ y.2.1 → y.2.1 < hs nm + 1024 → y.2.1 < e.2.1 := fun y hy w1 w2 w3 => by
          have a := sp.1 y hy
          have ly := h.lo (show y ∈ L by rw [eL]; exact List.mem_append_left _ hy)
          unfold kyE kap at a
          unfold rJ at ly lo
          omega
        refine ⟨fun ne => go σ28 cu28 f28 k28 s28 (by omega) (by omega) (fun y hy w1 w2 w3 => by rw [v28]; exact (hA y hy w1 w2 w3).2), fun eq σ29 e29 => ?_⟩
        rw [w32_id (x := gI σ28 92 0 + 1) (by unfold rI; omega)] at e29
        have v29 : gI σ29 92 0 = gI σ28 92 0 + 1 := by rw [e29, gI_sI1]
        have f29 : Fr (fun f o' => f = 92 ∧ o' = 0) σ28 σ29 := by rw [e29]; exact (Fr.rf _ _).sI ⟨rfl, rfl⟩
        refine go σ29 (cu28.fr f29 (fun g a b q => by omega)) (f28.tr (f29.mono (fun f o' q => Or.inr ⟨Or.inr q.1, q.2⟩))) (by rw [e29]; exact k28.sI (by show rI _; unfold rI; omega)) (by rw [f29.i _ _ (fun q => by omega)]; exact s28) (by omega) (by omega) (fun y hy w1 w2 w3 => ?_)
        have := mono y hy w1 w2 w3
        omega
  · have := q2 y hy
    unfold kyE kap at this
    omega
