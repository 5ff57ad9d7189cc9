/-! Store.find, whole -/
def mIc (o : Int) (f : Nat) (o' : Int) : Prop := ((385 ≤ f ∧ f ≤ 397) ∧ o' = o) ∨ ((576 ≤ f ∧ f ≤ 587) ∧ 320 * o ≤ o' ∧ o' < 320 * o + 320)
theorem sp_iclear2 {tv : Nat → Int} {cf : Cf} {σ : St} {o : Int} {Q : St → Prop} (ho : o = 0 ∨ o = 1) (hR : (gI σ 387 o < 0 ∧ gI σ 386 o = 0 ∧ PO σ o) ∨ ∃ L, IX σ o L ∧ L.length ≤ 890)
    (hQ : ∀ τ t, IX τ o [] → gI τ 390 o = 0 → krt τ o = [t] → gI τ 387 o = t → gI τ 584 t = 1 → gI τ 576 t = 0 → gI τ 577 t = 0 → Fr (mIc o) σ τ → Q τ) : wp_Index_clear cf tv o Q σ := by
  have b15 : ∀ υ, PO υ o → gI υ 386 o = 0 → Fr (mPf o) σ υ → wp_Index_clear_b15 cf tv o Q υ := by
    intro υ hp hf fr
    clear hR
    unfold wp_Index_clear_b15
    intro σ1 e1
    have f1 : gI σ1 386 o = 0 := by rw [e1, gI_sI, if_neg (fun q => absurd q.1 (by decide))]; exact hf
    have p1 : ∀ i, gA σ1 385 o i = gA υ 385 o i := fun i => by rw [e1]; rfl
    have po1 : PO σ1 o := by
      unfold PO at *
      rw [show gA σ1 385 o = gA υ 385 o from funext p1, f1]; rw [hf] at hp; exact hp
    have ol1 : gI σ1 390 o = 0 := by rw [e1, gI_sI, if_pos ⟨rfl, rfl⟩]
    have pr := (po1.2 0 (by omega) (by omega)).1
    refine sp_kfetch (z := gA σ1 385 o (gI σ1 386 o)) (by omega) rfl (by rw [f1]; omega) (fun σ2 a1 a2 a3 a4 a5 a6 f2 _ _ σ3 e3 => ?_)
    rw [f1] at a1 a2 a3 a4 a5 a6 f2 e3
    generalize ht : gA σ1 385 o 0 = t at *
    have tr : 0 ≤ t ∧ t < 640 := by omega
    have C : CH σ1 σ2 o [] [t] := CH.fetch po1 (by omega) (by omega) (z := t) (by rw [f1]; exact ht) (by rw [f1]; exact a1) (by rw [f1]; exact a2) a5 f2
    have f3 : Fr (fun f o' => f = 387 ∧ o' = o) σ2 σ3 := by rw [e3]; exact (Fr.rf _ _).sI ⟨rfl, rfl⟩
    have nr : ∀ f x, f ≠ 387 → ¬ (f = 387 ∧ x = o) := fun f x h q => h q.1
    obtain ⟨g1, g2⟩ := FP_fr (o := o) f3 ⟨nr _ _ (by decide), nr _ _ (by decide)⟩
    have r3 : gI σ3 387 o = t := by rw [e3, gI_sI, if_pos ⟨rfl, rfl⟩]
    have c3 : gI σ3 577 t = 0 := by rw [f3.i _ _ (nr _ _ (by decide))]; exact a4
    have l3 : gI σ3 576 t = 0 := by rw [f3.i _ _ (nr _ _ (by decide))]; exact a3
    have fr3 : gI σ3 584 t = 1 := by rw [f3.i _ _ (nr _ _ (by decide))]; exact a5
    have ol3 : gI σ3 390 o = 0 := by rw [f3.i _ _ (nr _ _ (by decide)), f2.i _ _ (fun q => by unfold mKf at q; omega)]; exact ol1
    refine hQ σ3 t ⟨0, t, r3, ⟨tr, l3, by rw [c3, if_pos rfl]; omega, fun k k0 k1 => by omega⟩, trivial, ?_, g2 C.2.2.1.1, fun x hx => ?_, ?_, by omega, ?_⟩ ol3 (krt_eq (l := 0) r3 l3) r3 fr3 l3 c3 ?_
    · show cat _ _ = []
      rw [c3]; rfl
    · rw [List.mem_singleton.mp hx]
      exact ⟨fun q => C.2.2.1.2 t (List.mem_singleton.mpr rfl) ((g1 t).mp q), by omega⟩
    · show ((1 : Nat) : Int) = _
      rw [f3.i _ _ (nr _ _ (by decide)), a1]; rfl
    · have : nfr σ3 (kl σ3 0 t) = 0 := by
        show nfr σ3 [t] = 0
        rw [nfr_cons, if_neg (by omega)]; rfl
      omega
    · refine (fr.mono (fun f o' q => ?_)).tr ?_
      · unfold mPf at q; exact Or.inl ⟨by omega, q.2⟩
      · have h1 : Fr (mIc o) υ σ1 := by rw [e1]; exact (Fr.rf _ _).sI (Or.inl ⟨by omega, rfl⟩)
        refine h1.tr ((f2.mono (fun f o' q => ?_)).tr (f3.mono (fun f o' q => Or.inl ⟨by omega, q.2⟩)))
        unfold mKf at q
        rcases q with q | q
        · exact Or.inl ⟨by omega, q.2⟩
        · exact Or.inr ⟨by omega, by omega⟩
  unfold wp_Index_clear
  rcases hR with ⟨h1, h2, h3⟩ | ⟨L, hI, hlen⟩
  · exact ⟨fun _ => b15 σ h3 h2 (Fr.rf _ _), fun q => absurd h1 q⟩
  · obtain ⟨l, z, i1, i2, i3, i4, i5, i6, i7, i8, i9⟩ := hI
    have c := i2.cnt
    have few := i2.few (by rw [i4]; omega)
    rw [i1]
    refine ⟨fun q => by omega, fun _ => ?_⟩
    refine sp_giveAll l 12 σ z _ _ _ _ (by omega) i2 i5 i6 (by omega) (fun τ fr hf hp _ _ => b15 τ hp (by omega) fr)
theorem sp_sfind {tv : Nat → Int} {cf : Cf} {σ : St} {o' o : Int} {dk0 : Int → Int} {db0 : Int → Int → Int} {Sp : Int → Int → (Int → Int → Int) → Prop} {B : Int} (hc : CfOK cf) (ho : o = 0 ∨ o = 1) {σc : St} {l : Nat} {z c lg lr sM nx tn tp : Int} {lm : Int → Int} {bl : List (Int × Int × Int × List (List Int))} {s' X V : Int} {S' : List (Int × Int × Int × (Int → Int)) × Int} {Q : St → Prop} (hrk : RK σ) (hD : DJ tv cf σ o' dk0 db0 Sp B) (hS : SpX Sp) (hI : (gI σ 387 o < 0 ∧ gI σ 386 o = 0 ∧ PO σ o) ∨ ∃ L, IX σ o L ∧ L.length ≤ 890)
    (hF : ∀ dk db, fnJ cf Sp dk0 db0 dk db → FC tv cf dk db σc l z c lg lr sM nx tn tp ∧ FS tv cf dk db σc l z c lg lr sM nx tn tp bl s' S' X ∧ FL2 tv cf dk db σc l z tn c lg lr s' X V S' lm ∧ LMo cf dk σc l z tn bl lm)
    (hQ : ∀ τ dk db L', DJ tv cf τ o dk db Sp B → fnJ cf Sp dk0 db0 dk db → FDo tv cf τ o dk db σc l z c lg lr sM nx tn tp s' S' L' X V lm → Fr (mFd o) σ τ → Q τ) : wp_Store_find cf tv o Q σ := by
  have hB : 24 ≤ cf.1 ∧ cf.1 ≤ 64 := hc.1
  unfold wp_Store_find
  refine sp_slose (fun τ1 w1 w2 w3 w4 w5 f1 k1 σ2 e2 => ?_)
  have f2 : Fr (fun f o' => f = 228 ∧ o' = o) τ1 σ2 := by rw [e2]; exact (Fr.rf _ _).sI ⟨rfl, rfl⟩
  have a2 : gI σ2 228 o = 0 := by rw [e2, gI_sI1]
  have k2 : RK σ2 := by rw [e2]; exact k1.sI (by show rJ 0; unfold rJ; omega)
  have D2 : DJ tv cf σ2 o' dk0 db0 Sp B := (hD.fr f1 (fun f o'' a q => by unfold rBI at a; unfold mLo at q; omega)).fr f2 (fun f o'' a q => by unfold rBI at a; omega)
  clear e2
  refine sp_jattach hc k2 D2 hS (fun τ3 dk db D3 fn mv f3 k3 _ => ?_)
  obtain ⟨hFC, hFS, hF2, hlm⟩ := hF dk db fn
  refine sp_spclear hc (fun τ4 u4 f4 k4 => ?_)
  have G4 : Fr (fun f o'' => mLo o f o'' ∨ (f = 228 ∧ o'' = o) ∨ mAt o f o'' ∨ ((f = 323 ∨ f = 324 ∨ f = 325) ∧ o'' = o)) σ τ4 := (((f1.mono (fun f o' q => Or.inl q)).tr (f2.mono (fun f o' q => Or.inr (Or.inl q)))).tr (f3.mono (fun f o' q => Or.inr (Or.inr (Or.inl q))))).tr (f4.mono (fun f o' q => Or.inr (Or.inr (Or.inr q))))
  have kf : ∀ f x, 576 ≤ f → f ≤ 587 → ¬ (mLo o f x ∨ (f = 228 ∧ x = o) ∨ mAt o f x ∨ ((f = 323 ∨ f = 324 ∨ f = 325) ∧ x = o)) := fun f x a b q => by unfold mLo mAt at q; omega
  have xf : ∀ f, 385 ≤ f → f ≤ 390 → ¬ (mLo o f o ∨ (f = 228 ∧ o = o) ∨ mAt o f o ∨ ((f = 323 ∨ f = 324 ∨ f = 325) ∧ o = o)) := fun f a b q => by unfold mLo mAt at q; omega
  have I4 : (gI τ4 387 o < 0 ∧ gI τ4 386 o = 0 ∧ PO τ4 o) ∨ ∃ L, IX τ4 o L ∧ L.length ≤ 890 := by
    rcases hI with ⟨q1, q2, q3⟩ | ⟨L, q1, q2⟩
    · refine Or.inl ⟨by rw [G4.i _ _ (xf _ (by decide) (by decide))]; exact q1, by rw [G4.i _ _ (xf _ (by decide) (by decide))]; exact q2, (FP_fr (o := o) G4 ⟨xf _ (by decide) (by decide), xf _ (by decide) (by decide)⟩).2 q3⟩
    · exact Or.inr ⟨L, q1.fr G4 kf xf, q2⟩
  refine sp_iclear2 ho I4 (fun τ5 t i5 i5b i5c i5d i5e i5f i5g f5 k5 => ?_)
  have D4 := D3.fr f4 (fun f o'' a q => by unfold rBI at a; omega)
  have D5 := D4.fr f5 (fun f o'' a q => by unfold rBI at a; unfold mIc at q; omega)
  have W2 := w1.fr f2 (fun w _ q => by omega)
  have W5 : noW τ5 o := ((W2.fr f3 (fun w _ q => by unfold mAt at q; omega)).fr f4 (fun w _ q => by omega)).fr f5 (fun w _ q => by unfold mIc at q; omega)
  refine sp_masters hc ho k5 D5 hFC.2.1 (fun τ6 mf f6 k6 K => ?_)
  have D6 := D5.fr f6 mMs_b
  have W6 := W5.fr f6 (fun w _ q => by unfold mMs mRow at q; omega)
  have kf6 : ∀ f x, 576 ≤ f → f ≤ 587 → ¬ mMs o f x := fun f x a b q => by unfold mMs mRow at q; omega
  have xf6 : ∀ f, 385 ≤ f → f ≤ 390 → ¬ mMs o f o := fun f a b q => by unfold mMs mRow at q; omega
  have I6 := i5.fr f6 kf6 xf6
  have st : ∀ f, (f = 205 ∨ f = 213 ∨ f = 223 ∨ f = 225) → gI τ6 f o = gI τ1 f o := by
    intro f hf
    rw [f6.i _ _ (fun q => by unfold mMs mRow at q; omega), f5.i _ _ (fun q => by unfold mIc at q; omega), f4.i _ _ (fun q => by omega), f3.i _ _ (fun q => by unfold mAt at q; omega), f2.i _ _ (fun q => by omega)]
  have ag6 : gI τ6 228 o = 0 := by rw [f6.i _ _ (fun q => by unfold mMs mRow at q; omega), f5.i _ _ (fun q => by unfold mIc at q; omega), f4.i _ _ (fun q => by omega), f3.i _ _ (fun q => by unfold mAt at q; omega)]; exact a2
  have sp6 : ∀ m, 0 ≤ m → m < cf.1 - 6 → gA τ6 324 o m = 0 ∧ gA τ6 325 o m = 0 := by
    intro m m0 m1
    rw [f6.a 324 o (fun q => by unfold mMs mRow at q; omega), f6.a 325 o (fun q => by unfold mMs mRow at q; omega), f5.a 324 o (fun q => by unfold mIc at q; omega), f5.a 325 o (fun q => by unfold mIc at q; omega)]
    exact (u4 m m0 m1).2
  have us6 : ∀ m, 0 ≤ m → m < cf.1 - 6 → gA τ6 323 o m = 0 := by
    intro m m0 m1
    rw [f6.a 323 o (fun q => by unfold mMs mRow at q; omega), f5.a 323 o (fun q => by unfold mIc at q; omega)]
    exact (u4 m m0 m1).1
  have mv6 : gI τ6 265 o = -1 := by
    rw [f6.i _ _ (fun q => by unfold mMs mRow at q; omega), f5.i _ _ (fun q => by unfold mIc at q; omega), f4.i _ _ (fun q => by omega)]; exact mv
  refine sp_find1 (bl := bl) (s' := s') (S' := S') (X := X) (V := V) (t := t) hc ho D6 W6 k6 hFC hFS hF2 hlm I6 ?_ ?_ ?_ ?_ sp6 mf ag6 (fun τ L' h1 h2 h3 h4 h5 h6 h7 h8 h8b h9 h10 => ?_)
  · rw [f6.i _ _ (xf6 _ (by decide) (by decide))]; exact i5b
  · rw [f6.i _ _ (xf6 _ (by decide) (by decide))]; exact i5d
  · rw [f6.i _ _ (kf6 _ _ (by decide) (by decide))]; exact i5f
  · rw [f6.i _ _ (kf6 _ _ (by decide) (by decide))]; exact i5g
  · have nb : ∀ f o', rBI o f o' → ¬ (((f = 324 ∨ f = 325) ∧ o' = o) ∨ mIx o f o' ∨ mRx o f o' ∨ mRo o f o') := fun f o' a q => by
      unfold rBI at a
      unfold mRo mRx mRp mRd2 mPg mRow mAp mIx mOr at q
      omega
    have sf : ∀ f, (f = 205 ∨ f = 213 ∨ f = 223 ∨ f = 225 ∨ f = 212 ∨ f = 208 ∨ f = 214 ∨ f = 215 ∨ f = 216) → gI τ f o = gI τ6 f o := fun f hf => h10.i _ _ (fun q => by
      unfold mRo mRx mRp mRd2 mPg mRow mAp mIx mOr at q
      omega)
    obtain ⟨m1, m2, m3, m4, m5, m6, m7, m8, m9⟩ := mf
    refine hQ τ dk db L' (D6.fr h10 nb) fn ⟨h1, h2, h3, h4, ?_, h5, h6, h7, h8, h8b, ⟨?_, ?_, ?_, ?_, ?_⟩, ⟨?_, ?_, ?_, ?_⟩, h9, ?_⟩ ?_
    · intro m m0 m1'
      rw [h10.a 323 o (fun q => by unfold mRo mRx mRp mRd2 mPg mRow mAp mIx mOr at q; omega)]; exact us6 m m0 m1'
    · rw [sf _ (by omega)]; exact m1
    · rw [sf _ (by omega)]; exact m2
    · rw [sf _ (by omega)]; exact m7
    · rw [sf _ (by omega)]; exact m8
    · rw [sf _ (by omega)]; exact m9
    · rw [sf _ (by omega), st _ (by omega)]; exact w2
    · rw [sf _ (by omega), st _ (by omega)]; exact w3
    · rw [sf _ (by omega), st _ (by omega)]; exact w4
    · rw [sf _ (by omega), st _ (by omega)]; exact w5
    · rw [h10.i 265 o (nb _ _ (by unfold rBI; omega))]; exact mv6
    · refine (((G4.mono ?_).tr (f5.mono ?_)).tr (f6.mono ?_)).tr (h10.mono ?_)
      · intro f o' q
        unfold mLo at q
        rcases q with q | q | q | q
        · rcases q with q | q
          · exact Or.inr (Or.inr (Or.inr (Or.inr (Or.inr (Or.inr q)))))
          · exact Or.inr (Or.inr (Or.inr (Or.inr (Or.inl ⟨by omega, q.2⟩))))
        · exact Or.inr (Or.inr (Or.inr (Or.inr (Or.inl ⟨by omega, q.2⟩))))
        · exact Or.inr (Or.inl q)
        · exact Or.inr (Or.inr (Or.inl q))
      · intro f o' q
        rcases q with q | q
        · exact Or.inr (Or.inr (Or.inr (Or.inl (Or.inl q))))
        · exact Or.inr (Or.inr (Or.inr (Or.inl (Or.inr (Or.inl q)))))
      · intro f o' q
        rcases q with (q | q) | q
        · exact Or.inl q
        · exact Or.inr (Or.inr (Or.inr (Or.inr (Or.inr (Or.inl ⟨q.1, Or.inr q.2⟩)))))
        · exact Or.inr (Or.inr (Or.inr (Or.inr (Or.inl ⟨by have := q.1; omega, q.2⟩))))
      · intro f o' q
        have row4 : ((f = 135 ∧ o' = 0) ∨ mRow (o + 4) f o') → mFd o f o' := fun q => by
          rcases q with q | q
          · exact Or.inl q
          · exact Or.inr (Or.inr (Or.inr (Or.inr (Or.inr (Or.inl ⟨q.1, Or.inr q.2⟩)))))
        have or' : mOr o f o' → mFd o f o' := fun q => Or.inr (Or.inr (Or.inr (Or.inr (Or.inl ⟨by have := q.1; omega, q.2⟩))))
        have ix' : mIx o f o' → mFd o f o' := fun q => Or.inr (Or.inr (Or.inr (Or.inl q)))
        rcases q with q | q | q | q
        · exact Or.inr (Or.inr (Or.inl ⟨by have := q.1; omega, q.2⟩))
        · exact ix' q
        · rcases q with q | q
          · rcases q with q | q | q
            · rcases q with q | q
              · rcases q with q | q
                · exact Or.inl q
                · exact Or.inr (Or.inr (Or.inr (Or.inr (Or.inl ⟨by have := q.1; omega, q.2⟩))))
              · exact Or.inr (Or.inr (Or.inr (Or.inr (Or.inr (Or.inl ⟨q.1, Or.inl q.2⟩)))))
            · rcases q with q | q | q
              · exact ix' q
              · exact or' q
              · exact Or.inr (Or.inr (Or.inr (Or.inr (Or.inl ⟨by have := q.1; omega, q.2⟩))))
            · exact Or.inr (Or.inr (Or.inr (Or.inr (Or.inl ⟨by have := q.1; omega, q.2⟩))))
          · exact row4 q
        · rcases q with q | q
          · exact row4 q
          · exact or' q
