/-! Store.hand: numbered, written, counted -/
theorem sW.inc {tv : Nat → Int} {g : Int → Int} {Y : Int} : ∀ {t : List (List Int)} {W : List (Int × (List (Int × Int × Int × (Int → Int)) × Int))} {a s : Int} {S : List (Int × Int × Int × (Int → Int)) × Int} {b s' : Int} {S' : List (Int × Int × Int × (Int → Int)) × Int}, sW tv g Y t W a s S b s' S' → ∀ A x C, W = A ++ x :: C → ∀ y, y ∈ C → x.1 < y.1
  | [], [], _, _, _, _, _, _, _, A, x, C, e, _, _ => by
    have := congrArg List.length e
    rw [List.length_append, List.length_cons] at this
    exact absurd this (by show ¬ (0 = _); omega)
  | u :: t, z :: W, a, s, S, b, s', S', h, A, x, C, e, y, hy => by
    obtain ⟨s1, h1, hy1, h2⟩ := h
    cases A with
    | nil =>
      have e1 : z = x := (List.cons.inj e).1
      have e2 : W = C := (List.cons.inj e).2
      rw [← e1]
      exact (h2.lt y (by rw [e2]; exact hy)).1
    | cons q A => exact h2.inc A x C (List.cons.inj e).2 y hy
  | [], _ :: _, _, _, _, _, _, _, h, _, _, _, _, _, _ => absurd h (fun q => q)
  | _ :: _, [], _, _, _, _, _, _, h, _, _, _, _, _, _ => absurd h (fun q => q)
theorem gN_lo {tv : Nat → Int} {g : Int → Int} {s0 : Int} : ∀ {u : List Int} {a s : Int} {S : List (Int × Int × Int × (Int → Int)) × Int} {b s' : Int} {S' : List (Int × Int × Int × (Int → Int)) × Int}, gN tv g u a s S b s' S' → s0 ≤ s → gN tv g u a s0 S b s' S'
  | [], _, _, _, _, _, _, w, _ => absurd w (fun q => q)
  | [n], a, s, S, b, s', S', ⟨h1, h2, h3, h4⟩, e => ⟨h1, h2, by omega, h4⟩
  | n :: m :: t, a, s, S, b, s', S', ⟨h1, h2, h3, h4⟩, e => ⟨h1, h2, by omega, h4⟩
/-- behind a group that was handed over -/
def HNo (tv : Nat → Int) (cf : Cf) (σ τ : St) (dk' : Int → Int) (db' : Int → Int → Int) (u : List Int) (S : List (Int × Int × Int × (Int → Int)) × Int) (e : Int) (S2 : List (Int × Int × Int × (Int → Int)) × Int) (W1 : List (Int × (List (Int × Int × Int × (Int → Int)) × Int))) (k : Nat) : Prop := (k ≤ W1.length ∧ (∀ x, x ∈ W1.take k → x.1 ≤ (gI σ 452 0 + e) / 128 * 128) ∧ (∀ x, x ∈ W1.drop k → (gI σ 452 0 + e) / 128 * 128 < x.1) ∧ (W1.drop k).length ≤ 4) ∧ (gI τ 206 0 = gI σ 451 0 ∧ gI τ 207 0 = gI σ 452 0 ∧ gI τ 451 0 = gI σ 451 0 ∧ gI τ 452 0 = gI σ 452 0 + e) ∧ (∃ s0 s1, gN tv (gA τ 512 6) u 0 s0 S e s1 S2 ∧ s1 ≤ gI τ 202 0) ∧ (∀ i, 0 ≤ i → i < e → db' (gI σ 451 0) (gI σ 452 0 + i) = gA τ 512 6 i) ∧ onC tv (db' (gI σ 451 0)) (gI σ 452 0) ∧ eE τ 0 dk' (gI σ 451 0) = gI σ 452 0 + e ∧ gA τ 324 0 (gI σ 451 0) ≤ gI σ 452 0 ∧ gI τ 514 6 = e
theorem sp_hand2 {tv : Nat → Int} {cf : Cf} {σ : St} {dk : Int → Int} {db : Int → Int → Int} {B e : Int} {r : RT} {L : List (Int × Int × Int × Int × Int × Int)} {S' S2 : List (Int × Int × Int × (Int → Int)) × Int} {W : List (Int × (List (Int × Int × Int × (Int → Int)) × Int))} {u : List Int} {Q : St → Prop} (hc : CfOK cf) (h : PB tv cf σ dk db L S' W r B) (hB : B + 1 < 1073741000) (he : gI σ 514 6 = e) (he2 : e ≤ 512) (hg : gB (gA σ 512 6) u 0 (AM db L, gI σ 203 0) e S2) (htk : gI σ 452 0 + e ≤ (cf.2.1 - 2) * 128)
    (hQ : ∀ τ dk' db' k, PG tv cf τ dk' db' L (laS S' ((W ++ [(gI σ 452 0 + e, S2)]).take k)) ((W ++ [(gI σ 452 0 + e, S2)]).drop k) r (B + 1) → AM db' L = AM db L → HNo tv cf σ τ dk' db' u (AM db L, gI σ 203 0) e S2 (W ++ [(gI σ 452 0 + e, S2)]) k → Fr mJr σ τ → RK τ → Q τ) : wp_Store_hand_b22 cf tv 0 6 Q σ := by
  have hR : 0 ≤ cf.2.2 ∧ cf.2.2 ≤ 4 := hc.2.2
  have hP : 8 ≤ cf.2.1 ∧ cf.2.1 ≤ 32 := hc.2.1
  have hBl : 24 ≤ cf.1 ∧ cf.1 ≤ 64 := hc.1
  obtain ⟨⟨σc, l, z, c, lg, lr, sv, nx, tn, tp, bl, s, s', b0, V, jn, sJ, hI, ⟨hD, hb0⟩, hO, hFX, hJ, hBD, hlo, ⟨hcB, hsB, hsJ, hsd⟩, hV, hHD, hXO⟩, hla, hn1⟩ := h
  have hS := hI.1
  have hs1 := hI.2.2.2.1
  have hlg : lg = 2 ∨ lg = 3 := hFX.1.1.1
  rcases hJ with ⟨q, -⟩ | ⟨-, bl0, a, b, t, t2, w1, w2, w5, w6, w7⟩
  · exact absurd q hn1
  have rn := hS.rn (w := 0) (Or.inl rfl) hn1
  have us := (hS.2.2.2.1 0 (Or.inl rfl) hn1).1
  have fl0 : lmF dk (gI σ 451 0) = gI σ 452 0 / 128 * 128 := by unfold lmF; omega
  have wf := w2.few w7 (by omega)
  have r6 : rowL 6 = 512 := by unfold rowL; rw [if_neg (by omega), if_neg (by omega), if_pos (by omega)]
  have gl := gB_le hg
  unfold wp_Store_hand_b22
  refine sp_number (tv := tv) (e := e) hS.1.2 hs1.1 ⟨hs1.2, by omega⟩ he (by omega) hg (fun τ1 g1 s1 f1 k1 _ σ64 e64 => ?_)
  have f164 : Fr (fun f o' => f = 206 ∧ o' = 0) τ1 σ64 := by rw [e64]; exact (Fr.rf _ _).sI ⟨rfl, rfl⟩
  have F64 : Fr mJr σ σ64 := (f1.mono (fun f o' q => by
    rcases q with q | q
    · exact Or.inr (Or.inr ⟨by omega, q.2⟩)
    · exact Or.inr (Or.inl ⟨by omega, q.2⟩))).tr (f164.mono (fun f o' q => Or.inr (Or.inl ⟨by omega, q.2⟩)))
  have f64s : Fr (fun f o' => mNu 0 6 f o' ∨ (f = 206 ∧ o' = 0)) σ σ64 := (f1.mono (fun f o' q => Or.inl q)).tr (f164.mono (fun f o' q => Or.inr q))
  have n64 : gI σ64 451 0 = gI σ 451 0 := f64s.i _ _ (fun q => by unfold mNu at q; omega)
  have p64 : gI σ64 452 0 = gI σ 452 0 := f64s.i _ _ (fun q => by unfold mNu at q; omega)
  have en64 : gI σ64 514 6 = e := by rw [f64s.i _ _ (fun q => by unfold mNu at q; omega)]; exact he
  have k64 : RK σ64 := by
    rw [e64]
    refine k1.sI ?_
    show rI _
    exact k1.i 451 0 (by decide)
  have S64 := hS.fr f64s (fun f o' a q => by unfold mSA isW at a; unfold mNu at q; omega) k64
  have D64 := hD.fr f64s (fun f o' a q => by unfold rBI at a; unfold mNu at q; omega)
  have g64 : gA σ64 512 6 = gA τ1 512 6 := f164.a _ _ (fun q => by omega)
  have gn64 : gI σ64 206 0 = gI σ 451 0 := by
    rw [e64, gI_sI1]
    exact f1.i _ _ (fun q => by unfold mNu at q; omega)
  rw [en64]
  refine sp_put3 (w := 0) (f := 512) (q := 6) (a := 0) (len := e) hc (Or.inl rfl) k64 (Or.inl rfl) D64 S64.1.1 n64 hn1 p64 (by omega) htk (by decide) (by omega) (by rw [aln_row, r6]; omega) (by omega) (fun q => by unfold mWr mBw at q; omega) (fun τ2 dk2 D2 W2 G2 hn2 hp2 f2 k2 _ _ => ?_)
  generalize hn : gI σ 451 0 = n at *
  generalize hp : gI σ 452 0 = p at *
  generalize hdb2 : putB db n p e (fun i => gA σ64 512 6 (0 + i)) = db2 at D2 W2 G2
  have c2 : ∀ i, 0 ≤ i → i < e → db2 n (p + i) = gA τ1 512 6 i := fun i i0 i1 => by
    rw [← hdb2]; unfold putB
    rw [if_pos ⟨rfl, by omega, by omega⟩]
    show gA σ64 512 6 (0 + (p + i - p)) = _
    rw [g64]
    congr 1
    omega
  have c2o : ∀ m q, (m ≠ n ∨ q < p) → db2 m q = db m q := fun m q w => by
    rw [← hdb2]; unfold putB
    rw [if_neg (fun y => by omega)]
  have ep : eE σ 0 dk n = p := by rw [eE_at hS.1.1 (Or.inl rfl) hn hn1]; exact hp
  have ep64 : eE σ64 0 dk n = p := by rw [eE_at S64.1.1 (Or.inl rfl) n64 hn1]; exact p64
  have ep2 : eE τ2 0 dk2 n = p + e := by rw [eE_at W2 (Or.inl rfl) hn2 hn1]; exact hp2
  have gd : gN tv (db2 n) u p s (AM db L, gI σ 203 0) (p + e) (s + u.length) S2 := by
    have := gN_sh (h := db2 n) (d := p) g1 (fun q q0 q1 => by rw [show q + p = p + q by omega]; exact c2 q q0 q1)
    rw [Int.zero_add, show e + p = p + e by omega] at this
    exact this
  have S2' : SA tv cf τ2 dk2 db2 L := S64.grow hc (w := 0) (Or.inl rfl) n64 hn1 hn2 W2 G2 f2 k2 (t := u) (by rw [ep64, ep2]; exact gN_chn gd)
  have on2 : onC tv (db2 n) p := by
    have q := ((hS.2.2.1 n rn.1.1 rn.1.2).2.2.2.2.2.2 (by omega)).1 ⟨0, Or.inl rfl, hn⟩
    rw [ep] at q
    exact onC.ext q (fun i i0 i1 => c2o n i (Or.inr i1))
  intro σ67 e67 σ68 e68
  have f67 : Fr (fun f o' => f = 207 ∧ o' = 0) τ2 σ67 := by rw [e67]; exact (Fr.rf _ _).sI ⟨rfl, rfl⟩
  have k67 : RK σ67 := by rw [e67]; exact k2.sI (by show rI p; unfold rI; omega)
  have w67 : gI σ67 205 0 = W.length := by
    rw [f67.i _ _ (fun q => by omega), f2.i _ _ (fun q => by unfold mWr mBw at q; omega), f64s.i _ _ (fun q => by unfold mNu at q; omega)]
    exact w5
  rw [w67, w32_id (by unfold rI; omega)] at e68
  rw [w67]
  refine ⟨⟨by omega, by omega⟩, fun σ69 e69 y2 ey => ?_⟩
  have p68 : gI σ68 452 0 = p + e := by
    rw [e68, gI_sIo (by decide), f67.i _ _ (fun q => by omega)]; exact hp2
  rw [p68] at e69
  have f769 : Fr (fun f o' => (f = 205 ∨ f = 204) ∧ o' = 0) σ67 σ69 := by rw [e69, e68]; exact ((Fr.rf _ _).sI ⟨Or.inl rfl, rfl⟩).sA ⟨Or.inr rfl, rfl⟩
  have k69 : RK σ69 := by
    rw [e69, e68]
    exact (k67.sI (by show rI _; unfold rI; omega)).sA (by show rI (p + e); unfold rI; omega)
  have p69 : gI σ69 452 0 = p + e := by rw [e69]; exact p68
  have w69 : gI σ69 205 0 = W.length + 1 := by
    rw [e69]
    show gI σ68 205 0 = _
    rw [e68, gI_sI1]
  rw [p69, jrm_nn (by omega) (by omega) (by omega), w32_id (by unfold rI; omega)] at ey
  have ey2 : y2 = (p + e) / 128 * 128 := by omega
  rw [ey2]
  generalize hW1 : W ++ [(p + e, S2)] = W1 at *
  have W1l : W1.length = W.length + 1 := by rw [← hW1, List.length_append]; rfl
  have ed69 : cat1 (gA σ69 204 0) W1.length = W1.map (fun x => x.1) := by
    rw [W1l, cat1_S, ← hW1, List.map_append, ← w6]
    congr 1
    · refine cat1_ext _ (fun i i0 i1 => ?_)
      rw [e69, gA_sA, if_neg (fun q => by omega), e68]
      show gA σ67 204 0 i = _
      rw [f67.a _ _ (fun q => by omega), f2.a _ _ (fun q => by unfold mWr mBw at q; omega), f64s.a _ _ (fun q => by unfold mNu at q; omega)]
    · rw [e69, gA_sA, if_pos ⟨rfl, rfl, rfl⟩]; rfl
  have sw1 : sW tv (db2 n) (lgY dk db lg sv) (t2 ++ [u]) W1 b s' S' (p + e) (s + u.length) S2 := by
    rw [← hW1]
    refine (w2.ext (h := db2 n) (fun q q0 q1 => c2o n q (Or.inr q1))).snoc ?_ (by omega)
    rw [hla]
    exact gN_lo gd hsJ
  refine sp_gone (safe := (p + e) / 128 * 128) k69 (by rw [w69, W1l]; omega) (by omega) ed69 (sw1.inc) (fun k τ k1' t1 t2' wt et fτ kτ => ?_)
  have fz : Fr (fun f o' => (f = 207 ∨ f = 205 ∨ f = 204) ∧ o' = 0) τ2 τ := ((f67.mono (fun f o' q => ⟨Or.inl q.1, q.2⟩)).tr (f769.mono (fun f o' q => ⟨Or.inr q.1, q.2⟩))).tr (fτ.mono (fun f o' q => ⟨Or.inr q.1, q.2⟩))
  have F : Fr mJr σ τ := (F64.tr (f2.mono (fun f o' q => Or.inl q))).tr (fz.mono (fun f o' q => Or.inr (Or.inl ⟨by omega, q.2⟩)))
  have Sτ := S2'.fr fz (fun f o' a q => by unfold mSA isW at a; omega) kτ
  have Dτ := D2.fr fz (fun f o' a q => by unfold rBI at a; omega)
  have nτ : gI τ 451 0 = n := (fz.i _ _ (fun q => by omega)).trans hn2
  have pτ : gI τ 452 0 = p + e := (fz.i _ _ (fun q => by omega)).trans hp2
  have sτ : gI τ 202 0 = s + u.length := by
    rw [fz.i _ _ (fun q => by omega), f2.i _ _ (fun q => by unfold mWr mBw at q; omega), f164.i _ _ (fun q => by omega)]; exact s1
  have gnτ : gI τ 206 0 = n := by
    rw [fz.i _ _ (fun q => by omega), f2.i _ _ (fun q => by unfold mWr mBw at q; omega)]; exact gn64
  have gpτ : gI τ 207 0 = p := by
    rw [fτ.i _ _ (fun q => by omega), f769.i _ _ (fun q => by omega), e67, gI_sI1]
  have bτ : gA τ 512 6 = gA τ1 512 6 := by
    rw [fz.a _ _ (fun q => by omega), f2.a _ _ (fun q => by unfold mWr mBw at q; omega)]; exact g64
  have LG : LGo cf σ τ dk dk2 db db2 := ((LGo.fr f64s (fun f w _ a b q => by unfold mNu at q; omega)).tr (G2.lg rn.1.1)).tr (LGo.fr fz (fun f w _ a b q => by omega))
  have rn2 := S2'.rn (w := 0) (Or.inl rfl) (by rw [hn2]; exact hn1)
  rw [hn2, hp2] at rn2
  have lm2 : lmF dk2 n = (p + e) / 128 * 128 := by unfold lmF; omega
  obtain ⟨s3, sa, sb⟩ := sw1.split (k := k)
  have hb : b ≤ lmF dk n := by
    have q := hFX.2.1.2.1
    rw [w1] at q
    obtain ⟨x1, X1, -, y⟩ := bR.app1 q
    exact y.2.2.2.1
  have hb3 : laE b (W1.take k) ≤ lmF dk2 n := by
    rw [lm2]
    exact laE_take (by omega) t1
  have hgt : ∃ v3, gT tv (db2 n) (lmF dk2 n) v3 (laE b (W1.take k)) s3 := by
    rw [lm2]
    match hd1 : (t2 ++ [u]).drop k, hd2 : W1.drop k, sb with
    | [], [], sb => exact ⟨[], Or.inl (Or.inl (by have := sb.1; omega))⟩
    | u1 :: t3, x :: W3, ⟨s4, q1, q2, q3⟩ => exact gN_tail q1 (t2' x (by rw [hd2]; exact List.mem_cons_self))
  obtain ⟨v3, hgt⟩ := hgt
  have lsb := sM_le sb.sM
  have la3 := sb.la
  have d1 : ∀ m, m ≠ n → dk2 m = dk m ∧ ∀ q, db2 m q = db m q := fun m ne => ⟨(G2.1 m ne).1, fun q => c2o m q (Or.inl ne)⟩
  have low : ∀ m, 0 ≤ m → m < 4 → dk2 m = dk m := fun m m0 m1 => (d1 m (by omega)).1
  have fx : FX tv cf dk2 db2 σc l z c lg lr sv nx tn tp (bl0 ++ [(n, a, laE b (W1.take k), t ++ (t2 ++ [u]).take k)]) s3 (laS S' (W1.take k)) (s + u.length) V jn := by
    rw [w1] at hFX
    exact hFX.jr hc (v3 := v3) hO.2.1.1 (LG.dg (tv := tv) hS) low (fun m m0 ne => by unfold lmF; rw [(d1 m ne).1]) sa.sM hb3 hgt ⟨by omega, lsb.2⟩
  obtain ⟨n1, v1, -, j1, -, lt1, cs1⟩ := gN_cases gd
  have sr1 : srl (db2 n) p ≤ s + u.length := by
    rcases cs1 with q | q
    · omega
    · have := gN_le q.2; omega
  obtain ⟨pg, am⟩ := PG.jr hc hI hO (fun _ p0 => by
    rw [hn]
    have p0' : p = 0 := by omega
    have eq : eE τ 0 dk2 n = p + e := by rw [eE_fr fz (fun f w _ a b q => by omega)]; exact ep2
    have g5 := gN_40 gd
    have j2 := j1.1.2.1
    have j3 := j1.n
    rw [p0'] at j2 sr1
    rw [Int.zero_add] at j2
    exact ⟨by omega, by omega, sr1⟩) (bl' := bl0 ++ [(n, a, laE b (W1.take k), t ++ (t2 ++ [u]).take k)]) (W := W1.drop k) (sJ := s + u.length) fx (Or.inr ⟨by rw [nτ]; exact hn1, bl0, a, laE b (W1.take k), t ++ (t2 ++ [u]).take k, (t2 ++ [u]).drop k, by rw [nτ], by rw [nτ, pτ, ← la3.2.2]; exact sb, wt, et, fun x hx => by rw [nτ, lm2]; exact t2' x hx⟩) hBD (by rw [w1, List.map_append, List.map_append]; rfl) hlo (show c ≤ B + 1 by omega) ⟨sτ, by omega, by omega, Int.le_refl _, by omega⟩ hV hHD hXO Sτ (Dτ.le (by omega) hB) hb0 (by omega) LG (fun m ne => d1 m (by rw [← hn]; exact ne)) F
  refine hQ τ dk2 db2 k pg am ⟨⟨k1', by rw [hp]; exact t1, by rw [hp]; exact t2', sb.few (fun x hx => t2' x hx) (by omega)⟩, ⟨by rw [hn]; exact gnτ, by rw [hp]; exact gpτ, by rw [hn]; exact nτ, by rw [hp]; exact pτ⟩, ⟨s, s + u.length, by rw [bτ]; exact g1, by rw [sτ]; exact Int.le_refl _⟩, fun i i0 i1 => by rw [hn, hp, bτ]; exact c2 i i0 i1, by rw [hn, hp]; exact on2, ?_, ?_, ?_⟩ F kτ
  · rw [hn, hp, eE_fr fz (fun f w _ a b q => by omega)]
    exact ep2
  · rw [hn, hp, fz.a _ _ (fun q => by omega), f2.a _ _ (fun q => by unfold mWr mBw at q; omega), f64s.a _ _ (fun q => by unfold mNu at q; omega)]
    have := (hS.2.2.1 n rn.1.1 rn.1.2).2.2.2.1
    omega
  · rw [fz.i _ _ (fun q => by omega), f2.i _ _ (fun q => by unfold mWr mBw at q; omega)]; exact en64
