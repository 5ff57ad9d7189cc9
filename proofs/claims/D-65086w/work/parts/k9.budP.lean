/-! Store.bud -/
/-- outside of a commit, with a bud that takes what is handed over -/
def PB (tv : Nat → Int) (cf : Cf) (σ : St) (dk : Int → Int) (db : Int → Int → Int) (L : List (Int × Int × Int × Int × Int × Int)) (S' : List (Int × Int × Int × (Int → Int)) × Int) (W : List (Int × (List (Int × Int × Int × (Int → Int)) × Int))) (r : RT) (B : Int) : Prop :=
  (∃ (σc : St) (l : Nat) (z c lg lr sv nx tn tp : Int) (bl : List (Int × Int × Int × List (List Int))) (s s' b0 V jn sJ : Int), SIc tv cf σ dk db L s B ∧ (DJ tv cf σ 0 dk db (SpC cf c b0 r) B ∧ b0 ≤ lr) ∧ ONx tv cf σ dk db L c lg s ∧ FX tv cf dk db σc l z c lg lr sv nx tn tp bl s' S' s V jn ∧ JI tv σ dk db bl s' S' W (lgY dk db lg sv) sJ ∧ BDl σ bl ∧ (gI σ 209 0 = dk lg ∧ gI σ 213 0 = 0) ∧ (c ≤ B ∧ s ≤ 1000000 * B ∧ sJ ≤ s ∧ s ≤ max (lgY dk db lg sv) sJ) ∧ VCl tv cf σ dk db L ∧ HDv cf σ ∧ XO σ σc l z bl) ∧ laS S' W = (AM db L, gI σ 203 0) ∧ gI σ 451 0 ≠ -1
theorem PR.pb {tv : Nat → Int} {cf : Cf} {σ : St} {dk : Int → Int} {db : Int → Int → Int} {L : List (Int × Int × Int × Int × Int × Int)} {S' : List (Int × Int × Int × (Int → Int)) × Int} {W : List (Int × (List (Int × Int × Int × (Int → Int)) × Int))} {r : RT} {B : Int} (h : PR tv cf σ dk db L S' W r B) (hn : gI σ 451 0 ≠ -1) : PB tv cf σ dk db L S' W r B := by
  obtain ⟨⟨σc, l, z, c, lg, lr, sv, nx, tn, tp, bl, s, s', b0, V, jn, sJ, hI, hD, hO, hFX, hJ, hBD, hlo, hcb, hV, hHD, hXO⟩, hla⟩ := h
  exact ⟨⟨σc, l, z, c, lg, lr, sv, nx, tn, tp, bl, s, s', b0, V, jn, sJ, hI, hD, hO.x, hFX, hJ, hBD, hlo, hcb, hV, hHD, hXO⟩, hla, hn⟩
theorem frS2 {M : Nat → Int → Prop} {a b : St} (h : Fr M a b) (f : Nat) (o v : Int) : Fr M (sI a f o v) (sI b f o v) := fun f' o' n => by
  refine ⟨?_, fun i => (h f' o' n).2 i⟩
  rw [gI_sI, gI_sI]
  split
  · rfl
  · exact (h f' o' n).1
def mBq (f : Nat) (o' : Int) : Prop := mSf 0 f o' ∨ mLb 0 f o' ∨ ((f = 451 ∨ f = 452) ∧ o' = 0)
theorem mBq_n {f : Nat} {o' : Int} (q : mBq f o') : mBw 0 f o' ∨ mMv 0 f o' ∨ mRow 4 f o' ∨ ((f = 323 ∨ f = 324 ∨ f = 325 ∨ f = 202 ∨ f = 209 ∨ f = 210 ∨ f = 211 ∨ f = 451 ∨ f = 452) ∧ o' = 0) := by
  unfold mBq mSf mLb at q
  rcases q with (q | q) | (q | q | q) | q
  · exact Or.inr (Or.inl q)
  · exact Or.inr (Or.inr (Or.inr ⟨by omega, q.2⟩))
  · exact Or.inl q
  · exact Or.inr (Or.inr (Or.inl q))
  · exact Or.inr (Or.inr (Or.inr ⟨by omega, q.2⟩))
  · exact Or.inr (Or.inr (Or.inr ⟨by omega, q.2⟩))
/-- the last steps: a number, the log tells it, the head takes it -/
theorem sp_bud2 {tv : Nat → Int} {cf : Cf} {σ : St} {dk : Int → Int} {db : Int → Int → Int} {B : Int} {r : RT} {L : List (Int × Int × Int × Int × Int × Int)} {S' : List (Int × Int × Int × (Int → Int)) × Int} {Q : St → Prop} (hc : CfOK cf) (h : PR tv cf σ dk db L S' [] r B) (hn0 : gI σ 451 0 = -1) (hE : 1 ≤ emp cf (gA σ 323 0)) (hb3 : gI σ 211 0 ≤ 3) (hB : B + 1 < 1073741000)
    (hQ : ∀ τ dk' db' k, PB tv cf τ dk' db' L S' [] r (B + 1) → AM db' L = AM db L → gI τ 452 0 = 0 → gA σ 323 0 k = 0 → (4 + cf.2.2 ≤ k ∧ k < cf.1 - 6) → gA τ 323 0 = upF (gA σ 323 0) k 2 → gA τ 325 0 = upF (gA σ 325 0) k 0 → Fr mBq σ τ → RK τ → Q τ) : wp_Space_fetch cf tv 0 (fun r_16 σ_17 => rI r_16 → RK σ_17 → wp_Store_logBud cf tv 0 r_16 0 (fun σ_19 => RK σ_19 → wp_Writer_open cf tv 0 r_16 (fun σ_21 => RK σ_21 → Q σ_21) σ_19) σ_17) σ := by
  have hR : 0 ≤ cf.2.2 ∧ cf.2.2 ≤ 4 := hc.2.2
  have hP : 8 ≤ cf.2.1 ∧ cf.2.1 ≤ 32 := hc.2.1
  have hBl : 24 ≤ cf.1 ∧ cf.1 ≤ 64 := hc.1
  obtain ⟨⟨σc, l, z, c, lg, lr, sv, nx, tn, tp, bl, s, s', b0, V, jn, sJ, hI, ⟨hD, hb0⟩, hO, hFX, hJ, hBD, ⟨hlo, hcm⟩, ⟨hcB, hsB, hsJ, hsd⟩, hV, hHD, hXO⟩, hla⟩ := h
  obtain ⟨hS, ⟨hL, hkm⟩, hnx, ⟨hs1, hs2⟩, ⟨ho1, ho2⟩, hB0, hES⟩ := hI
  have hlg : lg = 2 ∨ lg = 3 := hFX.1.1.1
  have d1 : 1 ≤ dk lg := hFX.1.2.2.2.2.1.1
  have w0 : gI σ 205 0 = 0 ∧ sJ = s' := by
    rcases hJ with ⟨q1, q2, q3, q4⟩ | ⟨q, -⟩
    · exact ⟨q2, q4⟩
    · exact absurd hn0 q
  have blen : gI σ 211 0 = bl.length := by
    have a := congrArg List.length hBD.2
    rw [cat1_len, List.length_map] at a
    have := hBD.1
    omega
  have dlen : dk lg = 1 + bl.length := hFX.2.1.1
  have b2 := hO.2.2.2.2.2.1
  have nme : ∀ k, 4 + cf.2.2 ≤ k → k < cf.1 - 6 → gA σ 323 0 k = 0 → dk k = -1 ∧ ¬ hld σ 0 k := fun k k0 k1 hu => by
    obtain ⟨b1, b2, b3⟩ := (hS.2.2.1 k k0 k1).2.1 hu
    exact ⟨b1, b3⟩
  refine sp_sfetch hc hS.1.2 hD hE (fun k k0 k1 hu => (nme k k0 k1 hu).1) (fun k τ1 hk hu D1 u1 l1 x1 f1 k1 _ _ => ?_)
  obtain ⟨kd, kh⟩ := nme k hk.1 hk.2 hu
  have ksr : gI τ1 202 0 = s := by rw [f1.i _ _ (fun q => by unfold mSf mMv at q; omega)]; exact hs1
  have klo : gI τ1 209 0 = dk lg := by rw [f1.i _ _ (fun q => by unfold mSf mMv at q; omega)]; exact hlo
  have kbc : gI τ1 211 0 = bl.length := by rw [f1.i _ _ (fun q => by unfold mSf mMv at q; omega)]; exact blen
  have klg : gI τ1 208 0 = lg := by rw [f1.i _ _ (fun q => by unfold mSf mMv at q; omega)]; exact hO.1.1
  refine sp_logBud hc (Or.inl rfl) D1 (lg := lg) (k := dk lg) (bc := bl.length) klg ⟨by omega, by omega⟩ (by omega) klo (by omega) (by omega) kbc ⟨by omega, by omega⟩ ksr ⟨hs2, by omega⟩ (by unfold rI; omega) (by unfold rI; omega) (fun τ2 g D2 sh2 s2 lo2 bc2 bd2 f2 k2 _ => ?_)
  intro σ3 e3 σ4 e4 _
  generalize hdkN : upF dk lg (dk lg + 1) = dkN at D2
  generalize hdbN : putB db lg (128 * dk lg) 128 g = dbN at D2 sh2
  have dn : ∀ m, m ≠ lg → dkN m = dk m ∧ ∀ p, dbN m p = db m p := fun m ne => by
    refine ⟨by rw [← hdkN]; unfold upF; rw [if_neg ne], fun p => by rw [← hdbN]; unfold putB; rw [if_neg (fun q => ne q.1)]⟩
  have dl : dkN lg = dk lg + 1 := by rw [← hdkN]; unfold upF; rw [if_pos rfl]
  have dlb : ∀ p, p < 128 * dk lg → dbN lg p = db lg p := fun p p1 => by rw [← hdbN]; unfold putB; rw [if_neg (fun q => by omega)]
  -- the state as if the head had the number before the log tells it
  have fo : Fr (fun f o' => (f = 451 ∨ f = 452) ∧ o' = 0) τ1 (sI (sI τ1 451 0 k) 452 0 0) := ((Fr.rf _ _).sI ⟨Or.inl rfl, rfl⟩).sI ⟨Or.inr rfl, rfl⟩
  generalize hρ : sI (sI τ1 451 0 k) 452 0 0 = ρ at fo
  have rn : gI ρ 451 0 = k := by rw [← hρ, gI_sIo (by decide), gI_sI1]
  have rp : gI ρ 452 0 = 0 := by rw [← hρ, gI_sI1]
  have rkρ : RK ρ := by rw [← hρ]; exact (k1.sI (by show rI k; unfold rI; omega)).sI (by show rI 0; unfold rI; omega)
  have W1 : WW cf τ1 0 dk db := hS.1.1.fr f1 (fun f v _ a b q => by unfold mSf mMv at q; omega)
  have nw1 : ∀ v, isW 0 v → gI τ1 451 v = gI σ 451 v := fun v hv => f1.i _ _ (fun q => by unfold mSf mMv at q; omega)
  obtain ⟨Wρ, ek, em⟩ := WW.opn (w := 0) hc (Or.inl rfl) W1 hk kd (fun v hv e => kh ⟨v, hv, by rw [← nw1 v hv]; exact e⟩) rn rp fo
  have e1 : ∀ m, eE τ1 0 dk m = eE σ 0 dk m := fun m => eE_fr f1 (fun f v _ a b q => by unfold mSf mMv at q; omega)
  have nx1 : ∀ g, (g = 323 ∨ g = 324 ∨ g = 325) → gA ρ g 0 = gA τ1 g 0 := fun g hg => fo.a _ _ (fun q => by omega)
  have N : NEo cf σ ρ 0 0 dk dk db db (-1) k := by
    refine ⟨hk, hu, by omega, rn, rp, fun m m0 => ?_, by rw [nx1 _ (by omega)]; exact l1, by rw [nx1 _ (by omega), x1]; rfl, fun _ _ => rfl, kd, fun m m0 _ mk => ?_, ek, fun _ _ _ _ _ => rfl, fun q => absurd rfl q⟩
    · rw [nx1 _ (by omega), u1]
      unfold upF
      by_cases q : m = k
      · rw [if_pos q, if_pos q]
      · rw [if_neg q, if_neg q, if_neg (by omega)]
    · rw [em m m0 mk (by rw [nw1 0 (Or.inl rfl), hn0]; omega)]; exact e1 m
  have Sρ : SA tv cf ρ dk db L := hS.neo hc (w := 0) (Or.inl rfl) hn0 N Wρ ((f1.mono (fun f o' q => Or.inr (Or.inl q))).tr (fo.mono (fun f o' q => by
    rcases q.1 with e | e
    · exact Or.inl (Or.inr (Or.inl ⟨e, q.2⟩))
    · exact Or.inr (Or.inr ⟨e, q.2⟩)))) rkρ
  have f4 : Fr (mLb 0) ρ σ4 := by rw [e4, e3, ← hρ]; exact frS2 (frS2 f2 _ _ _) _ _ _
  have rk4 : RK σ4 := by rw [e4, e3]; exact (k2.sI (by show rI k; unfold rI; omega)).sI (by show rI 0; unfold rI; omega)
  have S4 : SA tv cf σ4 dkN dbN L := (Sρ.low (fun m m0 m1 => dn m (by omega))).fr f4 (fun f o' a q => by unfold mSA isW at a; unfold mLb mBw mRow at q; omega) rk4
  have f24 : Fr (fun f o' => (f = 451 ∨ f = 452) ∧ o' = 0) τ2 σ4 := by rw [e4, e3]; exact ((Fr.rf _ _).sI ⟨Or.inl rfl, rfl⟩).sI ⟨Or.inr rfl, rfl⟩
  have D4 := D2.fr f24 (fun f o' a q => by unfold rBI at a; omega)
  have F : Fr mBq σ σ4 := ((f1.mono (fun f o' q => Or.inl q)).tr (f2.mono (fun f o' q => Or.inr (Or.inl q)))).tr (f24.mono (fun f o' q => Or.inr (Or.inr q)))
  have fi : ∀ g, (201 ≤ g ∧ g ≤ 228 ∧ g ≠ 202 ∧ g ≠ 209 ∧ g ≠ 210 ∧ g ≠ 211) → gI σ4 g 0 = gI σ g 0 := fun g hg => F.i _ _ (fun q => by have q := mBq_n q; unfold mBw mMv mRow at q; omega)
  have fa : ∀ g, (201 ≤ g ∧ g ≤ 228 ∧ g ≠ 202 ∧ g ≠ 209 ∧ g ≠ 210 ∧ g ≠ 211) → gA σ4 g 0 = gA σ g 0 := fun g hg => F.a _ _ (fun q => by have q := mBq_n q; unfold mBw mMv mRow at q; omega)
  have fw : ∀ g w, (w = 2 ∨ w = 4) → (g = 451 ∨ g = 452) → gI σ4 g w = gI σ g w := fun g w hw hg => F.i _ _ (fun q => by have q := mBq_n q; unfold mBw mMv mRow at q; omega)
  have n4 : gI σ4 451 0 = k := by rw [e4, gI_sIo (by decide), e3, gI_sI1]
  have p4 : gI σ4 452 0 = 0 := by rw [e4, gI_sI1]
  have u4 : gA σ4 323 0 = upF (gA σ 323 0) k 2 := by rw [f24.a _ _ (fun q => by omega), f2.a _ _ (fun q => by unfold mLb mBw mRow at q; omega)]; exact u1
  have x4 : gA σ4 325 0 = upF (gA σ 325 0) k 0 := by rw [f24.a _ _ (fun q => by omega), f2.a _ _ (fun q => by unfold mLb mBw mRow at q; omega)]; exact x1
  have s4 : gI σ4 202 0 = s + 1 := by rw [f24.i _ _ (fun q => by omega)]; exact s2
  have lo4 : gI σ4 209 0 = dk lg + 1 := by rw [f24.i _ _ (fun q => by omega)]; exact lo2
  have bc4 : gI σ4 211 0 = bl.length + 1 := by rw [f24.i _ _ (fun q => by omega)]; exact bc2
  have bd4 : gA σ4 210 0 = upF (gA σ 210 0) bl.length k := by rw [f24.a _ _ (fun q => by omega), bd2, f1.a _ _ (fun q => by unfold mSf mMv at q; omega)]
  obtain ⟨kr, ko⟩ := krt_fr (o := 0) F (fun f x a b q => by have q := mBq_n q; unfold mBw mMv mRow at q; omega) (fun q => by have q := mBq_n q; unfold mBw mMv mRow at q; omega)
  have am : AM dbN L = AM db L := AM.grow hS.2.1.2.2 (fun e he p _ _ => (dn _ (by have := (hS.2.1.2.2 e he).1; omega)).2 p)
  have e4E : ∀ m, 0 ≤ m → m ≠ k → m ≠ lg → eE σ4 0 dkN m = eE σ 0 dk m := fun m m0 mk ml => by
    have a : eE σ4 0 dkN m = eE ρ 0 dkN m := eE_fr f4 (fun f v _ a b q => by unfold mLb mBw mRow at q; omega)
    have b : eE ρ 0 dkN m = eE ρ 0 dk m := by unfold eE; rw [(dn m ml).1]
    rw [a, b, em m m0 mk (by rw [nw1 0 (Or.inl rfl), hn0]; omega), e1]
  have hldk : ∀ m, 0 ≤ m → m ≠ k → (hld σ4 0 m → hld σ 0 m) := fun m m0 mk ⟨v, v1, v2⟩ => by
    rcases v1 with e | e | e
    · rw [e, n4] at v2; exact absurd v2.symm mk
    · rw [e] at v2
      exact ⟨2, Or.inr (Or.inl rfl), by rw [← fw 451 2 (by omega) (by omega)]; exact v2⟩
    · rw [e] at v2
      exact ⟨4, Or.inr (Or.inr rfl), by rw [← fw 451 4 (by omega) (by omega)]; exact v2⟩
  have hldk' : ∀ m, 0 ≤ m → (hld σ 0 m → hld σ4 0 m) := fun m m0 ⟨v, v1, v2⟩ => by
    rcases v1 with e | e | e
    · rw [e, hn0] at v2; omega
    · rw [e] at v2
      exact ⟨2, Or.inr (Or.inl rfl), by rw [fw 451 2 (by omega) (by omega)]; exact v2⟩
    · rw [e] at v2
      exact ⟨4, Or.inr (Or.inr rfl), by rw [fw 451 4 (by omega) (by omega)]; exact v2⟩
  have bk : ∀ i : Int, 0 ≤ i → i < bl.length → gA σ 210 0 i ≠ k := fun i i0 i1 e => by
    have := (b2.2 i i0 (by omega)).2.1
    rw [e] at this
    exact this hu
  have orc : (orL σ4 0).Perm (nlL (AM dbN L)) ∧ 0 ≤ gI σ4 218 0 ∧ gI σ4 218 0 ≤ 8 := by
    unfold orL
    rw [fa 217 (by decide), fi 218 (by decide), am]
    exact ⟨ho1, ho2⟩
  have es : ES dbN L (s + 1) := (hES.g (fun e he p _ _ => (dn _ (by have := (hS.2.1.2.2 e he).1; omega)).2 p)).le (by omega)
  have ly : lgY dkN dbN lg sv = max sv (s + 1) := by
    unfold lgY
    rw [dl, show dk lg + 1 - 1 = dk lg by omega, sh2.2.2.1]
  have hO' : ONx tv cf σ4 dkN dbN L c lg (s + 1) := by
    obtain ⟨⟨g1, g2, g3, g4⟩, ⟨g5, g6⟩, g7, ⟨g8, g9⟩, ⟨g11, g12⟩, ⟨g13, g14⟩, g15, g16⟩ := hO
    refine ⟨⟨by rw [fi _ (by decide)]; exact g1, g2, by rw [fi _ (by decide)]; exact g3, g4⟩, ⟨fun q => ?_, fun q => ?_⟩, fun m hm j j0 j1 => ?_, ⟨fun m m0 m1 hm => ?_, fun x hx hfx => ?_⟩, orc, ⟨⟨by omega, by omega⟩, fun j j0 j1 => ?_⟩, ?_, fun j j0 j1 a b => ?_⟩
    · have w := dn (5 - lg) (by omega)
      rw [w.1] at q
      rw [rI4_ext (h := db (5 - lg)) (fun i _ _ => w.2 i)]
      exact g5 q
    · rw [rI4_ext (h := db lg) (fun i i0 i1 => dlb i (by omega))]
      exact g6 d1
    · have w := dn m (by omega)
      rw [w.1] at j1
      rw [srl_ext (g := db m) (n := 16) (by omega) (fun p _ _ => w.2 p)]
      exact Int.le_trans (g7 m hm j j0 j1) (by omega)
    · by_cases mk : m = k
      · exact Or.inl ⟨by rw [n4]; exact mk, p4⟩
      · have w := dn m (by omega)
        rw [u4] at hm
        unfold upF at hm
        rw [if_neg mk] at hm
        obtain ⟨y1, y2, y3⟩ := g8 m m0 m1 hm
        refine Or.inr ⟨by rw [e4E m (by omega) mk (by omega)]; exact y1, ?_, ?_⟩
        · rw [rI4_ext (h := db m) (fun i _ _ => w.2 i)]; exact y2
        · rw [srl_ext (g := db m) (n := 16) (by omega) (fun p _ _ => w.2 p)]
          exact Int.le_trans y3 (by omega)
    · rw [kr] at hx
      rw [(ko x).2.1] at hfx
      obtain ⟨-, w2, w3, w4⟩ := (ko x).2
      rw [w2, w3]
      have r := (hS.2.2.2.2.1 x hx hfx).1.2.2.1
      rw [srl_ext (g := db (gI σ 585 x)) (n := 16) (by omega) (fun p _ _ => (dn _ (by omega)).2 p)]
      exact Int.le_trans (g9 x hx hfx) (by omega)
    · rw [bc4] at j1
      rw [bd4, u4, n4]
      unfold upF
      by_cases e : j = bl.length
      · rw [if_pos e, if_pos rfl]
        exact ⟨hk, by decide, Or.inl rfl⟩
      · obtain ⟨y1, y2, y3⟩ := g14 j j0 (by omega)
        have jk := bk j j0 (by omega)
        rw [if_neg e, if_neg jk]
        refine ⟨y1, y2, Or.inr (fun q => ?_)⟩
        have q2 := hldk _ (by omega) jk q
        rcases y3 with y | y
        · rw [hn0] at y; omega
        · exact y q2
    · have a : nfr σ4 (krt σ4 0) = nfr σ (krt σ 0) := by rw [kr]; exact nfr_ext (fun y _ => (ko y).2.1)
      have b : gI σ4 390 0 = gI σ 390 0 := F.i _ _ (fun q => by have q := mBq_n q; unfold mBw mMv mRow at q; omega)
      rw [a, b]; exact g15
    · rw [fw 451 4 (by omega) (by omega)]
      rw [x4] at a
      rw [u4] at b
      unfold upF at a b
      by_cases e : j = k
      · rw [if_pos e] at a; exact absurd rfl a
      · rw [if_neg e] at a b
        exact g16 j j0 j1 a b
  refine hQ σ4 dkN dbN k ⟨⟨σc, l, z, c, lg, lr, sv, nx, tn, tp, bl ++ [(k, 0, 0, [])], s + 1, s', b0, V, jn, s', ⟨S4, ⟨hL, by rw [am]; exact hkm⟩, by rw [fi _ (by decide)]; exact hnx, ⟨s4, by omega⟩, orc, by omega, es⟩, ⟨D4.le (by omega) (by omega), hb0⟩, hO', hFX.bud hc hO.2.1.1 dn dl dlb sh2 hk kd (fun b hb e => ?_) ⟨by omega, Int.le_refl _⟩, Or.inr ⟨by rw [n4]; omega, bl, 0, 0, [], [], by rw [n4], by rw [p4]; exact ⟨rfl, rfl, rfl⟩, by rw [fi _ (by decide)]; exact w0.1, rfl, fun x hx => absurd hx List.not_mem_nil⟩, ⟨by omega, ?_⟩, ⟨by rw [lo4, dl], by rw [fi _ (by decide)]; exact hcm⟩, ⟨by omega, by omega, by omega, by rw [ly]; omega⟩, ?_, fun m m0 m1 q => ?_, ?_⟩, by rw [am, fi _ (by decide)]; exact hla, by rw [n4]; omega⟩ am p4 hu hk u4 x4 F rk4
  · obtain ⟨i, i1, i2⟩ := hBD.at hb
    exact bk i i1.1 (by omega) (by rw [i2]; exact e)
  · rw [bc4, bd4, List.map_append, ← hBD.2, blen]
    have t1 : ((bl.length : Int) + 1).toNat = bl.length + 1 := by omega
    have t2 : ((bl.length : Int)).toNat = bl.length := by omega
    rw [t1, t2, cat1_S]
    congr 1
    · exact cat1_ext _ (fun i i0 i1 => by unfold upF; rw [if_neg (by omega)])
    · show [upF _ _ _ _] = [k]
      unfold upF; rw [if_pos rfl]
  · unfold VCl VC at hV ⊢
    rw [fi 223 (by decide), fi 225 (by decide), fi 224 (by decide), u4]
    have vk : gA σ 323 0 (gI σ 223 0) = 1 → gI σ 223 0 ≠ k := fun q e => by rw [e, hu] at q; omega
    rcases hV with q | ⟨q, ⟨q1, q2⟩, ⟨q3, q4⟩, q5⟩ | ⟨q, ⟨q1, q2⟩, q3⟩
    · exact Or.inl q
    · have w := dn (gI σ 223 0) (by omega)
      refine Or.inr (Or.inl ⟨q, ⟨q1, by unfold upF; rw [if_neg (vk q2)]; exact q2⟩, ⟨by unfold lmF at q3 ⊢; rw [w.1]; exact q3, q4.ext (fun i _ _ => w.2 i)⟩, q5⟩)
    · exact Or.inr (Or.inr ⟨q, ⟨q1, by unfold upF; rw [if_neg (vk q2)]; exact q2⟩, q3⟩)
  · by_cases mk : m = k
    · exact Or.inl ⟨0, Or.inl rfl, by rw [n4, mk]⟩
    · rw [u4] at q
      unfold upF at q
      rw [if_neg mk] at q
      rcases hHD m m0 m1 q with w | ⟨j, j1, j2⟩
      · exact Or.inl (hldk' m (by omega) w)
      · refine Or.inr ⟨j, by omega, ?_⟩
        rw [bd4]
        unfold upF
        rw [if_neg (by omega)]; exact j2
  · have xx : ∀ m, gA σ 325 0 m = 0 → gA σ4 325 0 m = 0 := fun m q => by
      rw [x4]; unfold upF; split
      · rfl
      · exact q
    refine ⟨fun e he => xx _ (hXO.1 e he), fun b hb => ?_⟩
    rcases List.mem_append.mp hb with q | q
    · exact xx _ (hXO.2 b q)
    · rw [List.mem_singleton.mp q, x4]; unfold upF; rw [if_pos rfl]
