/-! the index is sought, over a tree -/
theorem sp_Pseek {tv : Nat → Int} {cf : Cf} {σ : St} {S S' : List (Int × Int × Int × (Int → Int)) × Int} {W : List (Int × (List (Int × Int × Int × (Int → Int)) × Int))} {r : RT} {B : Int} {x l : Int} {Q : Int → St → Prop} (hc : CfOK cf) (h : HP tv cf σ S S' W r B) (hx : rJ x) (hl : rJ l) (h0 : (∀ y, y ∈ S.1 → ak y < kap x l) → Q 0 σ)
    (h1 : ∀ τ y, y ∈ S.1 → kap x l ≤ ak y → (∀ v, v ∈ S.1 → kap x l ≤ ak v → ak y ≤ ak v) → gI τ 391 0 = y.1 → gI τ 392 0 = y.2.1 → gI τ 395 0 = y.2.2.1 → rJ y.2.1 → (0 ≤ y.1 ∧ y.1 < 4294967296) → HP tv cf τ S S' W r B →
      (∀ (Q' : St → Prop) (r' : Int), (r' = 0 ∨ r' = 7) → (∀ υ, (∀ k, 24 ≤ k → k < y.2.2.1 → gA υ 512 r' k = y.2.2.2 k) → gI υ 513 r' = 0 → HP tv cf υ S S' W r B → Fr (mRd2 0 r') τ υ → RK υ → Q' υ) → wp_Store_read cf tv 0 (gI τ 393 0) (gI τ 394 0) (gI τ 395 0) r' (fun σ1 => RK σ1 → Q' σ1) τ) → Fr (mIs 0) σ τ → RK τ → Q 1 τ) : wp_Index_seek cf tv 0 x l (fun y τ => rZ y → RK τ → Q y τ) σ := by
  have H := h
  obtain ⟨dk, db, L, p, ⟨a, b⟩, w, -⟩ := h
  have rd := p.rd
  have srt := rd.srt
  refine sp_hseek rd hx hl (fun q _ _ => h0 (fun y hy => ?_)) (fun τ A B' e eL q1 q2 cu f _ rk => ?_)
  · rw [← a] at hy
    obtain ⟨e, e1, e2⟩ := AM_mem.mp hy
    rw [← e2]; exact q e e1
  · have he : e ∈ L := by rw [eL]; exact List.mem_append_right _ List.mem_cons_self
    have sp := srt_mid (by rw [← eL]; exact srt)
    have Hτ : HP tv cf τ S S' W r B := H.frH f (fun f o' q => by unfold mHR; exact Or.inr (Or.inr (Or.inr (Or.inl q)))) rk
    refine h1 τ (anE db e) (by rw [← a]; exact AM_mem.mpr ⟨e, he, rfl⟩) q2 (fun v hv hk => ?_) cu.1 cu.2.1 cu.2.2.2.2 (rd.lo he) (rd.hi he) Hτ (fun Q' r' hr k => ?_) f rk
    · rw [← a] at hv
      obtain ⟨e', e1, e2⟩ := AM_mem.mp hv
      rw [← e2] at hk ⊢
      show kyE e ≤ kyE e'
      have hk : kap x l ≤ kyE e' := hk
      rw [eL] at e1
      rcases List.mem_append.mp e1 with u | u
      · have := q1 e' u; omega
      · rcases List.mem_cons.mp u with u | u
        · rw [u]; exact Int.le_refl _
        · have := sp.2 e' u; omega
    · refine sp_hread hc (rd.fr f (fun f o' q => by unfold mHR; exact Or.inr (Or.inr (Or.inr (Or.inl q)))) rk) he cu hr (fun υ q1 q2 q3 fu ku => k υ q1 q2 (Hτ.frH fu (fun f o' q => ?_) ku) fu ku)
      rcases hr with q' | q'
      · rw [q'] at q; exact mR0_h (Or.inr q)
      · rw [q'] at q; exact mR0_h (Or.inr q)
theorem ak_0 {y : Int × Int × Int × (Int → Int)} (h : 0 ≤ y.1) : 0 ≤ ak y := by unfold ak kap; omega
theorem map_nd_inj {α β : Type} {f : α → β} : ∀ {l : List α}, (l.map f).Nodup → ∀ {a b}, a ∈ l → b ∈ l → f a = f b → a = b
  | [], _, _, _, h, _, _ => absurd h List.not_mem_nil
  | x :: l, nd, a, b, ha, hb, e => by
    rw [List.map_cons] at nd
    obtain ⟨n1, n2⟩ := List.nodup_cons.mp nd
    rcases List.mem_cons.mp ha with q | q
    · rcases List.mem_cons.mp hb with q' | q'
      · rw [q, q']
      · exact absurd (List.mem_map.mpr ⟨b, q', by rw [← e, q]⟩) n1
    · rcases List.mem_cons.mp hb with q' | q'
      · exact absurd (List.mem_map.mpr ⟨a, q, by rw [e, q']⟩) n1
      · exact map_nd_inj n2 q q' e
/-- a directory has one entry -/
theorem WF.par {cf : Cf} {S : List (Int × Int × Int × (Int → Int)) × Int} (w : WF cf S) {y z : Int × Int × Int × (Int → Int)} (hy : y ∈ S.1) (hz : z ∈ S.1) (y2 : y.1 % 4 = 2) (z2 : z.1 % 4 = 2) (hd : ((erow y).2.2, 1, 0) ∈ nds S.1) (e : (erow y).2.2 = (erow z).2.2) : y = z := by
  have wr := w.wr
  have my : erow y ∈ ens S.1 := ens_mem.mpr ⟨y, hy, y2, rfl⟩
  have mz : erow z ∈ ens S.1 := ens_mem.mpr ⟨z, hz, z2, rfl⟩
  have c := wr.2.2.2.2.2.2.1 _ hd (by show (1 : Int) ≠ 2; decide) (wr.2.2.1 _ my).2.2 id
  have ee := cn3_u c my mz rfl e.symm
  have nd := wr.2.2.2.2.2.1
  unfold ens at nd
  rw [List.map_map] at nd
  exact map_nd_inj nd (List.mem_filter.mpr ⟨hy, decide_eq_true y2⟩) (List.mem_filter.mpr ⟨hz, decide_eq_true z2⟩) (by show ky2 (erow y) = ky2 (erow z); rw [ee])
