/-! keys of nodes -/
def hsL (x : Int) : Nat → Int
  | 0 => 0
  | k + 1 => if iand (w32 (lushr x (8 * (k : Int)))) 255 = 0 then hsL x k else w32 ((w32 ((w32 (hsL x k + ishl (iand (w32 (lushr x (8 * (k : Int)))) 255) 4)) + ishr (iand (w32 (lushr x (8 * (k : Int)))) 255) 4)) * 11)
/-- where names of one hash begin -/
def hs (x : Int) : Int := hsL x 8 % 1024 * 1024
theorem hs_r (x : Int) : 0 ≤ hs x ∧ hs x ≤ 1047552 := by unfold hs; omega
theorem sp_hash {tv : Nat → Int} {cf : Cf} {σ : St} {x : Int} {Q : Int → St → Prop} (hQ : Q (hs x) σ) : wp_House_hash cf tv x Q σ := by
  unfold wp_House_hash
  refine lQ2_rule (fun y2 y3 τ => τ = σ ∧ (0 ≤ y3 ∧ y3 ≤ 8) ∧ y2 = hsL x y3.toNat) (fun _ y3 _ => (8 - y3).toNat) ?_ 0 0 σ ⟨rfl, by omega, rfl⟩
  intro K y2 y3 τ hI hK
  obtain ⟨e, h1, h2⟩ := hI
  rw [e]
  have st : ∀ h, h = hsL x (y3 + 1).toNat → y3 < 8 → wp_House_hash_b43 cf tv x Q K h y3 σ := by
    intro h hh lt y ey
    rw [w32_id (by unfold rI; omega)] at ey
    rw [ey]
    exact hK _ _ _ ⟨rfl, by omega, hh⟩ (by omega)
  unfold wp_House_hash_L4
  refine ⟨fun q => ?_, fun q y4 e4 => ?_⟩
  · have : y3 = 8 := by omega
    rw [this] at h2
    rw [iand1023, h2, w64_id (by unfold rJ; omega)]
    exact hQ
  · rw [w32_id (x := 8 * y3) (by unfold rI; omega)] at e4
    have e5 : (8 * (y3.toNat : Int)) = 8 * y3 := by omega
    have e6 : (y3 + 1).toNat = y3.toNat + 1 := by omega
    refine ⟨fun z => st y2 ?_ (by omega), fun z y ey => st y ?_ (by omega)⟩
    · rw [e6, h2]
      show _ = if iand (w32 (lushr x (8 * (y3.toNat : Int)))) 255 = 0 then _ else _
      rw [e5, ← e4, if_pos z]
    · rw [e6, ey, h2]
      show _ = if iand (w32 (lushr x (8 * (y3.toNat : Int)))) 255 = 0 then _ else _
      rw [e5, ← e4, if_neg z]
/-- bytes turned round -/
def rev (x : Int) : Int := lor (lor (lor (lshl (lor (lshl (land x 71777214294589695) 8) (land (lushr x 8) 71777214294589695)) 48) (lshl (land (lor (lshl (land x 71777214294589695) 8) (land (lushr x 8) 71777214294589695)) 4294901760) 16)) (land (lushr (lor (lshl (land x 71777214294589695) 8) (land (lushr x 8) 71777214294589695)) 16) 4294901760)) (lushr (lor (lshl (land x 71777214294589695) 8) (land (lushr x 8) 71777214294589695)) 48)
theorem sp_rev {tv : Nat → Int} {cf : Cf} {σ : St} {x : Int} {Q : Int → St → Prop} (hQ : Q (rev x) σ) : wp_Long_reverseBytes cf tv x Q σ := by
  unfold wp_Long_reverseBytes
  intro y e
  rw [e]; exact hQ
/-- types whose nodes have keys -/
abbrev lfT (t : Int) : Prop := t = 1 ∨ t = 2 ∨ t = 3 ∨ t = 9
def hiT (t x : Int) : Int := 4 * x + (if t = 1 then 0 else if t = 3 then 1 else if t = 2 then 2 else 3)
def hiN (g : Int → Int) (a : Int) : Int := hiT (g (a + 16)) (rI4 g (a + 24))
def loN (g : Int → Int) (a : Int) : Int := if g (a + 16) = 1 then 0 else if g (a + 16) = 3 then rI4 g (a + 28) % 65536 else if g (a + 16) = 2 then hs (rL8 g (a + 32)) + rI4 g (a + 40) else rev (rL8 g (a + 32))
theorem hiN_r (g : Int → Int) (a : Int) : -8589934592 ≤ hiN g a ∧ hiN g a < 8589934592 := by
  have := rI4_r g (a + 24)
  unfold rI at this
  unfold hiN hiT
  split <;> first | omega | (split <;> first | omega | (split <;> omega))
theorem sp_isLeaf {tv : Nat → Int} {cf : Cf} {σ : St} {t : Int} {Q : Int → St → Prop} (h1 : lfT t → Q 1 σ) (h0 : ¬ lfT t → Q 0 σ) : wp_Store_isLeaf cf tv t Q σ := by
  unfold wp_Store_isLeaf wp_Store_isLeaf_b21
  unfold lfT at h1 h0
  exact ⟨fun e => h1 (by omega), fun e1 => ⟨fun e => h1 (by omega), fun e2 => ⟨fun e => h1 (by omega), fun e3 => ⟨fun e => h0 (by omega), fun e => h1 (by omega)⟩⟩⟩⟩
theorem sp_keyOf {tv : Nat → Int} {cf : Cf} {σ : St} {x t : Int} {Q : Int → St → Prop} (hx : rI x) (ht : 0 ≤ t ∧ t ≤ 3) (hQ : Q (4 * x + t) σ) : wp_House_keyOf cf tv x t Q σ := by
  unfold rI at hx
  unfold wp_House_keyOf
  rw [w64_id (x := 4 * x) (by unfold rJ; omega), w64_id (by unfold rJ; omega)]
  exact hQ
theorem sp_highOf {tv : Nat → Int} {cf : Cf} {σ : St} {r a : Int} {Q : Int → St → Prop} (he : gI σ 513 r = a) (ha : 0 ≤ a) (hl : a + 28 ≤ rowL r) (hQ : Q (hiN (gA σ 512 r) a) σ) : wp_Store_highOf cf tv r Q σ := by
  unfold wp_Store_highOf
  refine sp_rtype he ha (by omega) (fun _ _ => ?_)
  refine sp_rget he ha (by omega) (by omega) (fun _ hr _ => ?_)
  rw [Int.add_zero] at hr ⊢
  have go : ∀ t, 0 ≤ t → t ≤ 3 → hiN (gA σ 512 r) a = 4 * rI4 (gA σ 512 r) (a + 24) + t → wp_Store_highOf_b38 cf tv r Q t (rI4 (gA σ 512 r) (a + 24)) σ := by
    intro t t0 t1 e
    unfold wp_Store_highOf_b38
    refine sp_keyOf hr ⟨t0, t1⟩ (fun _ _ => ?_)
    rw [← e]; exact hQ
  refine ⟨fun e1 => ⟨fun e2 => ⟨fun e3 => go 3 (by omega) (by omega) ?_, fun e3 => go 2 (by omega) (by omega) ?_⟩, fun e2 => go 1 (by omega) (by omega) ?_⟩, fun e1 => go 0 (by omega) (by omega) ?_⟩
  · unfold hiN hiT; rw [if_neg e1, if_neg e2, if_neg e3]
  · unfold hiN hiT; rw [if_neg e1, if_neg e2, if_pos e3]
  · unfold hiN hiT; rw [if_neg e1, if_pos e2]
  · unfold hiN hiT; rw [if_pos e1]
theorem sp_lowOf {tv : Nat → Int} {cf : Cf} {σ : St} {r a : Int} {Q : Int → St → Prop} (he : gI σ 513 r = a) (ha : 0 ≤ a) (hl : a + 44 ≤ rowL r) (hQ : Q (loN (gA σ 512 r) a) σ) : wp_Store_lowOf cf tv r Q σ := by
  unfold wp_Store_lowOf
  refine sp_rtype he ha (by omega) (fun _ _ => ?_)
  refine ⟨fun e1 => ⟨fun e2 => ⟨fun e3 => ?_, fun e3 => ?_⟩, fun e2 => ?_⟩, fun e1 => ?_⟩
  · refine sp_rgetL he ha (by omega) (by omega) (fun _ _ _ => sp_rev (fun _ _ => ?_))
    unfold loN at hQ; rw [if_neg e1, if_neg e2, if_neg e3] at hQ
    rw [show a + 24 + 8 = a + 32 by omega]; exact hQ
  · refine sp_rgetL he ha (by omega) (by omega) (fun _ _ _ => sp_hash (fun _ _ => sp_rget he ha (by omega) (by omega) (fun _ hr _ => ?_)))
    unfold loN at hQ; rw [if_neg e1, if_neg e2, if_pos e3] at hQ
    unfold rI at hr
    rw [show a + 24 + 16 = a + 40 by omega] at hr ⊢
    rw [show a + 24 + 8 = a + 32 by omega]
    have := hs_r (rL8 (gA σ 512 r) (a + 32))
    rw [w64_id (by unfold rJ; omega)]; exact hQ
  · refine sp_rget he ha (by omega) (by omega) (fun _ _ _ => ?_)
    unfold loN at hQ; rw [if_neg e1, if_pos e2] at hQ
    rw [show a + 24 + 4 = a + 28 by omega, show (65535 : Int) = 2 ^ 16 - 1 by decide, iand_mask _ 16 (by omega)]
    exact hQ
  · unfold loN at hQ; rw [if_pos e1] at hQ; exact hQ
theorem rev_r (x : Int) : rJ (rev x) := lor_r _ _
theorem loN_r (g : Int → Int) (a : Int) : rJ (loN g a) := by
  have h1 := rI4_r g (a + 28)
  have h2 := rI4_r g (a + 40)
  have h3 := hs_r (rL8 g (a + 32))
  unfold rI at h1 h2
  unfold loN
  split
  · unfold rJ; omega
  · split
    · unfold rJ; omega
    · split
      · unfold rJ; omega
      · exact rev_r _
theorem hiN_J (g : Int → Int) (a : Int) : rJ (hiN g a) := by
  have := hiN_r g a
  unfold rJ; omega
