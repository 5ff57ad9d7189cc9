section
variable {p : Program} {l : Launch} {e : Env} {R : Room} {s : State} {m : MethodId} {args : Array Value} {below : List Frame} {meth : Method} {c : Code} {H : Heap} {locs : List Loc} {cells slots : Nat} {Q : State → Prop} {cc : ByteArray} {nL : Nat} {own : String} {pc : Nat} {ls : Array Slot} {rest : List Value} {w : Wp} {σ : St}
theorem rZ_0 : rZ 0 := by unfold rZ; omega
theorem rZ_1 : rZ 1 := by unfold rZ; omega
theorem rK_n : rK (-1) := by unfold rK; omega
theorem rK_o {o : Int} (h : 0 ≤ o ∧ o < 640) : rK o := by unfold rK; omega
theorem rB_lit (z : Int) (h : (decide (-128 ≤ z) && decide (z < 128)) = true) : rB z := by simpa [rB] using h
theorem rI_lit (z : Int) (h : (decide (-2147483648 ≤ z) && decide (z < 2147483648)) = true) : rI z := by simpa [rI] using h
theorem rJ_lit (z : Int) (h : (decide (-9223372036854775808 ≤ z) && decide (z < 9223372036854775808)) = true) : rJ z := by simpa [rJ] using h
theorem rZ.b {x : Int} (h : rZ x) : rB x := by unfold rZ at h; unfold rB; omega
theorem rZ_cases {x : Int} (h : rZ x) : x = 0 ∨ x = 1 := by unfold rZ at h; omega
theorem iand_Z {x y : Int} (hx : rZ x) (hy : rZ y) : rZ (iand x y) := by
  rcases rZ_cases hx with rfl | rfl <;> rcases rZ_cases hy with rfl | rfl <;> (unfold rZ; decide)
theorem ior_Z {x y : Int} (hx : rZ x) (hy : rZ y) : rZ (ior x y) := by
  rcases rZ_cases hx with rfl | rfl <;> rcases rZ_cases hy with rfl | rfl <;> (unfold rZ; decide)
theorem ixor_Z {x y : Int} (hx : rZ x) (hy : rZ y) : rZ (ixor x y) := by
  rcases rZ_cases hx with rfl | rfl <;> rcases rZ_cases hy with rfl | rfl <;> (unfold rZ; decide)
theorem ite_rZ {c : Prop} [Decidable c] {x y : Int} (hx : rZ x) (hy : rZ y) : rZ (if c then x else y) := by split <;> assumption
theorem ite_rI {c : Prop} [Decidable c] {x y : Int} (hx : rI x) (hy : rI y) : rI (if c then x else y) := by split <;> assumption
theorem catK (w : Wp) (z : Int) : (va_rf (knO w z)).category = 1 := by
  unfold knO; split <;> rfl
theorem catI (x : Int32) : (Value.int x).category = 1 := rfl
theorem catR (x : Addr) : (Value.ref x).category = 1 := rfl
theorem catL (x : Int64) : (Value.long x).category = 2 := rfl
theorem fv0 (w : Wp) {σ : St} {f : Nat} {o z : Int} (h : ft f = 0) : fvl w (sI σ f o z) f o = .int (oI z) := by
  unfold fvl; rw [h, gI_sI, if_pos ⟨rfl, rfl⟩]; rfl
theorem fv1 (w : Wp) {σ : St} {f : Nat} {o z : Int} (h : ft f = 1) : fvl w (sI σ f o z) f o = .long (oL z) := by
  unfold fvl; rw [h, gI_sI, if_pos ⟨rfl, rfl⟩]; rfl
theorem fv2 (w : Wp) {σ : St} {f : Nat} {o z : Int} (h : ft f = 2) : fvl w (sI σ f o z) f o = va_rf (knO w z) := by
  unfold fvl; rw [h, gI_sI, if_pos ⟨rfl, rfl⟩]; rfl
theorem fv3 (w : Wp) {σ : St} {f : Nat} {o z : Int} (h : ft f = 3) : fvl w (sI σ f o z) f o = .int (oI z) := by
  unfold fvl; rw [h, gI_sI, if_pos ⟨rfl, rfl⟩]; rfl
theorem nrK (w : Wp) (z : Int) (C : String) : narrow (.object C) (va_rf (knO w z)) = va_rf (knO w z) := by
  unfold knO; split <;> rfl
theorem ftK (w : Wp) (z : Int) (C : String) : fits (.object C) (va_rf (knO w z)) = true := by
  unfold knO; split <;> rfl
theorem nrZ {z : Int} (h : rZ z) : narrow .boolean (.int (oI z)) = .int (oI z) := by
  rcases rZ_cases h with rfl | rfl <;> rfl
theorem ftZ {z : Int} (h : rZ z) : fits .boolean (.int (oI z)) = true := by
  rcases rZ_cases h with rfl | rfl <;> rfl
theorem max_rI {x y : Int} (hx : rI x) (hy : rI y) : rI (max x y) := by unfold rI at *; omega
theorem min_rI {x y : Int} (hx : rI x) (hy : rI y) : rI (min x y) := by unfold rI at *; omega
theorem max_rJ {x y : Int} (hx : rJ x) (hy : rJ y) : rJ (max x y) := by unfold rJ at *; omega
def Mph (w : Wp) : Prop := ∀ K, decide (K = 11 ∨ (704 ≤ K ∧ ft K = 4)) = true → vl w K 0
theorem w_cut {pc2 : Nat} {st2 : List Value} (k : W p l e R s m args below meth c H locs cells slots Q (F0 m pc2 ls st2) → W p l e R s m args below meth c H locs cells slots Q (F0 m pc ls rest)) (j : W p l e R s m args below meth c H locs cells slots Q (F0 m pc2 ls st2)) : W p l e R s m args below meth c H locs cells slots Q (F0 m pc ls rest) := k j
theorem w_mmax (X : CallFix p m c cc nL s args lw_all own) {x y : Int} (hx : rI x) (hy : rI y) (hsz : ls.size = nL) {idx : Nat} (hl : Cond.methodLink own idx Lib.Math.max.name ∈ lw_all) (hs : Cond.static Lib.Math.max.name ∈ lw_all) (hi : Cond.initialized "java/lang/Math" ∈ lw_all) (hcd : Cond.code Lib.Math.max.name Lib.Math.max.code 2 (some .int) ∈ lw_all) (hfr : 1 ≤ R.frames) (hlo : (rest.map fun v => v.category).sum + 13 ≤ R.locals) (hc : cells ≤ R.cells) (hss : slots ≤ R.slots) (hdg : decode cc pc = .ok (.invokestatic idx, 3)) (kk : W p l e R s m args below meth c H locs cells slots Q (F0 m (pc + 3) ls (.int (oI (max x y)) :: rest))) : W p l e R s m args below meth c H locs cells slots Q (F0 m pc ls (.int (oI y) :: .int (oI x) :: rest)) := by
  refine va_mmax X.1 X.2.1 (X.2.2.1.trans hsz.symm) X.2.2.2.1 (X.2.2.2.2 _ hl) (X.2.2.2.2 _ hs) (X.2.2.2.2 _ hi) (X.2.2.2.2 _ hcd) hfr hlo hc hss hdg ?_
  have e : (if oI x < oI y then oI y else oI x) = oI (max x y) := by
    have h0 := oI_lt hx hy
    split
    · rename_i q; congr 1; have := h0.mp q; omega
    · rename_i q; congr 1; have : ¬ x < y := fun z => q (h0.mpr z); omega
  rw [e]; exact kk
theorem w_mmin (X : CallFix p m c cc nL s args lw_all own) {x y : Int} (hx : rI x) (hy : rI y) (hsz : ls.size = nL) {idx : Nat} (hl : Cond.methodLink own idx Lib.Math.min.name ∈ lw_all) (hs : Cond.static Lib.Math.min.name ∈ lw_all) (hi : Cond.initialized "java/lang/Math" ∈ lw_all) (hcd : Cond.code Lib.Math.min.name Lib.Math.min.code 2 (some .int) ∈ lw_all) (hfr : 1 ≤ R.frames) (hlo : (rest.map fun v => v.category).sum + 13 ≤ R.locals) (hc : cells ≤ R.cells) (hss : slots ≤ R.slots) (hdg : decode cc pc = .ok (.invokestatic idx, 3)) (kk : W p l e R s m args below meth c H locs cells slots Q (F0 m (pc + 3) ls (.int (oI (min x y)) :: rest))) : W p l e R s m args below meth c H locs cells slots Q (F0 m pc ls (.int (oI y) :: .int (oI x) :: rest)) := by
  refine va_mmin X.1 X.2.1 (X.2.2.1.trans hsz.symm) X.2.2.2.1 (X.2.2.2.2 _ hl) (X.2.2.2.2 _ hs) (X.2.2.2.2 _ hi) (X.2.2.2.2 _ hcd) hfr hlo hc hss hdg ?_
  have e : (if oI y < oI x then oI y else oI x) = oI (min x y) := by
    have h0 := oI_lt hy hx
    split
    · rename_i q; congr 1; have := h0.mp q; omega
    · rename_i q; congr 1; have : ¬ y < x := fun z => q (h0.mpr z); omega
  rw [e]; exact kk
theorem w_ldcw (X : CallFix p m c cc nL s args lw_all own) {idx : Nat} {v : Int32} {z : Int} (hc : Cond.constant own idx v ∈ lw_all) (hv : v = oI z) (hdg : decode cc pc = .ok (.ldc_w idx, 3)) (kk : W p l e R s m args below meth c H locs cells slots Q (F0 m (pc + 3) ls (.int (oI z) :: rest))) : W p l e R s m args below meth c H locs cells slots Q (F0 m pc ls rest) := lv_ldcw X.1 X.2.1 X.2.2.2.1 (X.2.2.2.2 _ hc) hdg (hv ▸ kk)
theorem w_tabIn (X : CallFix p m c cc nL s args lw_all own) {x z : Int} {dflt lo hi : Int} {offs : Array Int} {len : Nat} {off : Int} {tgt : Nat} (hx : rI x) (hdg : decode cc pc = .ok (.tableswitch dflt lo hi offs, len)) (hz : x = z) (h1 : ¬ z < lo) (h2 : ¬ hi < z) (ho : offs[(z - lo).toNat]? = some off) (ht : (pc : Int) + off = (tgt : Int)) (kk : W p l e R s m args below meth c H locs cells slots Q (F0 m tgt ls rest)) : W p l e R s m args below meth c H locs cells slots Q (F0 m pc ls (.int (oI x) :: rest)) := by
  subst hz
  exact lv_tableIn X.1 X.2.1 hdg (by rw [oI_i hx]; exact h1) (by rw [oI_i hx]; exact h2) (by rw [oI_i hx]; exact ho) ht kk
theorem w_tabOut (X : CallFix p m c cc nL s args lw_all own) {x : Int} {dflt lo hi : Int} {offs : Array Int} {len : Nat} {tgt : Nat} (hx : rI x) (hdg : decode cc pc = .ok (.tableswitch dflt lo hi offs, len)) (h : x < lo ∨ hi < x) (ht : (pc : Int) + dflt = (tgt : Int)) (kk : W p l e R s m args below meth c H locs cells slots Q (F0 m tgt ls rest)) : W p l e R s m args below meth c H locs cells slots Q (F0 m pc ls (.int (oI x) :: rest)) :=
  lv_tableOut X.1 X.2.1 hdg (by rw [oI_i hx]; exact h) ht kk
theorem w_mmaxl (X : CallFix p m c cc nL s args lw_all own) {x y : Int} (hx : rJ x) (hy : rJ y) (hsz : ls.size = nL) {idx : Nat} (hl : Cond.methodLink own idx ⟨"java/lang/Math", "max", "(JJ)J"⟩ ∈ lw_all) (hs : Cond.static ⟨"java/lang/Math", "max", "(JJ)J"⟩ ∈ lw_all) (hi : Cond.initialized "java/lang/Math" ∈ lw_all) (hcd : Cond.code ⟨"java/lang/Math", "max", "(JJ)J"⟩ prog_16_method_66_code 4 (some .long) ∈ lw_all) (hfr : 1 ≤ R.frames) (hlo : (rest.map fun v => v.category).sum + 15 ≤ R.locals) (hc : cells ≤ R.cells) (hss : slots ≤ R.slots) (hdg : decode cc pc = .ok (.invokestatic idx, 3)) (kk : W p l e R s m args below meth c H locs cells slots Q (F0 m (pc + 3) ls (.long (oL (max x y)) :: rest))) : W p l e R s m args below meth c H locs cells slots Q (F0 m pc ls (.long (oL y) :: .long (oL x) :: rest)) := by
  refine va_mmax_long X.1 X.2.1 (X.2.2.1.trans hsz.symm) X.2.2.2.1 (X.2.2.2.2 _ hl) (X.2.2.2.2 _ hs) (X.2.2.2.2 _ hi) (X.2.2.2.2 _ hcd) hfr hlo hc hss hdg ?_
  have e : (if oL y < oL x then oL x else oL y) = oL (max x y) := by
    have h0 := oL_lt hy hx
    split
    · rename_i q; congr 1; have := h0.mp q; omega
    · rename_i q; congr 1; have : ¬ y < x := fun z => q (h0.mpr z); omega
  rw [e]; exact kk
def lq0 (B : (St → Prop) → St → Prop) : Nat → St → Prop
  | 0 => fun _ => False
  | n + 1 => B (lq0 B n)
def lQ0 (B : (St → Prop) → St → Prop) (σ : St) : Prop := ∃ n, lq0 B n σ
theorem lQ0_rule {B : (St → Prop) → St → Prop} (I : St → Prop) (μ : St → Nat) (hs : ∀ (K : St → Prop) (σ : St), I σ → (∀ (τ : St), I τ → μ τ < μ σ → K τ) → B K σ) (σ : St) (h : I σ) : lQ0 B σ := by
  have key : ∀ (k : Nat) (σ : St), I σ → μ σ < k → lq0 B k σ := by
    intro k
    induction k with
    | zero => intro σ _ h; omega
    | succ k ih =>
      intro σ hI hk
      exact hs (lq0 B k) σ hI (fun τ h1 h2 => ih τ h1 (by omega))
  exact ⟨_, key _ σ h (Nat.lt_succ_self _)⟩
def lq1 (B : (Int → St → Prop) → Int → St → Prop) : Nat → Int → St → Prop
  | 0 => fun _ _ => False
  | n + 1 => B (lq1 B n)
def lQ1 (B : (Int → St → Prop) → Int → St → Prop) (x0 : Int) (σ : St) : Prop := ∃ n, lq1 B n x0 σ
theorem lQ1_rule {B : (Int → St → Prop) → Int → St → Prop} (I : Int → St → Prop) (μ : Int → St → Nat) (hs : ∀ (K : Int → St → Prop) (x0 : Int) (σ : St), I x0 σ → (∀ (y0 : Int) (τ : St), I y0 τ → μ y0 τ < μ x0 σ → K y0 τ) → B K x0 σ) (x0 : Int) (σ : St) (h : I x0 σ) : lQ1 B x0 σ := by
  have key : ∀ (k : Nat) (x0 : Int) (σ : St), I x0 σ → μ x0 σ < k → lq1 B k x0 σ := by
    intro k
    induction k with
    | zero => intro x0 σ _ h; omega
    | succ k ih =>
      intro x0 σ hI hk
      exact hs (lq1 B k) x0 σ hI (fun y0 τ h1 h2 => ih y0 τ h1 (by omega))
  exact ⟨_, key _ x0 σ h (Nat.lt_succ_self _)⟩
def lq2 (B : (Int → Int → St → Prop) → Int → Int → St → Prop) : Nat → Int → Int → St → Prop
  | 0 => fun _ _ _ => False
  | n + 1 => B (lq2 B n)
def lQ2 (B : (Int → Int → St → Prop) → Int → Int → St → Prop) (x0 x1 : Int) (σ : St) : Prop := ∃ n, lq2 B n x0 x1 σ
theorem lQ2_rule {B : (Int → Int → St → Prop) → Int → Int → St → Prop} (I : Int → Int → St → Prop) (μ : Int → Int → St → Nat) (hs : ∀ (K : Int → Int → St → Prop) (x0 x1 : Int) (σ : St), I x0 x1 σ → (∀ (y0 y1 : Int) (τ : St), I y0 y1 τ → μ y0 y1 τ < μ x0 x1 σ → K y0 y1 τ) → B K x0 x1 σ) (x0 x1 : Int) (σ : St) (h : I x0 x1 σ) : lQ2 B x0 x1 σ := by
  have key : ∀ (k : Nat) (x0 x1 : Int) (σ : St), I x0 x1 σ → μ x0 x1 σ < k → lq2 B k x0 x1 σ := by
    intro k
    induction k with
    | zero => intro x0 x1 σ _ h; omega
    | succ k ih =>
      intro x0 x1 σ hI hk
      exact hs (lq2 B k) x0 x1 σ hI (fun y0 y1 τ h1 h2 => ih y0 y1 τ h1 (by omega))
  exact ⟨_, key _ x0 x1 σ h (Nat.lt_succ_self _)⟩
def lq3 (B : (Int → Int → Int → St → Prop) → Int → Int → Int → St → Prop) : Nat → Int → Int → Int → St → Prop
  | 0 => fun _ _ _ _ => False
  | n + 1 => B (lq3 B n)
def lQ3 (B : (Int → Int → Int → St → Prop) → Int → Int → Int → St → Prop) (x0 x1 x2 : Int) (σ : St) : Prop := ∃ n, lq3 B n x0 x1 x2 σ
theorem lQ3_rule {B : (Int → Int → Int → St → Prop) → Int → Int → Int → St → Prop} (I : Int → Int → Int → St → Prop) (μ : Int → Int → Int → St → Nat) (hs : ∀ (K : Int → Int → Int → St → Prop) (x0 x1 x2 : Int) (σ : St), I x0 x1 x2 σ → (∀ (y0 y1 y2 : Int) (τ : St), I y0 y1 y2 τ → μ y0 y1 y2 τ < μ x0 x1 x2 σ → K y0 y1 y2 τ) → B K x0 x1 x2 σ) (x0 x1 x2 : Int) (σ : St) (h : I x0 x1 x2 σ) : lQ3 B x0 x1 x2 σ := by
  have key : ∀ (k : Nat) (x0 x1 x2 : Int) (σ : St), I x0 x1 x2 σ → μ x0 x1 x2 σ < k → lq3 B k x0 x1 x2 σ := by
    intro k
    induction k with
    | zero => intro x0 x1 x2 σ _ h; omega
    | succ k ih =>
      intro x0 x1 x2 σ hI hk
      exact hs (lq3 B k) x0 x1 x2 σ hI (fun y0 y1 y2 τ h1 h2 => ih y0 y1 y2 τ h1 (by omega))
  exact ⟨_, key _ x0 x1 x2 σ h (Nat.lt_succ_self _)⟩
def lq4 (B : (Int → Int → Int → Int → St → Prop) → Int → Int → Int → Int → St → Prop) : Nat → Int → Int → Int → Int → St → Prop
  | 0 => fun _ _ _ _ _ => False
  | n + 1 => B (lq4 B n)
def lQ4 (B : (Int → Int → Int → Int → St → Prop) → Int → Int → Int → Int → St → Prop) (x0 x1 x2 x3 : Int) (σ : St) : Prop := ∃ n, lq4 B n x0 x1 x2 x3 σ
theorem lQ4_rule {B : (Int → Int → Int → Int → St → Prop) → Int → Int → Int → Int → St → Prop} (I : Int → Int → Int → Int → St → Prop) (μ : Int → Int → Int → Int → St → Nat) (hs : ∀ (K : Int → Int → Int → Int → St → Prop) (x0 x1 x2 x3 : Int) (σ : St), I x0 x1 x2 x3 σ → (∀ (y0 y1 y2 y3 : Int) (τ : St), I y0 y1 y2 y3 τ → μ y0 y1 y2 y3 τ < μ x0 x1 x2 x3 σ → K y0 y1 y2 y3 τ) → B K x0 x1 x2 x3 σ) (x0 x1 x2 x3 : Int) (σ : St) (h : I x0 x1 x2 x3 σ) : lQ4 B x0 x1 x2 x3 σ := by
  have key : ∀ (k : Nat) (x0 x1 x2 x3 : Int) (σ : St), I x0 x1 x2 x3 σ → μ x0 x1 x2 x3 σ < k → lq4 B k x0 x1 x2 x3 σ := by
    intro k
    induction k with
    | zero => intro x0 x1 x2 x3 σ _ h; omega
    | succ k ih =>
      intro x0 x1 x2 x3 σ hI hk
      exact hs (lq4 B k) x0 x1 x2 x3 σ hI (fun y0 y1 y2 y3 τ h1 h2 => ih y0 y1 y2 y3 τ h1 (by omega))
  exact ⟨_, key _ x0 x1 x2 x3 σ h (Nat.lt_succ_self _)⟩
def lq5 (B : (Int → Int → Int → Int → Int → St → Prop) → Int → Int → Int → Int → Int → St → Prop) : Nat → Int → Int → Int → Int → Int → St → Prop
  | 0 => fun _ _ _ _ _ _ => False
  | n + 1 => B (lq5 B n)
def lQ5 (B : (Int → Int → Int → Int → Int → St → Prop) → Int → Int → Int → Int → Int → St → Prop) (x0 x1 x2 x3 x4 : Int) (σ : St) : Prop := ∃ n, lq5 B n x0 x1 x2 x3 x4 σ
theorem lQ5_rule {B : (Int → Int → Int → Int → Int → St → Prop) → Int → Int → Int → Int → Int → St → Prop} (I : Int → Int → Int → Int → Int → St → Prop) (μ : Int → Int → Int → Int → Int → St → Nat) (hs : ∀ (K : Int → Int → Int → Int → Int → St → Prop) (x0 x1 x2 x3 x4 : Int) (σ : St), I x0 x1 x2 x3 x4 σ → (∀ (y0 y1 y2 y3 y4 : Int) (τ : St), I y0 y1 y2 y3 y4 τ → μ y0 y1 y2 y3 y4 τ < μ x0 x1 x2 x3 x4 σ → K y0 y1 y2 y3 y4 τ) → B K x0 x1 x2 x3 x4 σ) (x0 x1 x2 x3 x4 : Int) (σ : St) (h : I x0 x1 x2 x3 x4 σ) : lQ5 B x0 x1 x2 x3 x4 σ := by
  have key : ∀ (k : Nat) (x0 x1 x2 x3 x4 : Int) (σ : St), I x0 x1 x2 x3 x4 σ → μ x0 x1 x2 x3 x4 σ < k → lq5 B k x0 x1 x2 x3 x4 σ := by
    intro k
    induction k with
    | zero => intro x0 x1 x2 x3 x4 σ _ h; omega
    | succ k ih =>
      intro x0 x1 x2 x3 x4 σ hI hk
      exact hs (lq5 B k) x0 x1 x2 x3 x4 σ hI (fun y0 y1 y2 y3 y4 τ h1 h2 => ih y0 y1 y2 y3 y4 τ h1 (by omega))
  exact ⟨_, key _ x0 x1 x2 x3 x4 σ h (Nat.lt_succ_self _)⟩
def lq6 (B : (Int → Int → Int → Int → Int → Int → St → Prop) → Int → Int → Int → Int → Int → Int → St → Prop) : Nat → Int → Int → Int → Int → Int → Int → St → Prop
  | 0 => fun _ _ _ _ _ _ _ => False
  | n + 1 => B (lq6 B n)
def lQ6 (B : (Int → Int → Int → Int → Int → Int → St → Prop) → Int → Int → Int → Int → Int → Int → St → Prop) (x0 x1 x2 x3 x4 x5 : Int) (σ : St) : Prop := ∃ n, lq6 B n x0 x1 x2 x3 x4 x5 σ
theorem lQ6_rule {B : (Int → Int → Int → Int → Int → Int → St → Prop) → Int → Int → Int → Int → Int → Int → St → Prop} (I : Int → Int → Int → Int → Int → Int → St → Prop) (μ : Int → Int → Int → Int → Int → Int → St → Nat) (hs : ∀ (K : Int → Int → Int → Int → Int → Int → St → Prop) (x0 x1 x2 x3 x4 x5 : Int) (σ : St), I x0 x1 x2 x3 x4 x5 σ → (∀ (y0 y1 y2 y3 y4 y5 : Int) (τ : St), I y0 y1 y2 y3 y4 y5 τ → μ y0 y1 y2 y3 y4 y5 τ < μ x0 x1 x2 x3 x4 x5 σ → K y0 y1 y2 y3 y4 y5 τ) → B K x0 x1 x2 x3 x4 x5 σ) (x0 x1 x2 x3 x4 x5 : Int) (σ : St) (h : I x0 x1 x2 x3 x4 x5 σ) : lQ6 B x0 x1 x2 x3 x4 x5 σ := by
  have key : ∀ (k : Nat) (x0 x1 x2 x3 x4 x5 : Int) (σ : St), I x0 x1 x2 x3 x4 x5 σ → μ x0 x1 x2 x3 x4 x5 σ < k → lq6 B k x0 x1 x2 x3 x4 x5 σ := by
    intro k
    induction k with
    | zero => intro x0 x1 x2 x3 x4 x5 σ _ h; omega
    | succ k ih =>
      intro x0 x1 x2 x3 x4 x5 σ hI hk
      exact hs (lq6 B k) x0 x1 x2 x3 x4 x5 σ hI (fun y0 y1 y2 y3 y4 y5 τ h1 h2 => ih y0 y1 y2 y3 y4 y5 τ h1 (by omega))
  exact ⟨_, key _ x0 x1 x2 x3 x4 x5 σ h (Nat.lt_succ_self _)⟩
def lq7 (B : (Int → Int → Int → Int → Int → Int → Int → St → Prop) → Int → Int → Int → Int → Int → Int → Int → St → Prop) : Nat → Int → Int → Int → Int → Int → Int → Int → St → Prop
  | 0 => fun _ _ _ _ _ _ _ _ => False
  | n + 1 => B (lq7 B n)
def lQ7 (B : (Int → Int → Int → Int → Int → Int → Int → St → Prop) → Int → Int → Int → Int → Int → Int → Int → St → Prop) (x0 x1 x2 x3 x4 x5 x6 : Int) (σ : St) : Prop := ∃ n, lq7 B n x0 x1 x2 x3 x4 x5 x6 σ
theorem lQ7_rule {B : (Int → Int → Int → Int → Int → Int → Int → St → Prop) → Int → Int → Int → Int → Int → Int → Int → St → Prop} (I : Int → Int → Int → Int → Int → Int → Int → St → Prop) (μ : Int → Int → Int → Int → Int → Int → Int → St → Nat) (hs : ∀ (K : Int → Int → Int → Int → Int → Int → Int → St → Prop) (x0 x1 x2 x3 x4 x5 x6 : Int) (σ : St), I x0 x1 x2 x3 x4 x5 x6 σ → (∀ (y0 y1 y2 y3 y4 y5 y6 : Int) (τ : St), I y0 y1 y2 y3 y4 y5 y6 τ → μ y0 y1 y2 y3 y4 y5 y6 τ < μ x0 x1 x2 x3 x4 x5 x6 σ → K y0 y1 y2 y3 y4 y5 y6 τ) → B K x0 x1 x2 x3 x4 x5 x6 σ) (x0 x1 x2 x3 x4 x5 x6 : Int) (σ : St) (h : I x0 x1 x2 x3 x4 x5 x6 σ) : lQ7 B x0 x1 x2 x3 x4 x5 x6 σ := by
  have key : ∀ (k : Nat) (x0 x1 x2 x3 x4 x5 x6 : Int) (σ : St), I x0 x1 x2 x3 x4 x5 x6 σ → μ x0 x1 x2 x3 x4 x5 x6 σ < k → lq7 B k x0 x1 x2 x3 x4 x5 x6 σ := by
    intro k
    induction k with
    | zero => intro x0 x1 x2 x3 x4 x5 x6 σ _ h; omega
    | succ k ih =>
      intro x0 x1 x2 x3 x4 x5 x6 σ hI hk
      exact hs (lq7 B k) x0 x1 x2 x3 x4 x5 x6 σ hI (fun y0 y1 y2 y3 y4 y5 y6 τ h1 h2 => ih y0 y1 y2 y3 y4 y5 y6 τ h1 (by omega))
  exact ⟨_, key _ x0 x1 x2 x3 x4 x5 x6 σ h (Nat.lt_succ_self _)⟩
def lq8 (B : (Int → Int → Int → Int → Int → Int → Int → Int → St → Prop) → Int → Int → Int → Int → Int → Int → Int → Int → St → Prop) : Nat → Int → Int → Int → Int → Int → Int → Int → Int → St → Prop
  | 0 => fun _ _ _ _ _ _ _ _ _ => False
  | n + 1 => B (lq8 B n)
def lQ8 (B : (Int → Int → Int → Int → Int → Int → Int → Int → St → Prop) → Int → Int → Int → Int → Int → Int → Int → Int → St → Prop) (x0 x1 x2 x3 x4 x5 x6 x7 : Int) (σ : St) : Prop := ∃ n, lq8 B n x0 x1 x2 x3 x4 x5 x6 x7 σ
theorem lQ8_rule {B : (Int → Int → Int → Int → Int → Int → Int → Int → St → Prop) → Int → Int → Int → Int → Int → Int → Int → Int → St → Prop} (I : Int → Int → Int → Int → Int → Int → Int → Int → St → Prop) (μ : Int → Int → Int → Int → Int → Int → Int → Int → St → Nat) (hs : ∀ (K : Int → Int → Int → Int → Int → Int → Int → Int → St → Prop) (x0 x1 x2 x3 x4 x5 x6 x7 : Int) (σ : St), I x0 x1 x2 x3 x4 x5 x6 x7 σ → (∀ (y0 y1 y2 y3 y4 y5 y6 y7 : Int) (τ : St), I y0 y1 y2 y3 y4 y5 y6 y7 τ → μ y0 y1 y2 y3 y4 y5 y6 y7 τ < μ x0 x1 x2 x3 x4 x5 x6 x7 σ → K y0 y1 y2 y3 y4 y5 y6 y7 τ) → B K x0 x1 x2 x3 x4 x5 x6 x7 σ) (x0 x1 x2 x3 x4 x5 x6 x7 : Int) (σ : St) (h : I x0 x1 x2 x3 x4 x5 x6 x7 σ) : lQ8 B x0 x1 x2 x3 x4 x5 x6 x7 σ := by
  have key : ∀ (k : Nat) (x0 x1 x2 x3 x4 x5 x6 x7 : Int) (σ : St), I x0 x1 x2 x3 x4 x5 x6 x7 σ → μ x0 x1 x2 x3 x4 x5 x6 x7 σ < k → lq8 B k x0 x1 x2 x3 x4 x5 x6 x7 σ := by
    intro k
    induction k with
    | zero => intro x0 x1 x2 x3 x4 x5 x6 x7 σ _ h; omega
    | succ k ih =>
      intro x0 x1 x2 x3 x4 x5 x6 x7 σ hI hk
      exact hs (lq8 B k) x0 x1 x2 x3 x4 x5 x6 x7 σ hI (fun y0 y1 y2 y3 y4 y5 y6 y7 τ h1 h2 => ih y0 y1 y2 y3 y4 y5 y6 y7 τ h1 (by omega))
  exact ⟨_, key _ x0 x1 x2 x3 x4 x5 x6 x7 σ h (Nat.lt_succ_self _)⟩
def lq9 (B : (Int → Int → Int → Int → Int → Int → Int → Int → Int → St → Prop) → Int → Int → Int → Int → Int → Int → Int → Int → Int → St → Prop) : Nat → Int → Int → Int → Int → Int → Int → Int → Int → Int → St → Prop
  | 0 => fun _ _ _ _ _ _ _ _ _ _ => False
  | n + 1 => B (lq9 B n)
def lQ9 (B : (Int → Int → Int → Int → Int → Int → Int → Int → Int → St → Prop) → Int → Int → Int → Int → Int → Int → Int → Int → Int → St → Prop) (x0 x1 x2 x3 x4 x5 x6 x7 x8 : Int) (σ : St) : Prop := ∃ n, lq9 B n x0 x1 x2 x3 x4 x5 x6 x7 x8 σ
theorem lQ9_rule {B : (Int → Int → Int → Int → Int → Int → Int → Int → Int → St → Prop) → Int → Int → Int → Int → Int → Int → Int → Int → Int → St → Prop} (I : Int → Int → Int → Int → Int → Int → Int → Int → Int → St → Prop) (μ : Int → Int → Int → Int → Int → Int → Int → Int → Int → St → Nat) (hs : ∀ (K : Int → Int → Int → Int → Int → Int → Int → Int → Int → St → Prop) (x0 x1 x2 x3 x4 x5 x6 x7 x8 : Int) (σ : St), I x0 x1 x2 x3 x4 x5 x6 x7 x8 σ → (∀ (y0 y1 y2 y3 y4 y5 y6 y7 y8 : Int) (τ : St), I y0 y1 y2 y3 y4 y5 y6 y7 y8 τ → μ y0 y1 y2 y3 y4 y5 y6 y7 y8 τ < μ x0 x1 x2 x3 x4 x5 x6 x7 x8 σ → K y0 y1 y2 y3 y4 y5 y6 y7 y8 τ) → B K x0 x1 x2 x3 x4 x5 x6 x7 x8 σ) (x0 x1 x2 x3 x4 x5 x6 x7 x8 : Int) (σ : St) (h : I x0 x1 x2 x3 x4 x5 x6 x7 x8 σ) : lQ9 B x0 x1 x2 x3 x4 x5 x6 x7 x8 σ := by
  have key : ∀ (k : Nat) (x0 x1 x2 x3 x4 x5 x6 x7 x8 : Int) (σ : St), I x0 x1 x2 x3 x4 x5 x6 x7 x8 σ → μ x0 x1 x2 x3 x4 x5 x6 x7 x8 σ < k → lq9 B k x0 x1 x2 x3 x4 x5 x6 x7 x8 σ := by
    intro k
    induction k with
    | zero => intro x0 x1 x2 x3 x4 x5 x6 x7 x8 σ _ h; omega
    | succ k ih =>
      intro x0 x1 x2 x3 x4 x5 x6 x7 x8 σ hI hk
      exact hs (lq9 B k) x0 x1 x2 x3 x4 x5 x6 x7 x8 σ hI (fun y0 y1 y2 y3 y4 y5 y6 y7 y8 τ h1 h2 => ih y0 y1 y2 y3 y4 y5 y6 y7 y8 τ h1 (by omega))
  exact ⟨_, key _ x0 x1 x2 x3 x4 x5 x6 x7 x8 σ h (Nat.lt_succ_self _)⟩
def lq10 (B : (Int → Int → Int → Int → Int → Int → Int → Int → Int → Int → St → Prop) → Int → Int → Int → Int → Int → Int → Int → Int → Int → Int → St → Prop) : Nat → Int → Int → Int → Int → Int → Int → Int → Int → Int → Int → St → Prop
  | 0 => fun _ _ _ _ _ _ _ _ _ _ _ => False
  | n + 1 => B (lq10 B n)
def lQ10 (B : (Int → Int → Int → Int → Int → Int → Int → Int → Int → Int → St → Prop) → Int → Int → Int → Int → Int → Int → Int → Int → Int → Int → St → Prop) (x0 x1 x2 x3 x4 x5 x6 x7 x8 x9 : Int) (σ : St) : Prop := ∃ n, lq10 B n x0 x1 x2 x3 x4 x5 x6 x7 x8 x9 σ
theorem lQ10_rule {B : (Int → Int → Int → Int → Int → Int → Int → Int → Int → Int → St → Prop) → Int → Int → Int → Int → Int → Int → Int → Int → Int → Int → St → Prop} (I : Int → Int → Int → Int → Int → Int → Int → Int → Int → Int → St → Prop) (μ : Int → Int → Int → Int → Int → Int → Int → Int → Int → Int → St → Nat) (hs : ∀ (K : Int → Int → Int → Int → Int → Int → Int → Int → Int → Int → St → Prop) (x0 x1 x2 x3 x4 x5 x6 x7 x8 x9 : Int) (σ : St), I x0 x1 x2 x3 x4 x5 x6 x7 x8 x9 σ → (∀ (y0 y1 y2 y3 y4 y5 y6 y7 y8 y9 : Int) (τ : St), I y0 y1 y2 y3 y4 y5 y6 y7 y8 y9 τ → μ y0 y1 y2 y3 y4 y5 y6 y7 y8 y9 τ < μ x0 x1 x2 x3 x4 x5 x6 x7 x8 x9 σ → K y0 y1 y2 y3 y4 y5 y6 y7 y8 y9 τ) → B K x0 x1 x2 x3 x4 x5 x6 x7 x8 x9 σ) (x0 x1 x2 x3 x4 x5 x6 x7 x8 x9 : Int) (σ : St) (h : I x0 x1 x2 x3 x4 x5 x6 x7 x8 x9 σ) : lQ10 B x0 x1 x2 x3 x4 x5 x6 x7 x8 x9 σ := by
  have key : ∀ (k : Nat) (x0 x1 x2 x3 x4 x5 x6 x7 x8 x9 : Int) (σ : St), I x0 x1 x2 x3 x4 x5 x6 x7 x8 x9 σ → μ x0 x1 x2 x3 x4 x5 x6 x7 x8 x9 σ < k → lq10 B k x0 x1 x2 x3 x4 x5 x6 x7 x8 x9 σ := by
    intro k
    induction k with
    | zero => intro x0 x1 x2 x3 x4 x5 x6 x7 x8 x9 σ _ h; omega
    | succ k ih =>
      intro x0 x1 x2 x3 x4 x5 x6 x7 x8 x9 σ hI hk
      exact hs (lq10 B k) x0 x1 x2 x3 x4 x5 x6 x7 x8 x9 σ hI (fun y0 y1 y2 y3 y4 y5 y6 y7 y8 y9 τ h1 h2 => ih y0 y1 y2 y3 y4 y5 y6 y7 y8 y9 τ h1 (by omega))
  exact ⟨_, key _ x0 x1 x2 x3 x4 x5 x6 x7 x8 x9 σ h (Nat.lt_succ_self _)⟩
def lq11 (B : (Int → Int → Int → Int → Int → Int → Int → Int → Int → Int → Int → St → Prop) → Int → Int → Int → Int → Int → Int → Int → Int → Int → Int → Int → St → Prop) : Nat → Int → Int → Int → Int → Int → Int → Int → Int → Int → Int → Int → St → Prop
  | 0 => fun _ _ _ _ _ _ _ _ _ _ _ _ => False
  | n + 1 => B (lq11 B n)
def lQ11 (B : (Int → Int → Int → Int → Int → Int → Int → Int → Int → Int → Int → St → Prop) → Int → Int → Int → Int → Int → Int → Int → Int → Int → Int → Int → St → Prop) (x0 x1 x2 x3 x4 x5 x6 x7 x8 x9 x10 : Int) (σ : St) : Prop := ∃ n, lq11 B n x0 x1 x2 x3 x4 x5 x6 x7 x8 x9 x10 σ
theorem lQ11_rule {B : (Int → Int → Int → Int → Int → Int → Int → Int → Int → Int → Int → St → Prop) → Int → Int → Int → Int → Int → Int → Int → Int → Int → Int → Int → St → Prop} (I : Int → Int → Int → Int → Int → Int → Int → Int → Int → Int → Int → St → Prop) (μ : Int → Int → Int → Int → Int → Int → Int → Int → Int → Int → Int → St → Nat) (hs : ∀ (K : Int → Int → Int → Int → Int → Int → Int → Int → Int → Int → Int → St → Prop) (x0 x1 x2 x3 x4 x5 x6 x7 x8 x9 x10 : Int) (σ : St), I x0 x1 x2 x3 x4 x5 x6 x7 x8 x9 x10 σ → (∀ (y0 y1 y2 y3 y4 y5 y6 y7 y8 y9 y10 : Int) (τ : St), I y0 y1 y2 y3 y4 y5 y6 y7 y8 y9 y10 τ → μ y0 y1 y2 y3 y4 y5 y6 y7 y8 y9 y10 τ < μ x0 x1 x2 x3 x4 x5 x6 x7 x8 x9 x10 σ → K y0 y1 y2 y3 y4 y5 y6 y7 y8 y9 y10 τ) → B K x0 x1 x2 x3 x4 x5 x6 x7 x8 x9 x10 σ) (x0 x1 x2 x3 x4 x5 x6 x7 x8 x9 x10 : Int) (σ : St) (h : I x0 x1 x2 x3 x4 x5 x6 x7 x8 x9 x10 σ) : lQ11 B x0 x1 x2 x3 x4 x5 x6 x7 x8 x9 x10 σ := by
  have key : ∀ (k : Nat) (x0 x1 x2 x3 x4 x5 x6 x7 x8 x9 x10 : Int) (σ : St), I x0 x1 x2 x3 x4 x5 x6 x7 x8 x9 x10 σ → μ x0 x1 x2 x3 x4 x5 x6 x7 x8 x9 x10 σ < k → lq11 B k x0 x1 x2 x3 x4 x5 x6 x7 x8 x9 x10 σ := by
    intro k
    induction k with
    | zero => intro x0 x1 x2 x3 x4 x5 x6 x7 x8 x9 x10 σ _ h; omega
    | succ k ih =>
      intro x0 x1 x2 x3 x4 x5 x6 x7 x8 x9 x10 σ hI hk
      exact hs (lq11 B k) x0 x1 x2 x3 x4 x5 x6 x7 x8 x9 x10 σ hI (fun y0 y1 y2 y3 y4 y5 y6 y7 y8 y9 y10 τ h1 h2 => ih y0 y1 y2 y3 y4 y5 y6 y7 y8 y9 y10 τ h1 (by omega))
  exact ⟨_, key _ x0 x1 x2 x3 x4 x5 x6 x7 x8 x9 x10 σ h (Nat.lt_succ_self _)⟩
end
