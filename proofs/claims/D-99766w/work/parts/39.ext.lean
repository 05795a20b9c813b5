-- NAME 39.ext
set_option maxRecDepth 100000
theorem foldN_two {α β : Type} {g : Nat → α → α} {g' : Nat → β → β} (R : α → β → Prop) : ∀ (k s : Nat) (x : α) (y : β), R x y → (∀ i x y, s ≤ i → i < s + k → R x y → R (g i x) (g' i y)) → R (foldN g k s x) (foldN g' k s y) := by
  intro k
  induction k with
  | zero => intro s x y h _; exact h
  | succ k ih => intro s x y h hs; exact ih (s + 1) _ _ (hs s x y (Nat.le_refl _) (by omega) h) (fun i x y h1 h2 h3 => hs i x y (by omega) (by omega) h3)
section s39m
variable {td : Nat → Nat → Int32} {F : (Nat → Int32) → Int32} {nS nN : Nat} {ρ ρ' : Nat → Int32}
/-- two rows that agree -/
def rE (ρ ρ' : Nat → Int32) : Prop := ∀ j, j < 57 → ρ' j = ρ j
theorem rE.up (h : rE ρ ρ') (i : Nat) (v : Int32) : rE (va_up ρ i v) (va_up ρ' i v) := by
  intro j hj
  by_cases e : j = i
  · rw [e, vu_same, vu_same]
  · rw [vu_ne e, vu_ne e, h j hj]
theorem mTk_ext (h : rE ρ ρ') {n s : Nat} (hn : n < 20) (hs : s < 7) : mTk td F ρ' n s = mTk td F ρ n s := by
  unfold mTk
  rw [h s (by omega), h (14 + s) (by omega), h (35 + n) (by omega), h 56 (by omega)]
theorem mCan_ext (h : rE ρ ρ') {n s : Nat} (hn : n < 20) (hs : s < 7) : mCan td F ρ' n s = mCan td F ρ n s := by
  unfold mCan
  rw [mTk_ext h hn hs, h s (by omega), h (7 + s) (by omega), h (35 + n) (by omega)]
theorem mSb_ext (h : rE ρ ρ') {n : Nat} (hn : n < 20) : ∀ (j s : Nat), s + j ≤ 7 → mSb td F ρ' n j s = mSb td F ρ n j s := by
  intro j
  induction j with
  | zero => intro s _; rfl
  | succ j ih =>
    intro s hs
    unfold mSb
    rw [ih (s + 1) (by omega)]
    have := mCan_ext (td := td) (F := F) h hn (show s < 7 by omega)
    by_cases hc : mCan td F ρ n s
    · rw [if_pos (show mCan td F ρ' n s by rw [this]; exact hc), if_pos hc]
    · rw [if_neg (show ¬ mCan td F ρ' n s by rw [this]; exact hc), if_neg hc]
theorem mSings_ext (h : rE ρ ρ') (hS : nS ≤ 7) {n : Nat} (hn : n < 20) : rE (mSings td F nS ρ n) (mSings td F nS ρ' n) := by
  unfold mSings
  rw [mSb_ext h hn nS 0 (by omega)]
  cases hq : mSb td F ρ n nS 0 with
  | none => exact h
  | some s =>
    have := (mSb_lt hq).1
    simp only
    rw [mTk_ext h hn (by omega), h s (by omega), h (14 + s) (by omega), h (28 + s) (by omega)]
    exact ((h.up _ _).up _ _).up _ _
theorem mHymn_ext (h : rE ρ ρ') (hS : nS ≤ 7) (hN : nN ≤ 20) : rE (mHymn td F nS nN ρ).1 (mHymn td F nS nN ρ').1 ∧ (mHymn td F nS nN ρ').2 = (mHymn td F nS nN ρ).2 := by
  refine foldN_two (g := mHstep td F nS) (g' := mHstep td F nS) (fun x y => rE x.1 y.1 ∧ y.2 = x.2) nN 0 (ρ, iv 0) (ρ', iv 0) ⟨h, rfl⟩ (fun i x y _ hi hxy => ?_)
  obtain ⟨h1, h2⟩ := hxy
  unfold mHstep
  rw [mSb_ext h1 (by omega) nS 0 (by omega), h2]
  cases hq : mSb td F x.1 i nS 0 with
  | none => simp only; rw [h1 55 (by omega)]; exact ⟨h1.up _ _, trivial⟩
  | some s => exact ⟨mSings_ext h1 hS (by omega), rfl⟩
theorem mBrth_ext (h : rE ρ ρ') : rE (mBrth td nS ρ) (mBrth td nS ρ') := foldN_two (fun x y => rE x y) nS 0 ρ ρ' h (fun i x y _ _ hxy => hxy.up _ _)
theorem mOnly_ext {set : Int32} (h : rE ρ ρ') : rE (mOnly nS set ρ) (mOnly nS set ρ') := foldN_two (fun x y => rE x y) nS 0 ρ ρ' h (fun i x y _ _ hxy => hxy.up _ _)
theorem mCpy_ext (a b : Nat → Int32) : rE a (mCpy a b) := fun j hj => mCpy_at hj
theorem mBrth_CR {b : (Nat → Nat → Int32) × (Nat → Int32)} (hS : nS ≤ 7) (hN : nN ≤ 20) (h : CR nS nN b ρ) (e : rE ρ ρ') : CR nS nN b ρ' := h.of hS hN e
/-- the hymn hears as many as it sings -/
theorem mAll_up {d i : Nat} {v : Int32} (hd : ∀ s, s < nS → i ≠ d + s) : mAll nS (va_up ρ i v) d = mAll nS ρ d := foldN_eq nS 0 (iv 0) (fun s x _ hs => by rw [vu_ne (fun e => hd s (by omega) e.symm)])
theorem mAll_acc {g : Nat → Int32} : ∀ (j s : Nat) (x y : Int32), foldN (fun s z => z + g s) j s (x + y) = foldN (fun s z => z + g s) j s x + y := by
  intro j
  induction j with
  | zero => intro s x y; rfl
  | succ j ih =>
    intro s x y
    show foldN (fun s z => z + g s) j (s + 1) (x + y + g s) = foldN (fun s z => z + g s) j (s + 1) (x + g s) + y
    rw [Int32.add_assoc x y, Int32.add_comm y, ← Int32.add_assoc, ih]
theorem mAll_inc {s d : Nat} : ∀ (j i : Nat) (x : Int32), i ≤ s → s < i + j → foldN (fun q z => z + va_up ρ (d + s) (ρ (d + s) + iv 1) (d + q)) j i x = foldN (fun q z => z + ρ (d + q)) j i x + iv 1 := by
  intro j
  induction j with
  | zero => intro i x h1 h2; omega
  | succ j ih =>
    intro i x h1 h2
    show foldN (fun q z => z + va_up ρ (d + s) (ρ (d + s) + iv 1) (d + q)) j (i + 1) (x + va_up ρ (d + s) (ρ (d + s) + iv 1) (d + i)) = foldN (fun q z => z + ρ (d + q)) j (i + 1) (x + ρ (d + i)) + iv 1
    by_cases e : i = s
    · subst e
      rw [vu_same, ← Int32.add_assoc, mAll_acc]
      refine congrArg (fun y => y + iv 1) (foldN_eq j (i + 1) _ (fun q z h3 _ => by rw [vu_ne (by omega)]))
    · rw [vu_ne (by omega)]
      exact ih (i + 1) _ (by omega) (by omega)
theorem mSings_all (hS : nS ≤ 7) {n : Nat} : mAll nS (mSings td F nS ρ n) 14 = mAll nS ρ 14 + (match mSb td F ρ n nS 0 with | none => iv 0 | some _ => iv 1) := by
  unfold mSings
  cases hq : mSb td F ρ n nS 0 with
  | none => exact (Int32.add_zero _).symm
  | some s =>
    have hs := (mSb_lt hq).1
    simp only
    rw [mAll_up (fun q hq => by omega)]
    have h1 := mAll_inc (ρ := va_up ρ s (ρ s - mTk td F ρ n s)) (s := s) (d := 14) nS 0 (iv 0) (by omega) (by omega)
    rw [show va_up ρ s (ρ s - mTk td F ρ n s) (14 + s) = ρ (14 + s) from vu_ne (by omega)] at h1
    refine h1.trans (congrArg (fun y => y + iv 1) ?_)
    exact mAll_up (d := 14) (fun q hq => by omega)
theorem mHymn_all (hS : nS ≤ 7) (hN : nN ≤ 20) : ∃ a, a < 2 ^ nN ∧ (mHymn td F nS nN ρ).2 = iv a ∧ mAll nS (mHymn td F nS nN ρ).1 14 = mAll nS ρ 14 + iv (bcN a) := by
  have h := foldN_inv (g := mHstep td F nS) (fun k q => k ≤ nN → ∃ a, a < 2 ^ k ∧ q.2 = iv a ∧ mAll nS q.1 14 = mAll nS ρ 14 + iv (bcN a)) nN 0 (ρ, iv 0) (fun _ => ⟨0, by decide, rfl, (Int32.add_zero _).symm⟩) (fun k q h1 h2 h3 hk => by
    obtain ⟨a, a1, a2, a3⟩ := h3 (by omega)
    have hp : 2 ^ (k + 1) = 2 * 2 ^ k := by rw [Nat.pow_succ]; omega
    unfold mHstep
    cases hq : mSb td F q.1 k nS 0 with
    | none => exact ⟨a, by omega, a2, by simp only; rw [mAll_up (fun q hq => by omega)]; exact a3⟩
    | some s =>
      refine ⟨a + 2 ^ k, by omega, ?_, ?_⟩
      · show q.2 ||| mBit k = _
        rw [a2, show mBit k = iv (2 ^ k) from pw2 k (by omega), iv_or, or_pw a1]
      · show mAll nS (mSings td F nS q.1 k) 14 = _
        rw [mSings_all hS, hq, a3, pc_add (by omega) a1, ← iv_add, Int32.add_assoc])
  rw [Nat.zero_add] at h
  exact h (Nat.le_refl _)
end s39m
/-! has, sets -/
theorem set_every : ∀ m, m < 8 → ∀ q, q < 128 → ∀ s, s < 8 → q < 2 ^ m → s < m → (if fX1_has (iv (2 ^ m - 1) &&& (iv q ^^^ NO)) (iv s) = iv 0 then iv 1 else iv 0) = fX1_has (iv q) (iv s) := by decide +kernel
theorem has_cases (h k : Int32) : (if fX1_has h k = iv 0 then iv 0 else iv 1) = fX1_has h k := by
  rcases has_01 h k with e | e <;> rw [e] <;> rfl
theorem pow7 {m : Nat} (h : m ≤ 7) : 2 ^ m ≤ 128 := Nat.le_trans (Nat.pow_le_pow_right (by decide) h) (by decide)
def mPay (td : Nat → Nat → Int32) (nS : Nat) (set : Int32) : Int32 := foldN (fun s z => z + (if fX1_has set (iv s) = iv 0 then iv 0 else td (1 + s) 1)) nS 0 (iv 0)
section s39
variable {c : Nat} {td : Nat → Nat → Int32} {lw : Nat → Nat → Int32} {rw : Nat → Nat → Int32} {bf : Nat → Nat → Int32} {kp : Nat → Nat → Int32} {st : Nat → Nat → Int32} {ln : Nat → Nat → Int32} {rd : Nat → Nat → Int32} {rl : Nat → Nat → Int32} {rn : Nat → Nat → Int32} {ms : Nat → Nat → Int32} {sc : Nat → Nat → Int32} {mc : Nat → Nat → Int32} {fa : Nat → Int32} {pm : Nat → Int32} {xl : Nat → Int64} {pc : Nat → Int32} {rt : Nat → Option Nat} {ra : Nat → Nat → Option Nat} {ch : Nat → (Nat → Nat → Int32) × (Nat → Int32)} {ow : Nat → Option (Nat × Nat)} {ou : Nat → Int64} {B : gS}
variable {nS nN nL x k : Nat} {sgA ntA lkA : Nat → Nat} {F : (Nat → Int32) → Int32} {tp wk im lm n : Nat} {ρ : Nat → Int32}
theorem c_paid_l (h : tO (zV c ow B) rt td nS nN nL sgA ntA lkA) {set : Int32} : ∀ (j s fuel : Nat) (z : Int32), s + j = nS → j < fuel → fX1_paid_l4 fuel (some (aV c)) set z (iv s) (zS c td lw rw bf kp st ln rd rl rn ms sc mc fa pm xl pc rt ra ch ow ou B) = some (foldN (fun s z => z + (if fX1_has set (iv s) = iv 0 then iv 0 else td (1 + s) 1)) j s z) := by
  intro j
  have hS := h.1
  induction j with
  | zero =>
    intro s fuel z hs hf
    obtain ⟨f, rfl⟩ : ∃ f, fuel = f + 1 := ⟨fuel - 1, by omega⟩
    have hc : nS ≤ s := by omega
    simp (maxSteps := 3000000) (disch := first | assumption | omega | (simp (disch := omega) only [okx_iv', nx_iv, iv_add, L0, L1, L2, L3, L7, L8, L14, L21, L28, L35, L55, L56, *]; try omega)) only [fX1_paid_l4, fX1_paid_i4, ↓bvv, ↓gvv, ↓tvv, L0, L1, iv_add, no_def, nx_iv, okx_iv', iv_le, iv_lt, iv_eq, iv_no, no_iv, Nat.not_lt_zero, Nat.le_refl, vu_same, vu_ne, vu_up, ↓reduceIte, hc, foldN, ↓b_singers h, ↓b_singerOf h, ↓b_sg1 h]
  | succ j ih =>
    intro s fuel z hs hf
    obtain ⟨f, rfl⟩ : ∃ f, fuel = f + 1 := ⟨fuel - 1, by omega⟩
    have hc : ¬ nS ≤ s := by omega
    refine Eq.trans ?_ (ih (s + 1) f ((fun s z => z + (if fX1_has set (iv s) = iv 0 then iv 0 else td (1 + s) 1)) s z) (by omega) (by omega))
    by_cases cc0 : fX1_has set (iv s) = iv 0
    · simp (maxSteps := 3000000) (disch := first | assumption | omega | (simp (disch := omega) only [okx_iv', nx_iv, iv_add, L0, L1, L2, L3, L7, L8, L14, L21, L28, L35, L55, L56, *]; try omega)) only [fX1_paid_l4, fX1_paid_i4, ↓bvv, ↓gvv, ↓tvv, L0, L1, iv_add, no_def, nx_iv, okx_iv', iv_le, iv_lt, iv_eq, iv_no, no_iv, Nat.not_lt_zero, Nat.le_refl, vu_same, vu_ne, vu_up, ↓reduceIte, hc, ↓b_singers h, ↓b_singerOf h, ↓b_sg1 h, cc0, if_true, if_false]
    · simp (maxSteps := 3000000) (disch := first | assumption | omega | (simp (disch := omega) only [okx_iv', nx_iv, iv_add, L0, L1, L2, L3, L7, L8, L14, L21, L28, L35, L55, L56, *]; try omega)) only [fX1_paid_l4, fX1_paid_i4, ↓bvv, ↓gvv, ↓tvv, L0, L1, iv_add, no_def, nx_iv, okx_iv', iv_le, iv_lt, iv_eq, iv_no, no_iv, Nat.not_lt_zero, Nat.le_refl, vu_same, vu_ne, vu_up, ↓reduceIte, hc, ↓b_singers h, ↓b_singerOf h, ↓b_sg1 h, cc0, if_true, if_false]
theorem c_paid (h : tO (zV c ow B) rt td nS nN nL sgA ntA lkA) {set : Int32} : fX1_paid (some (aV c)) set (zS c td lw rw bf kp st ln rd rl rn ms sc mc fa pm xl pc rt ra ch ow ou B) = some (mPay td nS set) := c_paid_l h nS 0 gFU (iv 0) (by omega) (by have := h.1; unfold gFU; omega)
theorem s_payOf_l (ht : tOK td nS nN nL) {set : Int32} : ∀ (j s fuel : Nat) (z : Int32), s + j = nS → j < fuel → fX6_payOf_l4 fuel (some (aM c)) set z (iv s) (zS c td lw rw bf kp st ln rd rl rn ms sc mc fa pm xl pc rt ra ch ow ou B) = some (foldN (fun s z => z + (if fX1_has set (iv s) = iv 0 then iv 0 else td (1 + s) 1)) j s z) := by
  intro j
  have ⟨h1, h2, h3, h4, h5, h6⟩ := ht
  induction j with
  | zero =>
    intro s fuel z hs hf
    obtain ⟨f, rfl⟩ : ∃ f, fuel = f + 1 := ⟨fuel - 1, by omega⟩
    have hc : nS ≤ s := by omega
    simp (maxSteps := 3000000) (disch := first | assumption | omega | (simp (disch := omega) only [okx_iv', nx_iv, iv_add, L0, L1, L2, L3, L7, L8, L14, L21, L28, L35, L55, L56, *]; try omega)) only [fX6_payOf_l4, fX6_payOf_i4, ↓gm_12, ↓gm_14, ↓ld_aTo, ↓ld_aSgs, ↓ld_aSg, L0, L1, iv_add, no_def, nx_iv, okx_iv', iv_le, iv_lt, iv_eq, iv_no, no_iv, Nat.not_lt_zero, Nat.le_refl, vu_same, vu_ne, vu_up, ↓reduceIte, hc, foldN, h1, has_eq]
  | succ j ih =>
    intro s fuel z hs hf
    obtain ⟨f, rfl⟩ : ∃ f, fuel = f + 1 := ⟨fuel - 1, by omega⟩
    have hc : ¬ nS ≤ s := by omega
    refine Eq.trans ?_ (ih (s + 1) f ((fun s z => z + (if fX1_has set (iv s) = iv 0 then iv 0 else td (1 + s) 1)) s z) (by omega) (by omega))
    by_cases cc0 : fX1_has set (iv s) = iv 0
    · simp (maxSteps := 3000000) (disch := first | assumption | omega | (simp (disch := omega) only [okx_iv', nx_iv, iv_add, L0, L1, L2, L3, L7, L8, L14, L21, L28, L35, L55, L56, *]; try omega)) only [fX6_payOf_l4, fX6_payOf_i4, ↓gm_12, ↓gm_14, ↓ld_aTo, ↓ld_aSgs, ↓ld_aSg, L0, L1, iv_add, no_def, nx_iv, okx_iv', iv_le, iv_lt, iv_eq, iv_no, no_iv, Nat.not_lt_zero, Nat.le_refl, vu_same, vu_ne, vu_up, ↓reduceIte, hc, h1, has_eq, cc0, if_true, if_false]
    · simp (maxSteps := 3000000) (disch := first | assumption | omega | (simp (disch := omega) only [okx_iv', nx_iv, iv_add, L0, L1, L2, L3, L7, L8, L14, L21, L28, L35, L55, L56, *]; try omega)) only [fX6_payOf_l4, fX6_payOf_i4, ↓gm_12, ↓gm_14, ↓ld_aTo, ↓ld_aSgs, ↓ld_aSg, L0, L1, iv_add, no_def, nx_iv, okx_iv', iv_le, iv_lt, iv_eq, iv_no, no_iv, Nat.not_lt_zero, Nat.le_refl, vu_same, vu_ne, vu_up, ↓reduceIte, hc, h1, has_eq, cc0, if_true, if_false]
theorem s_payOf (ht : tOK td nS nN nL) {set : Int32} : fX6_payOf (some (aM c)) set (zS c td lw rw bf kp st ln rd rl rn ms sc mc fa pm xl pc rt ra ch ow ou B) = some (mPay td nS set) := s_payOf_l ht nS 0 gFU (iv 0) (by omega) (by have := ht.2.2.2.1; unfold gFU; omega)
theorem s_every (ht : tOK td nS nN nL) : fX6_everySinger (some (aM c)) (zS c td lw rw bf kp st ln rd rl rn ms sc mc fa pm xl pc rt ra ch ow ou B) = some (iv (2 ^ nS - 1)) := by
  have h5 := ht.2.2.2.1
  have h6 := Nat.two_pow_pos nS
  unfold fX6_everySinger
  simp (maxSteps := 3000000) (disch := first | assumption | omega | (simp (disch := omega) only [okx_iv', nx_iv, iv_add, L0, L1, L2, L3, L7, L8, L14, L21, L28, L35, L55, L56, *]; try omega)) only [↓gm_12, ↓ld_aTo, L0, L1, L31, iv_add, no_def, nx_iv, okx_iv', iv_le, iv_lt, iv_eq, iv_no, no_iv, Nat.not_lt_zero, Nat.le_refl, vu_same, vu_ne, vu_up, ↓reduceIte, ht.1, pw2 nS (by omega), iv_sub (show 1 ≤ 2 ^ nS by omega)]
theorem c_allN (h : tO (zV c ow B) rt td nS nN nL sgA ntA lkA) : fX1_allNotes (some (aV c)) (zS c td lw rw bf kp st ln rd rl rn ms sc mc fa pm xl pc rt ra ch ow ou B) = some (iv (2 ^ nN) - iv 1) := by
  have h5 := h.2.1
  unfold fX1_allNotes
  simp (maxSteps := 3000000) (disch := first | assumption | omega | (simp (disch := omega) only [okx_iv', nx_iv, iv_add, L0, L1, L2, L3, L7, L8, L14, L21, L28, L35, L55, L56, *]; try omega)) only [↓bvv, ↓gvv, ↓tvv, L0, L1, L31, ↓b_notes h, iv_add, no_def, nx_iv, okx_iv', iv_le, iv_lt, iv_eq, iv_no, no_iv, Nat.not_lt_zero, Nat.le_refl, vu_same, vu_ne, vu_up, ↓reduceIte, pw2 nN (by omega)]
end s39
