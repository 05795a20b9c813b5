set_option maxRecDepth 100000
section s29
variable {c : Nat} {td : Nat → Nat → Int32} {lw : Nat → Nat → Int32} {rw : Nat → Nat → Int32} {bf : Nat → Nat → Int32} {kp : Nat → Nat → Int32} {st : Nat → Nat → Int32} {ln : Nat → Nat → Int32} {rd : Nat → Nat → Int32} {rl : Nat → Nat → Int32} {rn : Nat → Nat → Int32} {ms : Nat → Nat → Int32} {sc : Nat → Nat → Int32} {mc : Nat → Nat → Int32} {fa : Nat → Int32} {pm : Nat → Int32} {xl : Nat → Int64} {pc : Nat → Int32} {rt : Nat → Option Nat} {ra : Nat → Nat → Option Nat} {ch : Nat → (Nat → Nat → Int32) × (Nat → Int32)} {ow : Nat → Option (Nat × Nat)} {ou : Nat → Int64} {B : gS}
variable {tq : Nat → Nat → Int32} {F : (Nat → Int32) → Int32} {nS nN nL x : Nat} {sgA ntA lkA : Nat → Nat} {ρ : Nat → Int32}
/-! the model: sums, bits, words -/
theorem s_all_l (ht : tOK td nS nN nL) {b d : Nat} (hb : b < 2) (hd : d + nS ≤ 57) : ∀ (j s fuel : Nat) (y : Int32), s + j = nS → j < fuel → fX6_all_l5 fuel (some (aM c)) (some (aRow c b)) (iv d) y (iv s) (zS c td lw rw bf kp st ln rd rl rn ms sc mc fa pm xl pc rt ra ch ow ou B) = some (foldN (fun s y => y + rw b (d + s)) j s y) := by
  intro j
  have ⟨h1, h2, h3, h4, h5, h6⟩ := ht
  induction j with
  | zero =>
    intro s fuel y hs hf
    obtain ⟨f, rfl⟩ : ∃ f, fuel = f + 1 := ⟨fuel - 1, by omega⟩
    have hc : nS ≤ s := by omega
    simp (disch := first | assumption | omega | (simp (disch := omega) only [okx_iv', nx_iv, iv_add, L0, L1, L2, L3, L7, L8, L14, L21, L28, L35, L55, L56, *]; try omega)) only [fX6_all_l5, fX6_all_i5, ↓gm_12, ↓ld_aTo, ↓ld_aRow, L0, L1, iv_add, no_def, nx_iv, okx_iv', iv_le, iv_lt, iv_eq, iv_no, no_iv, Nat.not_lt_zero, vu_same, vu_ne, vu_up, ↓reduceIte, hc, foldN, h1, ↓ld_aRow]
  | succ j ih =>
    intro s fuel y hs hf
    obtain ⟨f, rfl⟩ : ∃ f, fuel = f + 1 := ⟨fuel - 1, by omega⟩
    have hc : ¬ nS ≤ s := by omega
    refine Eq.trans ?_ (ih (s + 1) f ((fun s y => y + rw b (d + s)) s y) (by omega) (by omega))
    simp (disch := first | assumption | omega | (simp (disch := omega) only [okx_iv', nx_iv, iv_add, L0, L1, L2, L3, L7, L8, L14, L21, L28, L35, L55, L56, *]; try omega)) only [fX6_all_l5, fX6_all_i5, ↓gm_12, ↓ld_aTo, ↓ld_aRow, L0, L1, iv_add, no_def, nx_iv, okx_iv', iv_le, iv_lt, iv_eq, iv_no, no_iv, Nat.not_lt_zero, vu_same, vu_ne, vu_up, ↓reduceIte, hc, h1, ↓ld_aRow]
theorem s_all (ht : tOK td nS nN nL) {b d : Nat} (hb : b < 2) (hd : d + nS ≤ 57) : fX6_all (some (aM c)) (some (aRow c b)) (iv d) (zS c td lw rw bf kp st ln rd rl rn ms sc mc fa pm xl pc rt ra ch ow ou B) = some (mAll nS (rw b) d) := s_all_l ht hb hd nS 0 gFU (iv 0) (by omega) (by have := ht.2.2.2.1; unfold gFU; omega)
theorem s_hoarse_l (ht : tOK td nS nN nL) {b : Nat} (hb : b < 2) : ∀ (j s fuel : Nat) (y : Int32), s + j = nS → j < fuel → fX6_hoarse_l4 fuel (some (aM c)) (some (aRow c b)) y (iv s) (zS c td lw rw bf kp st ln rd rl rn ms sc mc fa pm xl pc rt ra ch ow ou B) = some (foldN (fun s y => y ||| (rw b (7 + s) <<< (iv s &&& iv 31))) j s y) := by
  intro j
  have ⟨h1, h2, h3, h4, h5, h6⟩ := ht
  induction j with
  | zero =>
    intro s fuel y hs hf
    obtain ⟨f, rfl⟩ : ∃ f, fuel = f + 1 := ⟨fuel - 1, by omega⟩
    have hc : nS ≤ s := by omega
    simp (disch := first | assumption | omega | (simp (disch := omega) only [okx_iv', nx_iv, iv_add, L0, L1, L2, L3, L7, L8, L14, L21, L28, L35, L55, L56, *]; try omega)) only [fX6_hoarse_l4, fX6_hoarse_i4, ↓gm_12, ↓ld_aTo, ↓ld_aRow, L0, L1, L7, L31, iv_add, no_def, nx_iv, okx_iv', iv_le, iv_lt, iv_eq, iv_no, no_iv, Nat.not_lt_zero, vu_same, vu_ne, vu_up, ↓reduceIte, hc, foldN, h1]
  | succ j ih =>
    intro s fuel y hs hf
    obtain ⟨f, rfl⟩ : ∃ f, fuel = f + 1 := ⟨fuel - 1, by omega⟩
    have hc : ¬ nS ≤ s := by omega
    refine Eq.trans ?_ (ih (s + 1) f ((fun s y => y ||| (rw b (7 + s) <<< (iv s &&& iv 31))) s y) (by omega) (by omega))
    simp (disch := first | assumption | omega | (simp (disch := omega) only [okx_iv', nx_iv, iv_add, L0, L1, L2, L3, L7, L8, L14, L21, L28, L35, L55, L56, *]; try omega)) only [fX6_hoarse_l4, fX6_hoarse_i4, ↓gm_12, ↓ld_aTo, ↓ld_aRow, L0, L1, L7, L31, iv_add, no_def, nx_iv, okx_iv', iv_le, iv_lt, iv_eq, iv_no, no_iv, Nat.not_lt_zero, vu_same, vu_ne, vu_up, ↓reduceIte, hc, h1]
theorem s_hoarse (ht : tOK td nS nN nL) {b : Nat} (hb : b < 2) : fX6_hoarse (some (aM c)) (some (aRow c b)) (zS c td lw rw bf kp st ln rd rl rn ms sc mc fa pm xl pc rt ra ch ow ou B) = some (mHrs nS (rw b)) := s_hoarse_l ht hb nS 0 gFU (iv 0) (by omega) (by have := ht.2.2.2.1; unfold gFU; omega)
theorem s_wordsOf_l (ht : tOK td nS nN nL) {n : Nat} (hn : n < nN) : ∀ (j s fuel : Nat) (y : Int32), s + j = nL → j < fuel → fX6_wordsOf_l13 fuel (some (aM c)) (iv n) y (iv s) (zS c td lw rw bf kp st ln rd rl rn ms sc mc fa pm xl pc rt ra ch ow ou B) = some (foldN (fun k y => y ||| (if td (28 + k) 0 = iv n then iv 1 <<< (td (28 + k) 1 &&& iv 31) else iv 0)) j s y) := by
  intro j
  have ⟨h1, h2, h3, h4, h5, h6⟩ := ht
  induction j with
  | zero =>
    intro s fuel y hs hf
    obtain ⟨f, rfl⟩ : ∃ f, fuel = f + 1 := ⟨fuel - 1, by omega⟩
    have hc : nL ≤ s := by omega
    simp (disch := first | assumption | omega | (simp (disch := omega) only [okx_iv', nx_iv, iv_add, L0, L1, L2, L3, L7, L8, L14, L21, L28, L35, L55, L56, *]; try omega)) only [fX6_wordsOf_l13, fX6_wordsOf_i13, ↓gm_12, ↓gm_18, ↓ld_aTo, ↓ld_aLks, ↓ld_aLk, L0, L1, L2, L31, iv_add, no_def, nx_iv, okx_iv', iv_le, iv_lt, iv_eq, iv_no, no_iv, Nat.not_lt_zero, vu_same, vu_ne, vu_up, ↓reduceIte, hc, foldN, h3]
  | succ j ih =>
    intro s fuel y hs hf
    obtain ⟨f, rfl⟩ : ∃ f, fuel = f + 1 := ⟨fuel - 1, by omega⟩
    have hc : ¬ nL ≤ s := by omega
    refine Eq.trans ?_ (ih (s + 1) f ((fun k y => y ||| (if td (28 + k) 0 = iv n then iv 1 <<< (td (28 + k) 1 &&& iv 31) else iv 0)) s y) (by omega) (by omega))
    by_cases cc0 : td (28 + s) 0 = iv n
    · simp (disch := first | assumption | omega | (simp (disch := omega) only [okx_iv', nx_iv, iv_add, L0, L1, L2, L3, L7, L8, L14, L21, L28, L35, L55, L56, *]; try omega)) only [fX6_wordsOf_l13, fX6_wordsOf_i13, ↓gm_12, ↓gm_18, ↓ld_aTo, ↓ld_aLks, ↓ld_aLk, L0, L1, L2, L31, iv_add, no_def, nx_iv, okx_iv', iv_le, iv_lt, iv_eq, iv_no, no_iv, Nat.not_lt_zero, vu_same, vu_ne, vu_up, ↓reduceIte, hc, h3, cc0, if_true, if_false]
    · simp (disch := first | assumption | omega | (simp (disch := omega) only [okx_iv', nx_iv, iv_add, L0, L1, L2, L3, L7, L8, L14, L21, L28, L35, L55, L56, *]; try omega)) only [fX6_wordsOf_l13, fX6_wordsOf_i13, ↓gm_12, ↓gm_18, ↓ld_aTo, ↓ld_aLks, ↓ld_aLk, L0, L1, L2, L31, iv_add, no_def, nx_iv, okx_iv', iv_le, iv_lt, iv_eq, iv_no, no_iv, Nat.not_lt_zero, vu_same, vu_ne, vu_up, ↓reduceIte, hc, h3, cc0, if_true, if_false]
theorem s_wordsOf (ht : tOK td nS nN nL) {n : Nat} (hn : n < nN) : fX6_wordsOf (some (aM c)) (iv n) (zS c td lw rw bf kp st ln rd rl rn ms sc mc fa pm xl pc rt ra ch ow ou B) = some (mWds td nL n) := by
  have h5 := ht.2.2.2.2
  unfold fX6_wordsOf
  simp (disch := first | assumption | omega | (simp (disch := omega) only [okx_iv', nx_iv, iv_add, L0, L1, L2, L3, L7, L8, L14, L21, L28, L35, L55, L56, *]; try omega)) only [↓gm_16, ↓ld_aNts, ↓ld_aNt, L0, L1, L31, iv_add, no_def, nx_iv, okx_iv', iv_le, iv_lt, iv_eq, iv_no, no_iv, Nat.not_lt_zero, vu_same, vu_ne, vu_up, ↓reduceIte]
  exact s_wordsOf_l ht hn nL 0 gFU _ (by omega) (by unfold gFU; omega)
end s29
