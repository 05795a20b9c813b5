-- NAME 30.cho2
set_option maxRecDepth 100000
/-! bits -/
theorem sh_amt : ∀ s, s < 32 → (iv s &&& iv 31).toBitVec.smod 32 = BitVec.ofNat 32 s := by decide +kernel
theorem has_bit (h : Int32) {s : Nat} (hs : s < 32) : fX1_has h (iv s) = if h.toBitVec.getLsbD s = true then iv 1 else iv 0 := by
  have e : (h >>> (iv s &&& iv 31)) &&& iv 1 = if h.toBitVec.getLsbD s = true then iv 1 else iv 0 := by
    apply Int32.toBitVec_inj.1
    rw [Int32.toBitVec_and, Int32.toBitVec_shiftRight, sh_amt s hs]
    apply BitVec.eq_of_getLsbD_eq
    intro i hi
    rw [BitVec.getLsbD_and, show (iv 1).toBitVec = 1#32 from rfl, BitVec.getLsbD_one, BitVec.sshiftRight', BitVec.getLsbD_sshiftRight, BitVec.toNat_ofNat, Nat.mod_eq_of_lt (by omega : s < 2 ^ 32)]
    by_cases h0 : i = 0
    · subst h0
      rw [Nat.add_zero, if_pos hs]
      by_cases hb : h.toBitVec.getLsbD s = true
      · rw [if_pos hb, hb]; rfl
      · rw [if_neg hb, Bool.eq_false_iff.mpr hb]; rfl
    · have h1 : (if h.toBitVec.getLsbD s = true then iv 1 else iv 0).toBitVec.getLsbD i = false := by
        split
        · rw [show (iv 1).toBitVec = 1#32 from rfl, BitVec.getLsbD_one]; simp [h0]
        · rw [show (iv 0).toBitVec = 0#32 from rfl]; simp
      rw [h1]
      simp [h0]
  unfold fX1_has
  simp only [L1, L0, L31, e]
  split <;> rfl
theorem has_01 (h k : Int32) : fX1_has h k = iv 0 ∨ fX1_has h k = iv 1 := by
  unfold fX1_has
  split
  · exact Or.inr rfl
  · exact Or.inl rfl
theorem bit_l : ∀ s, s < 32 → (iv 1 <<< (iv s &&& iv 31)).toBitVec = 1#32 <<< s := by decide +kernel
theorem has_bxor (h : Int32) {s q : Nat} (hs : s < 32) (hq : q < 32) : fX1_has (h ^^^ mBit s) (iv q) = if q = s then (if fX1_has h (iv s) = iv 0 then iv 1 else iv 0) else fX1_has h (iv q) := by
  rw [has_bit _ hq, has_bit _ hs, has_bit _ hq, Int32.toBitVec_xor, BitVec.getLsbD_xor, show (mBit s).toBitVec = 1#32 <<< s from bit_l s hs, BitVec.getLsbD_shiftLeft, BitVec.getLsbD_one]
  by_cases e : q = s
  · subst e
    rw [if_pos rfl]
    cases h.toBitVec.getLsbD q <;> simp [hq, iv_eq]
  · rw [if_neg e]
    have : (decide (q < 32) && !decide (q < s) && (decide (0 < 32) && decide (q - s = 0))) = false := by
      by_cases h1 : q < s
      · simp [h1]
      · have : q - s ≠ 0 := by omega
        simp [this]
    rw [this, Bool.xor_false]
theorem has_not (h : Int32) {q : Nat} (hq : q < 32) : fX1_has (h ^^^ NO) (iv q) = if fX1_has h (iv q) = iv 0 then iv 1 else iv 0 := by
  rw [has_bit _ hq, has_bit _ hq, show h ^^^ NO = ~~~h from Int32.xor_neg_one, Int32.toBitVec_not, BitVec.getLsbD_not]
  cases h.toBitVec.getLsbD q <;> simp [hq, iv_eq]
theorem has_iv {a q : Nat} (hq : q < 32) : fX1_has (iv a) (iv q) = if a.testBit q = true then iv 1 else iv 0 := by
  rw [has_bit _ hq, show (iv a).toBitVec = BitVec.ofNat 32 a from rfl, BitVec.getLsbD_ofNat]
  simp [hq]
/-- the cells of b behind a copy from d -/
def bCp (d b : (Nat → Nat → Int32) × (Nat → Int32)) : (Nat → Nat → Int32) × (Nat → Int32) := (va_up (va_up (va_up (va_up (va_up b.1 0 (va_cpy (d.1 0) (b.1 0) 0 0 7)) 1 (va_cpy (d.1 1) (b.1 1) 0 0 7)) 2 (va_cpy (d.1 2) (b.1 2) 0 0 7)) 3 (va_cpy (d.1 3) (b.1 3) 0 0 7)) 4 (va_cpy (d.1 4) (b.1 4) 0 0 20), va_up (va_up (va_up b.2 5 (d.2 5)) 6 (d.2 6)) 7 (d.2 7))
theorem cpy_at {f g : Nat → Int32} {n j : Nat} (h : j < n) : va_cpy f g 0 0 n j = f j := by
  unfold va_cpy
  rw [if_pos ⟨Nat.zero_le _, by omega⟩, Nat.zero_add, Nat.sub_zero]
theorem bCp_R {nS nN : Nat} {d b : (Nat → Nat → Int32) × (Nat → Int32)} {ρ : Nat → Int32} (hS : nS ≤ 7) (hN : nN ≤ 20) (h : CR nS nN d ρ) : CR nS nN (bCp d b) ρ := by
  obtain ⟨h1, h2, h3, h4, h5⟩ := h
  refine ⟨fun s hs => ?_, fun n hn => ?_, h3, h4, h5⟩
  · obtain ⟨q1, q2, q3, q4⟩ := h1 s hs
    rw [← q1, ← q2, ← q3, ← q4]
    exact ⟨cpy_at (by omega), cpy_at (by omega), cpy_at (by omega), cpy_at (by omega)⟩
  · rw [← h2 n hn]
    exact cpy_at (by omega)
theorem CR.of {nS nN : Nat} {b : (Nat → Nat → Int32) × (Nat → Int32)} {ρ ρ' : Nat → Int32} (hS : nS ≤ 7) (hN : nN ≤ 20) (h : CR nS nN b ρ) (e : ∀ j, j < 57 → ρ' j = ρ j) : CR nS nN b ρ' := by
  obtain ⟨h1, h2, h3, h4, h5⟩ := h
  refine ⟨fun s hs => ?_, fun n hn => ?_, fun s hs => ?_, ?_, ?_⟩
  · rw [e _ (by omega), e _ (by omega), e _ (by omega), e _ (by omega)]; exact h1 s hs
  · rw [e _ (by omega)]; exact h2 n hn
  · rw [e _ (by omega)]; exact h3 s hs
  · rw [e _ (by omega)]; exact h4
  · rw [e _ (by omega)]; exact h5
section s30
variable {c : Nat} {td : Nat → Nat → Int32} {lw : Nat → Nat → Int32} {rw : Nat → Nat → Int32} {bf : Nat → Nat → Int32} {kp : Nat → Nat → Int32} {st : Nat → Nat → Int32} {ln : Nat → Nat → Int32} {rd : Nat → Nat → Int32} {rl : Nat → Nat → Int32} {rn : Nat → Nat → Int32} {ms : Nat → Nat → Int32} {sc : Nat → Nat → Int32} {mc : Nat → Nat → Int32} {fa : Nat → Int32} {pm : Nat → Int32} {xl : Nat → Int64} {pc : Nat → Int32} {rt : Nat → Option Nat} {ra : Nat → Nat → Option Nat} {ch : Nat → (Nat → Nat → Int32) × (Nat → Int32)} {ow : Nat → Option (Nat × Nat)} {ou : Nat → Int64} {B : gS}
variable {tq : Nat → Nat → Int32} {F : (Nat → Int32) → Int32} {nS nN nL x y : Nat} {sgA ntA lkA : Nat → Nat} {ρ : Nat → Int32}
theorem c_becomes (hx : isC ow x) (hy : isC ow y) (hxy : y ≠ x) : fX5_becomes (some (aCh c x)) (some (aCh c y)) (zS c td lw rw bf kp st ln rd rl rn ms sc mc fa pm xl pc rt ra ch ow ou B) = some (some (aCh c x), (zS c td lw rw bf kp st ln rd rl rn ms sc mc fa pm xl pc rt ra (va_up ch x (bCp (ch y) (ch x))) ow ou B)) := by
  unfold fX5_becomes
  simp (disch := first | assumption | omega | (simp (disch := omega) only [okx_iv', nx_iv, iv_add, L0, L1, L2, L3, L7, L8, L14, L21, L28, L35, L55, L56, *]; try omega)) only [↓gh_0, ↓gh_1, ↓gh_2, ↓gh_3, ↓gh_4, ↓gh_5, ↓gh_6, ↓gh_7, ↓ph_5, ↓ph_6, ↓ph_7, ↓cp_aCA0, ↓cp_aCA1, ↓cp_aCA2, ↓cp_aCA3, ↓cp_aCA4, ↓ld_aCA0, ↓ld_aCA1, ↓ld_aCA2, ↓ld_aCA3, ↓ld_aCA4, L0, L7, L20, iv_add, no_def, nx_iv, okx_iv', iv_le, iv_lt, iv_eq, iv_no, no_iv, Nat.not_lt_zero, vu_same, vu_ne, vu_up, ↓reduceIte]
  rfl
theorem c_sum_l (h : tO (zV c ow B) rt tq nS nN nL sgA ntA lkA) (hx : isC ow x) {g : Nat → Int32} {a : Nat} (ha : (zS c td lw rw bf kp st ln rd rl rn ms sc mc fa pm xl pc rt ra ch ow ou B).1 a = some (true, .inr (0, 7, .inl g))) : ∀ (j s fuel : Nat) (z : Int32), s + j = nS → j < fuel → fX5_sum_l4 fuel (some (aCh c x)) (some a) z (iv s) (zS c td lw rw bf kp st ln rd rl rn ms sc mc fa pm xl pc rt ra ch ow ou B) = some (foldN (fun s z => z + g s) j s z) := by
  intro j
  have hS := h.1
  induction j with
  | zero =>
    intro s fuel z hs hf
    obtain ⟨f, rfl⟩ : ∃ f, fuel = f + 1 := ⟨fuel - 1, by omega⟩
    have hc : nS ≤ s := by omega
    simp (disch := first | assumption | omega | (simp (disch := omega) only [okx_iv', nx_iv, iv_add, L0, L1, L2, L3, L7, L8, L14, L21, L28, L35, L55, L56, *]; try omega)) only [fX5_sum_l4, fX5_sum_i4, ↓gh_11, ↓bvv, ↓gvv, ↓tvv, L0, L1, iv_add, no_def, nx_iv, okx_iv', iv_le, iv_lt, iv_eq, iv_no, no_iv, Nat.not_lt_zero, vu_same, vu_ne, vu_up, ↓reduceIte, hc, foldN, ↓b_singers h, ↓b_ldI ha]
  | succ j ih =>
    intro s fuel z hs hf
    obtain ⟨f, rfl⟩ : ∃ f, fuel = f + 1 := ⟨fuel - 1, by omega⟩
    have hc : ¬ nS ≤ s := by omega
    refine Eq.trans ?_ (ih (s + 1) f ((fun s z => z + g s) s z) (by omega) (by omega))
    simp (disch := first | assumption | omega | (simp (disch := omega) only [okx_iv', nx_iv, iv_add, L0, L1, L2, L3, L7, L8, L14, L21, L28, L35, L55, L56, *]; try omega)) only [fX5_sum_l4, fX5_sum_i4, ↓gh_11, ↓bvv, ↓gvv, ↓tvv, L0, L1, iv_add, no_def, nx_iv, okx_iv', iv_le, iv_lt, iv_eq, iv_no, no_iv, Nat.not_lt_zero, vu_same, vu_ne, vu_up, ↓reduceIte, hc, ↓b_singers h, ↓b_ldI ha]
theorem c_sum (h : tO (zV c ow B) rt tq nS nN nL sgA ntA lkA) (hx : isC ow x) {g : Nat → Int32} {a : Nat} (ha : (zS c td lw rw bf kp st ln rd rl rn ms sc mc fa pm xl pc rt ra ch ow ou B).1 a = some (true, .inr (0, 7, .inl g))) : fX5_sum (some (aCh c x)) (some a) (zS c td lw rw bf kp st ln rd rl rn ms sc mc fa pm xl pc rt ra ch ow ou B) = some (foldN (fun s z => z + g s) nS 0 (iv 0)) := c_sum_l h hx ha nS 0 gFU (iv 0) (by omega) (by have := h.1; unfold gFU; omega)
theorem foldN_eq {α : Type} {g g' : Nat → α → α} : ∀ (k s : Nat) (x : α), (∀ i x, s ≤ i → i < s + k → g i x = g' i x) → foldN g k s x = foldN g' k s x := by
  intro k
  induction k with
  | zero => intro s x _; rfl
  | succ k ih =>
    intro s x h
    show foldN g k (s + 1) (g s x) = foldN g' k (s + 1) (g' s x)
    rw [h s x (Nat.le_refl _) (by omega), ih (s + 1) _ (fun i x h1 h2 => h i x (by omega) (by omega))]
theorem c_worded_l (h : tO (zV c ow B) rt tq nS nN nL sgA ntA lkA) (hx : isC ow x) (hr : CR nS nN (ch x) ρ) : ∀ (j s fuel : Nat) (z : Int32), s + j = nN → j < fuel → fX5_worded_l4 fuel (some (aCh c x)) z (iv s) (zS c td lw rw bf kp st ln rd rl rn ms sc mc fa pm xl pc rt ra ch ow ou B) = some (foldN (fun n z => z ||| (if ρ (35 + n) = tq (8 + n) 0 then iv 0 else mBit n)) j s z) := by
  intro j
  have hN := h.2.1
  have hv := hr.2.1
  induction j with
  | zero =>
    intro s fuel z hs hf
    obtain ⟨f, rfl⟩ : ∃ f, fuel = f + 1 := ⟨fuel - 1, by omega⟩
    have hc : nN ≤ s := by omega
    simp (disch := first | assumption | omega | (simp (disch := omega) only [okx_iv', nx_iv, iv_add, L0, L1, L2, L3, L7, L8, L14, L21, L28, L35, L55, L56, *]; try omega)) only [fX5_worded_l4, fX5_worded_i4, ↓gh_11, ↓gh_4, ↓bvv, ↓gvv, ↓tvv, ↓ld_aCA4, L0, L1, L31, iv_add, no_def, nx_iv, okx_iv', iv_le, iv_lt, iv_eq, iv_no, no_iv, Nat.not_lt_zero, vu_same, vu_ne, vu_up, ↓reduceIte, hc, foldN, ↓b_notes h, ↓b_noteOf h, ↓b_nt0 h, hv, mBit]
  | succ j ih =>
    intro s fuel z hs hf
    obtain ⟨f, rfl⟩ : ∃ f, fuel = f + 1 := ⟨fuel - 1, by omega⟩
    have hc : ¬ nN ≤ s := by omega
    refine Eq.trans ?_ (ih (s + 1) f ((fun n z => z ||| (if ρ (35 + n) = tq (8 + n) 0 then iv 0 else mBit n)) s z) (by omega) (by omega))
    by_cases cc0 : ρ (35 + s) = tq (8 + s) 0
    · simp (disch := first | assumption | omega | (simp (disch := omega) only [okx_iv', nx_iv, iv_add, L0, L1, L2, L3, L7, L8, L14, L21, L28, L35, L55, L56, *]; try omega)) only [fX5_worded_l4, fX5_worded_i4, ↓gh_11, ↓gh_4, ↓bvv, ↓gvv, ↓tvv, ↓ld_aCA4, L0, L1, L31, iv_add, no_def, nx_iv, okx_iv', iv_le, iv_lt, iv_eq, iv_no, no_iv, Nat.not_lt_zero, vu_same, vu_ne, vu_up, ↓reduceIte, hc, ↓b_notes h, ↓b_noteOf h, ↓b_nt0 h, hv, mBit, cc0, if_true, if_false]
    · simp (disch := first | assumption | omega | (simp (disch := omega) only [okx_iv', nx_iv, iv_add, L0, L1, L2, L3, L7, L8, L14, L21, L28, L35, L55, L56, *]; try omega)) only [fX5_worded_l4, fX5_worded_i4, ↓gh_11, ↓gh_4, ↓bvv, ↓gvv, ↓tvv, ↓ld_aCA4, L0, L1, L31, iv_add, no_def, nx_iv, okx_iv', iv_le, iv_lt, iv_eq, iv_no, no_iv, Nat.not_lt_zero, vu_same, vu_ne, vu_up, ↓reduceIte, hc, ↓b_notes h, ↓b_noteOf h, ↓b_nt0 h, hv, mBit, cc0, if_true, if_false]
theorem c_soundsOf_l (h : tO (zV c ow B) rt tq nS nN nL sgA ntA lkA) (hx : isC ow x) (hr : CR nS nN (ch x) ρ) {v : Int32} : ∀ (j s fuel : Nat) (z : Int32), s + j = nN → j < fuel → fX5_soundsOf_l4 fuel (some (aCh c x)) v z (iv s) (zS c td lw rw bf kp st ln rd rl rn ms sc mc fa pm xl pc rt ra ch ow ou B) = some (foldN (fun n z => z ||| (if ρ (35 + n) = v then mBit n else iv 0)) j s z) := by
  intro j
  have hN := h.2.1
  have hv := hr.2.1
  induction j with
  | zero =>
    intro s fuel z hs hf
    obtain ⟨f, rfl⟩ : ∃ f, fuel = f + 1 := ⟨fuel - 1, by omega⟩
    have hc : nN ≤ s := by omega
    simp (disch := first | assumption | omega | (simp (disch := omega) only [okx_iv', nx_iv, iv_add, L0, L1, L2, L3, L7, L8, L14, L21, L28, L35, L55, L56, *]; try omega)) only [fX5_soundsOf_l4, fX5_soundsOf_i4, ↓gh_11, ↓gh_4, ↓bvv, ↓gvv, ↓tvv, ↓ld_aCA4, L0, L1, L31, iv_add, no_def, nx_iv, okx_iv', iv_le, iv_lt, iv_eq, iv_no, no_iv, Nat.not_lt_zero, vu_same, vu_ne, vu_up, ↓reduceIte, hc, foldN, ↓b_notes h, hv, mBit]
  | succ j ih =>
    intro s fuel z hs hf
    obtain ⟨f, rfl⟩ : ∃ f, fuel = f + 1 := ⟨fuel - 1, by omega⟩
    have hc : ¬ nN ≤ s := by omega
    refine Eq.trans ?_ (ih (s + 1) f ((fun n z => z ||| (if ρ (35 + n) = v then mBit n else iv 0)) s z) (by omega) (by omega))
    by_cases cc0 : ρ (35 + s) = v
    · simp (disch := first | assumption | omega | (simp (disch := omega) only [okx_iv', nx_iv, iv_add, L0, L1, L2, L3, L7, L8, L14, L21, L28, L35, L55, L56, *]; try omega)) only [fX5_soundsOf_l4, fX5_soundsOf_i4, ↓gh_11, ↓gh_4, ↓bvv, ↓gvv, ↓tvv, ↓ld_aCA4, L0, L1, L31, iv_add, no_def, nx_iv, okx_iv', iv_le, iv_lt, iv_eq, iv_no, no_iv, Nat.not_lt_zero, vu_same, vu_ne, vu_up, ↓reduceIte, hc, ↓b_notes h, hv, mBit, cc0, if_true, if_false]
    · simp (disch := first | assumption | omega | (simp (disch := omega) only [okx_iv', nx_iv, iv_add, L0, L1, L2, L3, L7, L8, L14, L21, L28, L35, L55, L56, *]; try omega)) only [fX5_soundsOf_l4, fX5_soundsOf_i4, ↓gh_11, ↓gh_4, ↓bvv, ↓gvv, ↓tvv, ↓ld_aCA4, L0, L1, L31, iv_add, no_def, nx_iv, okx_iv', iv_le, iv_lt, iv_eq, iv_no, no_iv, Nat.not_lt_zero, vu_same, vu_ne, vu_up, ↓reduceIte, hc, ↓b_notes h, hv, mBit, cc0, if_true, if_false]
theorem c_breathes_l (h : tO (zV c ow B) rt tq nS nN nL sgA ntA lkA) (hx : isC ow x) : ∀ (j s fuel : Nat) (ch : Nat → (Nat → Nat → Int32) × (Nat → Int32)) (ρ : Nat → Int32), s + j = nS → j < fuel → ∃ b', CF (ch x) b' ∧ b'.2 = (ch x).2 ∧ (∀ k, k ≠ 0 → b'.1 k = (ch x).1 k) ∧ (∀ i, s ≤ i → i < nS → b'.1 0 i = tq (1 + i) 2) ∧ (∀ i, i < s → b'.1 0 i = (ch x).1 0 i) ∧ fX5_breathes_l2 fuel (some (aCh c x)) (iv s) (zS c td lw rw bf kp st ln rd rl rn ms sc mc fa pm xl pc rt ra ch ow ou B) = some ((), (zS c td lw rw bf kp st ln rd rl rn ms sc mc fa pm xl pc rt ra (va_up ch x b') ow ou B)) := by
  intro j
  have h1 := h.1
  induction j with
  | zero =>
    intro s fuel ch ρ hs hf
    obtain ⟨f, rfl⟩ : ∃ f, fuel = f + 1 := ⟨fuel - 1, by omega⟩
    have hc : nS ≤ s := by omega
    refine ⟨ch x, CF.rfl' _, rfl, fun _ _ => rfl, fun i _ _ => by omega, fun _ _ => rfl, ?_⟩
    simp (disch := first | assumption | omega | (simp (disch := omega) only [okx_iv', nx_iv, iv_add, L0, L1, L2, L3, L7, L8, L14, L21, L28, L35, L55, L56, *]; try omega)) only [fX5_breathes_l2, fX5_breathes_i2, ↓gh_11, ↓gh_0, ↓bvv, ↓gvv, ↓tvv, ↓ld_aCA0, ↓st_aCA0, L0, L1, ↓b_singers h, iv_add, no_def, nx_iv, okx_iv', iv_le, iv_lt, iv_eq, iv_no, no_iv, Nat.not_lt_zero, vu_same, vu_ne, vu_up, ↓reduceIte, hc, vu_id]
  | succ j ih =>
    intro s fuel ch ρ hs hf
    obtain ⟨f, rfl⟩ : ∃ f, fuel = f + 1 := ⟨fuel - 1, by omega⟩
    have hc : ¬ nS ≤ s := by omega
    obtain ⟨b', f1, f2, f3, f4, f5, h8⟩ := ih (s + 1) f (va_up ch x (va_up (ch x).1 0 (va_up ((ch x).1 0) s (tq (1 + s) 2)), (ch x).2)) ρ (by omega) (by omega)
    rw [vu_same] at f1 f2 f3 f5
    rw [vu_up] at h8
    refine ⟨b', f1, f2, fun k hk => (f3 k hk).trans (vu_ne hk), fun i i1 i2 => ?_, fun i hi => ?_, ?_⟩
    · by_cases e : i = s
      · subst e
        rw [f5 i (by omega)]
        simp only [vu_same]
      · exact f4 i (by omega) i2
    · rw [f5 i (by omega)]
      simp (disch := omega) only [vu_same, vu_ne]
    · rw [← h8]
      simp (disch := first | assumption | omega | (simp (disch := omega) only [okx_iv', nx_iv, iv_add, L0, L1, L2, L3, L7, L8, L14, L21, L28, L35, L55, L56, *]; try omega)) only [fX5_breathes_l2, fX5_breathes_i2, ↓gh_11, ↓gh_0, ↓bvv, ↓gvv, ↓tvv, ↓ld_aCA0, ↓st_aCA0, L0, L1, ↓b_singers h, ↓b_singerOf h, ↓b_sg2 h, iv_add, no_def, nx_iv, okx_iv', iv_le, iv_lt, iv_eq, iv_no, no_iv, Nat.not_lt_zero, vu_same, vu_ne, vu_up, ↓reduceIte, hc]
end s30
