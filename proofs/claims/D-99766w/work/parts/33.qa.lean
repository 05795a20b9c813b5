-- NAME 33.qa
set_option maxRecDepth 100000
noncomputable def bStep (keep : Nat → Nat → Prop) (s : Nat) (o : Option Nat) : Option Nat := match o with
  | none => some s
  | some q => @ite _ (keep s q) (Classical.propDecidable _) (some q) (some s)
def mBst (val : Nat → Int32) (w : Nat) (o : Option Nat) : Int32 := match o with
  | none => NO
  | some q => if w = 0 then iv q else val q
theorem bStep_lt {keep : Nat → Nat → Prop} {s : Nat} {o : Option Nat} (h : ∀ q, o = some q → q < s) : ∀ q, bStep keep s o = some q → q < s + 1 := by
  intro q hq
  cases o with
  | none => cases hq; omega
  | some p =>
    have hp := h p rfl
    unfold bStep at hq
    simp only at hq
    split at hq <;> (cases hq; omega)
section s33
variable {c : Nat} {td : Nat → Nat → Int32} {lw : Nat → Nat → Int32} {rw : Nat → Nat → Int32} {bf : Nat → Nat → Int32} {kp : Nat → Nat → Int32} {st : Nat → Nat → Int32} {ln : Nat → Nat → Int32} {rd : Nat → Nat → Int32} {rl : Nat → Nat → Int32} {rn : Nat → Nat → Int32} {ms : Nat → Nat → Int32} {sc : Nat → Nat → Int32} {mc : Nat → Nat → Int32} {fa : Nat → Int32} {pm : Nat → Int32} {xl : Nat → Int64} {pc : Nat → Int32} {rt : Nat → Option Nat} {ra : Nat → Nat → Option Nat} {ch : Nat → (Nat → Nat → Int32) × (Nat → Int32)} {ow : Nat → Option (Nat × Nat)} {ou : Nat → Int64} {B : gS}
variable {nS nN nL : Nat} {sgA ntA lkA : Nat → Nat} {F : (Nat → Int32) → Int32} {tp wk im lm n : Nat}
theorem bad11 (I : invA c td lw rw bf kp st ln rd rl rn ms sc mc fa pm xl pc rt ra ch ow ou B nS nN nL sgA ntA lkA F tp wk im lm n) : inv (n + 1) (zS c td lw rw bf kp st ln rd rl rn (va_up ms 1 (va_up (ms 1) 1 (ms 1 1 + iv 1))) sc (va_up mc 1 (va_up (mc 1) 1 (mc 1 1 + iv 1))) fa (va_up pm 0 (iv 1)) xl pc rt ra ch ow ou (bX 31 B)) c := by
  have hN := I.2.2.1
  exact (inv_q I (by first | rfl | simp (disch := omega) only [vu_ne]) (fun k hk => by first | rfl | simp (disch := omega) only [vu_ne]) (by first | rfl | simp (disch := omega) only [vu_ne]) (fun k hk => by first | rfl | simp (disch := omega) only [vu_ne]) (by first | exact ⟨hN.2.2.2.2.2.2.1, hN.2.2.2.2.2.2.2⟩ | (simp (disch := omega) only [vu_same, vu_ne, hN.2.2.2.2.2.2.1, hN.2.2.2.2.2.2.2, and_self])) (fun k hk => by first | rfl | simp (disch := omega) only [vu_ne]) (fun x hx => by first | rfl | simp (disch := omega) only [vu_ne]) (by first | exact Or.inl rfl | exact Or.inr ⟨_, rfl⟩))
theorem bad12 (I : invA c td lw rw bf kp st ln rd rl rn ms sc mc fa pm xl pc rt ra ch ow ou B nS nN nL sgA ntA lkA F tp wk im lm n) : inv (n + 1) (zS c td lw rw bf kp st ln rd rl rn (va_up ms 1 (va_up (ms 1) 1 (ms 1 1 + iv 1))) sc (va_up mc 1 (va_up (mc 1) 1 (mc 1 1 + iv 1))) fa (va_up pm 0 (iv 2)) xl pc rt ra ch ow ou (bX 31 B)) c := by
  have hN := I.2.2.1
  exact (inv_q I (by first | rfl | simp (disch := omega) only [vu_ne]) (fun k hk => by first | rfl | simp (disch := omega) only [vu_ne]) (by first | rfl | simp (disch := omega) only [vu_ne]) (fun k hk => by first | rfl | simp (disch := omega) only [vu_ne]) (by first | exact ⟨hN.2.2.2.2.2.2.1, hN.2.2.2.2.2.2.2⟩ | (simp (disch := omega) only [vu_same, vu_ne, hN.2.2.2.2.2.2.1, hN.2.2.2.2.2.2.2, and_self])) (fun k hk => by first | rfl | simp (disch := omega) only [vu_ne]) (fun x hx => by first | rfl | simp (disch := omega) only [vu_ne]) (by first | exact Or.inl rfl | exact Or.inr ⟨_, rfl⟩))
theorem bad01 (I : invA c td lw rw bf kp st ln rd rl rn ms sc mc fa pm xl pc rt ra ch ow ou B nS nN nL sgA ntA lkA F tp wk im lm n) : inv (n + 1) (zS c td lw rw bf kp st ln rd rl rn (va_up ms 1 (va_up (ms 1) 0 (ms 1 0 + iv 1))) sc (va_up mc 1 (va_up (mc 1) 0 (mc 1 0 + iv 1))) fa (va_up pm 0 (iv 1)) xl pc rt ra ch ow ou (bX 32 B)) c := by
  have hN := I.2.2.1
  exact (inv_q I (by first | rfl | simp (disch := omega) only [vu_ne]) (fun k hk => by first | rfl | simp (disch := omega) only [vu_ne]) (by first | rfl | simp (disch := omega) only [vu_ne]) (fun k hk => by first | rfl | simp (disch := omega) only [vu_ne]) (by first | exact ⟨hN.2.2.2.2.2.2.1, hN.2.2.2.2.2.2.2⟩ | (simp (disch := omega) only [vu_same, vu_ne, hN.2.2.2.2.2.2.1, hN.2.2.2.2.2.2.2, and_self])) (fun k hk => by first | rfl | simp (disch := omega) only [vu_ne]) (fun x hx => by first | rfl | simp (disch := omega) only [vu_ne]) (by first | exact Or.inl rfl | exact Or.inr ⟨_, rfl⟩))
theorem s_bad0L {k r : Int32} (h : pm 0 = iv 0) : fX6_bad (some (aM c)) (0 : Int32) k r (zS c td lw rw bf kp st ln rd rl rn ms sc mc fa pm xl pc rt ra ch ow ou B) = some (iv 0, (zS c td lw rw bf kp st ln rd rl rn ms sc mc fa pm xl pc rt ra ch ow ou B)) := s_bad0 h
theorem s_bad11L (h : pm 0 = iv 0) : fX6_bad (some (aM c)) (1 : Int32) (1 : Int32) (1 : Int32) (zS c td lw rw bf kp st ln rd rl rn ms sc mc fa pm xl pc rt ra ch ow ou B) = some (iv 1, (zS c td lw rw bf kp st ln rd rl rn (va_up ms 1 (va_up (ms 1) 1 (ms 1 1 + iv 1))) sc mc fa (va_up pm 0 (iv 1)) xl pc rt ra ch ow ou B)) := s_bad1 (k := 1) (r := 1) h (by decide) (by decide)
theorem s_bad12L (h : pm 0 = iv 0) : fX6_bad (some (aM c)) (1 : Int32) (2 : Int32) (1 : Int32) (zS c td lw rw bf kp st ln rd rl rn ms sc mc fa pm xl pc rt ra ch ow ou B) = some (iv 1, (zS c td lw rw bf kp st ln rd rl rn (va_up ms 1 (va_up (ms 1) 1 (ms 1 1 + iv 1))) sc mc fa (va_up pm 0 (iv 2)) xl pc rt ra ch ow ou B)) := s_bad1 (k := 2) (r := 1) h (by decide) (by decide)
theorem s_bad01L (h : pm 0 = iv 0) : fX6_bad (some (aM c)) (1 : Int32) (1 : Int32) (0 : Int32) (zS c td lw rw bf kp st ln rd rl rn ms sc mc fa pm xl pc rt ra ch ow ou B) = some (iv 1, (zS c td lw rw bf kp st ln rd rl rn (va_up ms 1 (va_up (ms 1) 0 (ms 1 0 + iv 1))) sc mc fa (va_up pm 0 (iv 1)) xl pc rt ra ch ow ou B)) := s_bad1 (k := 1) (r := 0) h (by decide) (by decide)
theorem c_need0e (hf : frsh c ow B) (hr : rm 1 6 B) {e : Int32} (h : e = iv 0) : fX1_need (some (aV c)) e (zS c td lw rw bf kp st ln rd rl rn ms sc mc fa pm xl pc rt ra ch ow ou B) = some (.inr (31, B.2.1), (zS c td lw rw bf kp st ln rd rl rn ms sc (va_up mc 1 (va_up (mc 1) 1 (mc 1 1 + iv 1))) fa pm xl pc rt ra ch ow ou (bX 31 B))) := by rw [h]; exact c_need0 hf hr
theorem c_need1e {e : Int32} (h : e = iv 1) : fX1_need (some (aV c)) e (zS c td lw rw bf kp st ln rd rl rn ms sc mc fa pm xl pc rt ra ch ow ou B) = some (.inl (), (zS c td lw rw bf kp st ln rd rl rn ms sc mc fa pm xl pc rt ra ch ow ou B)) := by rw [h]; exact c_need1
theorem rngS (p : Int32) (m : Nat) : (∃ k, k < m ∧ p = iv k) ∨ (p < iv 0 ∨ iv m ≤ p) := by
  rcases i32c p with h | ⟨k, hk, rfl⟩
  · exact Or.inr (Or.inl h)
  · by_cases h : k < m
    · exact Or.inl ⟨k, h, rfl⟩
    · refine Or.inr (Or.inr ?_)
      rw [iv_le (by omega) hk]; omega
theorem rngS0 {p : Int32} {m : Nat} (h : p < iv 0 ∨ iv m ≤ p) (hm : m < 1000 := by omega) : fX1_isIn p (iv 0) (iv m - iv 1) = iv 0 := by
  rcases i32c p with h1 | ⟨k, hk, rfl⟩
  · exact isIn_neg h1 0 (by decide) _
  · have h2 : m ≤ k := by
      rcases h with h | h
      · rw [iv_nn hk] at h; exact absurd h id
      · rwa [iv_le (by omega) hk] at h
    by_cases h3 : m = 0
    · subst h3
      exact isIn_no _
    · rw [iv_sub (by omega), isIn_iv hk (by decide) (by omega), if_neg (by omega)]
theorem rngS1 {k m : Nat} (h : k < m) (hm : m < 1000) : fX1_isIn (iv k) (iv 0) (iv m - iv 1) = iv 1 := by
  rw [iv_sub (by omega), isIn_iv (by omega) (by decide) (by omega), if_pos (by omega)]
theorem rngL (p : Int32) (b : Nat) (hb : b < 2147483648) : (∃ k, (1 ≤ k ∧ k ≤ b) ∧ p = iv k) ∨ fX1_isIn p (iv 1) (iv b) = iv 0 := by
  rcases i32c p with h | ⟨k, hk, rfl⟩
  · exact Or.inr (isIn_neg h 1 (by decide) _)
  · by_cases h : 1 ≤ k ∧ k ≤ b
    · exact Or.inl ⟨k, h, rfl⟩
    · exact Or.inr (by rw [isIn_iv hk (by decide) hb, if_neg h])
theorem rngL1 {k b : Nat} (h : 1 ≤ k ∧ k ≤ b) (hb : b < 2147483648) : fX1_isIn (iv k) (iv 1) (iv b) = iv 1 := by
  rw [isIn_iv (by omega) (by decide) hb, if_pos (by omega)]
theorem c_nsg1 (h : tO (zV c ow B) rt td nS nN nL sgA ntA lkA) {s : Nat} (hs : s < nS) : fX1_needSinger (some (aV c)) (iv s) (zS c td lw rw bf kp st ln rd rl rn ms sc mc fa pm xl pc rt ra ch ow ou B) = some (.inl (), (zS c td lw rw bf kp st ln rd rl rn ms sc mc fa pm xl pc rt ra ch ow ou B)) := by
  have := h.1
  unfold fX1_needSinger
  simp (disch := first | assumption | omega | (simp (disch := omega) only [okx_iv', nx_iv, iv_add, L0, L1, L2, L3, L7, L8, L14, L21, L28, L35, L55, L56, *]; try omega)) only [↓bvv, ↓b_singers h, ↓tvv, ↓gtn (c_there1 hs (show nS < 2147483648 by omega))]
theorem c_nsg0 (h : tO (zV c ow B) rt td nS nN nL sgA ntA lkA) (hf : frsh c ow B) (hr : rm 1 6 B) {p : Int32} (e : p < iv 0 ∨ iv nS ≤ p) : fX1_needSinger (some (aV c)) p (zS c td lw rw bf kp st ln rd rl rn ms sc mc fa pm xl pc rt ra ch ow ou B) = some (.inr (32, B.2.1), (zS c td lw rw bf kp st ln rd rl rn ms sc (va_up mc 1 (va_up (mc 1) 0 (mc 1 0 + iv 1))) fa pm xl pc rt ra ch ow ou (bX 32 B))) := by
  unfold fX1_needSinger
  simp (disch := first | assumption | omega | (simp (disch := omega) only [okx_iv', nx_iv, iv_add, L0, L1, L2, L3, L7, L8, L14, L21, L28, L35, L55, L56, *]; try omega)) only [↓bvv, ↓b_singers h, ↓tvv, ↓gtx (c_there0 hf hr e)]
theorem c_nnt1 (h : tO (zV c ow B) rt td nS nN nL sgA ntA lkA) {s : Nat} (hs : s < nN) : fX1_needNote (some (aV c)) (iv s) (zS c td lw rw bf kp st ln rd rl rn ms sc mc fa pm xl pc rt ra ch ow ou B) = some (.inl (), (zS c td lw rw bf kp st ln rd rl rn ms sc mc fa pm xl pc rt ra ch ow ou B)) := by
  have := h.2.1
  unfold fX1_needNote
  simp (disch := first | assumption | omega | (simp (disch := omega) only [okx_iv', nx_iv, iv_add, L0, L1, L2, L3, L7, L8, L14, L21, L28, L35, L55, L56, *]; try omega)) only [↓bvv, ↓b_notes h, ↓tvv, ↓gtn (c_there1 hs (show nN < 2147483648 by omega))]
theorem c_nnt0 (h : tO (zV c ow B) rt td nS nN nL sgA ntA lkA) (hf : frsh c ow B) (hr : rm 1 6 B) {p : Int32} (e : p < iv 0 ∨ iv nN ≤ p) : fX1_needNote (some (aV c)) p (zS c td lw rw bf kp st ln rd rl rn ms sc mc fa pm xl pc rt ra ch ow ou B) = some (.inr (32, B.2.1), (zS c td lw rw bf kp st ln rd rl rn ms sc (va_up mc 1 (va_up (mc 1) 0 (mc 1 0 + iv 1))) fa pm xl pc rt ra ch ow ou (bX 32 B))) := by
  unfold fX1_needNote
  simp (disch := first | assumption | omega | (simp (disch := omega) only [okx_iv', nx_iv, iv_add, L0, L1, L2, L3, L7, L8, L14, L21, L28, L35, L55, L56, *]; try omega)) only [↓bvv, ↓b_notes h, ↓tvv, ↓gtx (c_there0 hf hr e)]
theorem s_isS1 (h : tOK td nS nN nL) {s : Nat} (hs : s < nS) : fX6_isSinger (some (aM c)) (iv s) (zS c td lw rw bf kp st ln rd rl rn ms sc mc fa pm xl pc rt ra ch ow ou B) = some (iv 1) := by
  obtain ⟨h1, h2, h3, h4, h5, h6⟩ := h
  unfold fX6_isSinger
  simp (disch := first | assumption | omega | (simp (disch := omega) only [okx_iv', nx_iv, iv_add, L0, L1, L2, L3, L7, L8, L14, L21, L28, L35, L55, L56, *]; try omega)) only [↓gm_12, ↓ld_aTo, L0, L1, iv_add, no_def, nx_iv, okx_iv', iv_le, iv_lt, iv_eq, iv_no, no_iv, Nat.not_lt_zero, Nat.le_refl, vu_same, vu_ne, vu_up, ↓reduceIte, Nat.reduceEqDiff, Nat.reduceLeDiff, Nat.reduceLT, Nat.one_ne_zero, Nat.zero_ne_one, if_true, if_false, in_eq, h1, rngS1 hs (by omega), or_true]
theorem s_isS0 (h : tOK td nS nN nL) {p : Int32} (e : p < iv 0 ∨ iv nS ≤ p) : fX6_isSinger (some (aM c)) p (zS c td lw rw bf kp st ln rd rl rn ms sc mc fa pm xl pc rt ra ch ow ou B) = some (iv 0) := by
  obtain ⟨h1, h2, h3, h4, h5, h6⟩ := h
  unfold fX6_isSinger
  simp (disch := first | assumption | omega | (simp (disch := omega) only [okx_iv', nx_iv, iv_add, L0, L1, L2, L3, L7, L8, L14, L21, L28, L35, L55, L56, *]; try omega)) only [↓gm_12, ↓ld_aTo, L0, L1, iv_add, no_def, nx_iv, okx_iv', iv_le, iv_lt, iv_eq, iv_no, no_iv, Nat.not_lt_zero, Nat.le_refl, vu_same, vu_ne, vu_up, ↓reduceIte, Nat.reduceEqDiff, Nat.reduceLeDiff, Nat.reduceLT, Nat.one_ne_zero, Nat.zero_ne_one, if_true, if_false, in_eq, h1, rngS0 e, true_or]
theorem s_isN1 (h : tOK td nS nN nL) {s : Nat} (hs : s < nN) : fX6_isNote (some (aM c)) (iv s) (zS c td lw rw bf kp st ln rd rl rn ms sc mc fa pm xl pc rt ra ch ow ou B) = some (iv 1) := by
  obtain ⟨h1, h2, h3, h4, h5, h6⟩ := h
  unfold fX6_isNote
  simp (disch := first | assumption | omega | (simp (disch := omega) only [okx_iv', nx_iv, iv_add, L0, L1, L2, L3, L7, L8, L14, L21, L28, L35, L55, L56, *]; try omega)) only [↓gm_12, ↓ld_aTo, L0, L1, iv_add, no_def, nx_iv, okx_iv', iv_le, iv_lt, iv_eq, iv_no, no_iv, Nat.not_lt_zero, Nat.le_refl, vu_same, vu_ne, vu_up, ↓reduceIte, Nat.reduceEqDiff, Nat.reduceLeDiff, Nat.reduceLT, Nat.one_ne_zero, Nat.zero_ne_one, if_true, if_false, in_eq, h2, rngS1 hs (by omega), or_true]
theorem s_isN0 (h : tOK td nS nN nL) {p : Int32} (e : p < iv 0 ∨ iv nN ≤ p) : fX6_isNote (some (aM c)) p (zS c td lw rw bf kp st ln rd rl rn ms sc mc fa pm xl pc rt ra ch ow ou B) = some (iv 0) := by
  obtain ⟨h1, h2, h3, h4, h5, h6⟩ := h
  unfold fX6_isNote
  simp (disch := first | assumption | omega | (simp (disch := omega) only [okx_iv', nx_iv, iv_add, L0, L1, L2, L3, L7, L8, L14, L21, L28, L35, L55, L56, *]; try omega)) only [↓gm_12, ↓ld_aTo, L0, L1, iv_add, no_def, nx_iv, okx_iv', iv_le, iv_lt, iv_eq, iv_no, no_iv, Nat.not_lt_zero, Nat.le_refl, vu_same, vu_ne, vu_up, ↓reduceIte, Nat.reduceEqDiff, Nat.reduceLeDiff, Nat.reduceLT, Nat.one_ne_zero, Nat.zero_ne_one, if_true, if_false, in_eq, h2, rngS0 e, true_or]
theorem q_voices_l (h : tO (zV c ow B) rt td nS nN nL sgA ntA lkA) {v : Int32} : ∀ (j s fuel : Nat) (z : Int32), s + j = nS → j < fuel → fX1_voices_l12 fuel (some (aV c)) v z (iv s) (zS c td lw rw bf kp st ln rd rl rn ms sc mc fa pm xl pc rt ra ch ow ou B) = some (.inl (foldN (fun s z => z ||| (if td (1 + s) 0 = v then mBit s else iv 0)) j s z), (zS c td lw rw bf kp st ln rd rl rn ms sc mc fa pm xl pc rt ra ch ow ou B)) := by
  intro j
  have hS := h.1
  induction j with
  | zero =>
    intro s fuel z hs hf
    obtain ⟨f, rfl⟩ : ∃ f, fuel = f + 1 := ⟨fuel - 1, by omega⟩
    have hc : nS ≤ s := by omega
    simp (disch := first | assumption | omega | (simp (disch := omega) only [okx_iv', nx_iv, iv_add, L0, L1, L2, L3, L7, L8, L14, L21, L28, L35, L55, L56, *]; try omega)) only [fX1_voices_l12, fX1_voices_i12, ↓bvv, ↓gvv, ↓tvv, L0, L1, L31, iv_add, no_def, nx_iv, okx_iv', iv_le, iv_lt, iv_eq, iv_no, no_iv, Nat.not_lt_zero, Nat.le_refl, vu_same, vu_ne, vu_up, ↓reduceIte, hc, foldN, ↓b_singers h, ↓b_singerOf h, ↓b_sg0 h, mBit]
  | succ j ih =>
    intro s fuel z hs hf
    obtain ⟨f, rfl⟩ : ∃ f, fuel = f + 1 := ⟨fuel - 1, by omega⟩
    have hc : ¬ nS ≤ s := by omega
    refine Eq.trans ?_ (ih (s + 1) f ((fun s z => z ||| (if td (1 + s) 0 = v then mBit s else iv 0)) s z) (by omega) (by omega))
    by_cases cc0 : td (1 + s) 0 = v
    · simp (disch := first | assumption | omega | (simp (disch := omega) only [okx_iv', nx_iv, iv_add, L0, L1, L2, L3, L7, L8, L14, L21, L28, L35, L55, L56, *]; try omega)) only [fX1_voices_l12, fX1_voices_i12, ↓bvv, ↓gvv, ↓tvv, L0, L1, L31, iv_add, no_def, nx_iv, okx_iv', iv_le, iv_lt, iv_eq, iv_no, no_iv, Nat.not_lt_zero, Nat.le_refl, vu_same, vu_ne, vu_up, ↓reduceIte, hc, ↓b_singers h, ↓b_singerOf h, ↓b_sg0 h, mBit, cc0, if_true, if_false]
    · simp (disch := first | assumption | omega | (simp (disch := omega) only [okx_iv', nx_iv, iv_add, L0, L1, L2, L3, L7, L8, L14, L21, L28, L35, L55, L56, *]; try omega)) only [fX1_voices_l12, fX1_voices_i12, ↓bvv, ↓gvv, ↓tvv, L0, L1, L31, iv_add, no_def, nx_iv, okx_iv', iv_le, iv_lt, iv_eq, iv_no, no_iv, Nat.not_lt_zero, Nat.le_refl, vu_same, vu_ne, vu_up, ↓reduceIte, hc, ↓b_singers h, ↓b_singerOf h, ↓b_sg0 h, mBit, cc0, if_true, if_false]
theorem r_voices_l (ht : tOK td nS nN nL) {v : Int32} : ∀ (j s fuel : Nat) (z : Int32), s + j = nS → j < fuel → fX6_voices_l32 fuel (some (aM c)) v z (iv s) (zS c td lw rw bf kp st ln rd rl rn ms sc mc fa pm xl pc rt ra ch ow ou B) = some ((foldN (fun s z => z ||| (if td (1 + s) 0 = v then mBit s else iv 0)) j s z), (zS c td lw rw bf kp st ln rd rl rn ms sc mc fa pm xl pc rt ra ch ow ou B)) := by
  intro j
  have ⟨h1, h2, h3, h4, h5, h6⟩ := ht
  induction j with
  | zero =>
    intro s fuel z hs hf
    obtain ⟨f, rfl⟩ : ∃ f, fuel = f + 1 := ⟨fuel - 1, by omega⟩
    have hc : nS ≤ s := by omega
    simp (disch := first | assumption | omega | (simp (disch := omega) only [okx_iv', nx_iv, iv_add, L0, L1, L2, L3, L7, L8, L14, L21, L28, L35, L55, L56, *]; try omega)) only [fX6_voices_l32, fX6_voices_i32, ↓gm_12, ↓gm_14, ↓ld_aTo, ↓ld_aSgs, ↓ld_aSg, L0, L1, L31, iv_add, no_def, nx_iv, okx_iv', iv_le, iv_lt, iv_eq, iv_no, no_iv, Nat.not_lt_zero, Nat.le_refl, vu_same, vu_ne, vu_up, ↓reduceIte, hc, foldN, h1, mBit]
  | succ j ih =>
    intro s fuel z hs hf
    obtain ⟨f, rfl⟩ : ∃ f, fuel = f + 1 := ⟨fuel - 1, by omega⟩
    have hc : ¬ nS ≤ s := by omega
    refine Eq.trans ?_ (ih (s + 1) f ((fun s z => z ||| (if td (1 + s) 0 = v then mBit s else iv 0)) s z) (by omega) (by omega))
    by_cases cc0 : td (1 + s) 0 = v
    · simp (disch := first | assumption | omega | (simp (disch := omega) only [okx_iv', nx_iv, iv_add, L0, L1, L2, L3, L7, L8, L14, L21, L28, L35, L55, L56, *]; try omega)) only [fX6_voices_l32, fX6_voices_i32, ↓gm_12, ↓gm_14, ↓ld_aTo, ↓ld_aSgs, ↓ld_aSg, L0, L1, L31, iv_add, no_def, nx_iv, okx_iv', iv_le, iv_lt, iv_eq, iv_no, no_iv, Nat.not_lt_zero, Nat.le_refl, vu_same, vu_ne, vu_up, ↓reduceIte, hc, h1, mBit, cc0, if_true, if_false]
    · simp (disch := first | assumption | omega | (simp (disch := omega) only [okx_iv', nx_iv, iv_add, L0, L1, L2, L3, L7, L8, L14, L21, L28, L35, L55, L56, *]; try omega)) only [fX6_voices_l32, fX6_voices_i32, ↓gm_12, ↓gm_14, ↓ld_aTo, ↓ld_aSgs, ↓ld_aSg, L0, L1, L31, iv_add, no_def, nx_iv, okx_iv', iv_le, iv_lt, iv_eq, iv_no, no_iv, Nat.not_lt_zero, Nat.le_refl, vu_same, vu_ne, vu_up, ↓reduceIte, hc, h1, mBit, cc0, if_true, if_false]
theorem Q_voices (I : invA c td lw rw bf kp st ln rd rl rn ms sc mc fa pm xl pc rt ra ch ow ou B nS nN nL sgA ntA lkA F tp wk im lm n) (hn : n < 64) (p : Int32) : qI c n (fX0_voices (some (aV c)) p (some (aOu c)) (zS c td lw rw bf kp st ln rd rl rn ms sc mc fa pm xl pc rt ra ch ow ou B)) (fun S => fX6_voices (some (aM c)) p S) := by
  have hN := I.2.2.1
  have hT := I.1
  have hC0 := I.2.2.2.1
  have hR := hC0.1
  have hB := I.2.2.2.2.2.2.2.2
  have hS := hT.2.1.1
  have hNn := hT.2.1.2.1
  have hLn := hT.2.1.2.2.1
  have hf : 1000 < gFU := by unfold gFU; omega
  obtain ⟨kl, hl1, hl2⟩ := I.2.1.1
  have hl3 := I.2.1.2
  rcases rng p 5 (by decide) with ⟨v, hk0, rfl⟩ | e0
  rotate_left
  · have hC : fX1_voices (some (aV c)) p (zS c td lw rw bf kp st ln rd rl rn ms sc mc fa pm xl pc rt ra ch ow ou B) = some (.inr (31, B.2.1), (zS c td lw rw bf kp st ln rd rl rn ms sc (va_up mc 1 (va_up (mc 1) 1 (mc 1 1 + iv 1))) fa pm xl pc rt ra ch ow ou (bX 31 B))) := by
      unfold fX1_voices
      simp (disch := first | assumption | omega | (simp (disch := omega) only [okx_iv', nx_iv, iv_add, L0, L1, L2, L3, L7, L8, L14, L21, L28, L35, L55, L56, *]; try omega)) only [↓bvv, ↓gvv, ↓tvv, L0, iv_add, no_def, nx_iv, okx_iv', iv_le, iv_lt, iv_eq, iv_no, no_iv, Nat.not_lt_zero, Nat.le_refl, vu_same, vu_ne, vu_up, ↓reduceIte, Nat.reduceEqDiff, Nat.reduceLeDiff, Nat.reduceLT, Nat.one_ne_zero, Nat.zero_ne_one, if_true, if_false, ↓bnd (vow0 e0), or_true, ↓tvv, ↓gtn c_need1, ↓gtx (c_need0 hB.1 (hB.rm hn (by decide) (by decide)))]
    have hM : fX6_voices (some (aM c)) p (zS c td lw rw bf kp st ln rd rl rn ms sc (va_up mc 1 (va_up (mc 1) 1 (mc 1 1 + iv 1))) fa pm xl pc rt ra ch ow ou (bX 31 B)) = some (iv 0, (zS c td lw rw bf kp st ln rd rl rn (va_up ms 1 (va_up (ms 1) 1 (ms 1 1 + iv 1))) sc (va_up mc 1 (va_up (mc 1) 1 (mc 1 1 + iv 1))) fa (va_up pm 0 (iv 1)) xl pc rt ra ch ow ou (bX 31 B))) := by
      unfold fX6_voices fX6_voices_j18
      simp (disch := first | assumption | omega | (simp (disch := omega) only [okx_iv', nx_iv, iv_add, L0, L1, L2, L3, L7, L8, L14, L21, L28, L35, L55, L56, *]; try omega)) only [↓pm_0, ↓bvm, ↓gvm, L0, L1, iv_add, no_def, nx_iv, okx_iv', iv_le, iv_lt, iv_eq, iv_no, no_iv, Nat.not_lt_zero, Nat.le_refl, vu_same, vu_ne, vu_up, ↓reduceIte, Nat.reduceEqDiff, Nat.reduceLeDiff, Nat.reduceLT, Nat.one_ne_zero, Nat.zero_ne_one, if_true, if_false, in_eq, has_eq, vow_eq, ↓bnd (vow0 e0), ↓gbn (s_bad0L (vu_same _ _ _)), ↓gbn (s_bad0 (vu_same _ _ _)), ↓gbn (s_bad11L (vu_same _ _ _)), ↓gbn (s_bad1 (k := 1) (r := 1) (vu_same _ _ _) (by decide) (by decide))]
    exact qI_no (k := 1) (by decide) ((w_no zis0 hC).trans rfl) zis3 hM (vu_same _ _ _) (bad11 I)
  have hC : fX1_voices (some (aV c)) (iv v) (zS c td lw rw bf kp st ln rd rl rn ms sc mc fa pm xl pc rt ra ch ow ou B) = some (.inl (foldN (fun s z => z ||| (if td (1 + s) 0 = iv v then mBit s else iv 0)) nS 0 (iv 0)), (zS c td lw rw bf kp st ln rd rl rn ms sc mc fa pm xl pc rt ra ch ow ou B)) := by
    unfold fX1_voices
    simp (disch := first | assumption | omega | (simp (disch := omega) only [okx_iv', nx_iv, iv_add, L0, L1, L2, L3, L7, L8, L14, L21, L28, L35, L55, L56, *]; try omega)) only [↓bvv, ↓gvv, ↓tvv, L0, iv_add, no_def, nx_iv, okx_iv', iv_le, iv_lt, iv_eq, iv_no, no_iv, Nat.not_lt_zero, Nat.le_refl, vu_same, vu_ne, vu_up, ↓reduceIte, Nat.reduceEqDiff, Nat.reduceLeDiff, Nat.reduceLT, Nat.one_ne_zero, Nat.zero_ne_one, if_true, if_false, ↓bnd (vow1 hk0), Nat.zero_add, ↓tvv, ↓gtn c_need1]
    exact q_voices_l hT.2.1 nS 0 gFU _ (by omega) (by omega)
  have hM : fX6_voices (some (aM c)) (iv v) (zS c td lw rw bf kp st ln rd rl rn ms sc mc fa pm xl pc rt ra ch ow (va_up ou 0 (foldN (fun s z => z ||| (if td (1 + s) 0 = iv v then mBit s else iv 0)) nS 0 (iv 0)).toInt64) B) = some (foldN (fun s z => z ||| (if td (1 + s) 0 = iv v then mBit s else iv 0)) nS 0 (iv 0), (zS c td lw rw bf kp st ln rd rl rn ms sc mc fa (va_up pm 0 (iv 0)) xl pc rt ra ch ow (va_up ou 0 (foldN (fun s z => z ||| (if td (1 + s) 0 = iv v then mBit s else iv 0)) nS 0 (iv 0)).toInt64) B)) := by
    unfold fX6_voices fX6_voices_j18
    simp (disch := first | assumption | omega | (simp (disch := omega) only [okx_iv', nx_iv, iv_add, L0, L1, L2, L3, L7, L8, L14, L21, L28, L35, L55, L56, *]; try omega)) only [↓pm_0, ↓bvm, ↓gvm, L0, L1, iv_add, no_def, nx_iv, okx_iv', iv_le, iv_lt, iv_eq, iv_no, no_iv, Nat.not_lt_zero, Nat.le_refl, vu_same, vu_ne, vu_up, ↓reduceIte, Nat.reduceEqDiff, Nat.reduceLeDiff, Nat.reduceLT, Nat.one_ne_zero, Nat.zero_ne_one, if_true, if_false, in_eq, has_eq, vow_eq, ↓bnd (vow1 hk0), Nat.zero_add, ↓gbn (s_bad0L (vu_same _ _ _)), ↓gbn (s_bad0 (vu_same _ _ _))]
    exact r_voices_l hT.1 nS 0 gFU _ (by omega) (by omega)
  exact qI_ok (w_ok zis0 hC) zis3 hM (by simp (disch := omega) only [vu_same, vu_ne]) (vu_same _ _ _) (inv_q I (by first | rfl | simp (disch := omega) only [vu_ne]) (fun k hk => by first | rfl | simp (disch := omega) only [vu_ne]) (by first | rfl | simp (disch := omega) only [vu_ne]) (fun k hk => by first | rfl | simp (disch := omega) only [vu_ne]) (by first | exact ⟨hN.2.2.2.2.2.2.1, hN.2.2.2.2.2.2.2⟩ | (simp (disch := omega) only [vu_same, vu_ne, hN.2.2.2.2.2.2.1, hN.2.2.2.2.2.2.2, and_self])) (fun k hk => by first | rfl | simp (disch := omega) only [vu_ne]) (fun x hx => by first | rfl | simp (disch := omega) only [vu_ne]) (by first | exact Or.inl rfl | exact Or.inr ⟨_, rfl⟩))
theorem r_sounds_l (ht : tOK td nS nN nL) {v : Int32} : ∀ (j s fuel : Nat) (z : Int32), s + j = nN → j < fuel → fX6_sounds_l32 fuel (some (aM c)) v z (iv s) (zS c td lw rw bf kp st ln rd rl rn ms sc mc fa pm xl pc rt ra ch ow ou B) = some ((foldN (fun n z => z ||| (if rw 0 (35 + n) = v then mBit n else iv 0)) j s z), (zS c td lw rw bf kp st ln rd rl rn ms sc mc fa pm xl pc rt ra ch ow ou B)) := by
  intro j
  have ⟨h1, h2, h3, h4, h5, h6⟩ := ht
  induction j with
  | zero =>
    intro s fuel z hs hf
    obtain ⟨f, rfl⟩ : ∃ f, fuel = f + 1 := ⟨fuel - 1, by omega⟩
    have hc : nN ≤ s := by omega
    simp (disch := first | assumption | omega | (simp (disch := omega) only [okx_iv', nx_iv, iv_add, L0, L1, L2, L3, L7, L8, L14, L21, L28, L35, L55, L56, *]; try omega)) only [fX6_sounds_l32, fX6_sounds_i32, ↓gm_12, ↓gm_29, ↓ld_aTo, ↓ld_aRow, L0, L1, L31, L35, iv_add, no_def, nx_iv, okx_iv', iv_le, iv_lt, iv_eq, iv_no, no_iv, Nat.not_lt_zero, Nat.le_refl, vu_same, vu_ne, vu_up, ↓reduceIte, hc, foldN, h2, mBit]
  | succ j ih =>
    intro s fuel z hs hf
    obtain ⟨f, rfl⟩ : ∃ f, fuel = f + 1 := ⟨fuel - 1, by omega⟩
    have hc : ¬ nN ≤ s := by omega
    refine Eq.trans ?_ (ih (s + 1) f ((fun n z => z ||| (if rw 0 (35 + n) = v then mBit n else iv 0)) s z) (by omega) (by omega))
    by_cases cc0 : rw 0 (35 + s) = v
    · simp (disch := first | assumption | omega | (simp (disch := omega) only [okx_iv', nx_iv, iv_add, L0, L1, L2, L3, L7, L8, L14, L21, L28, L35, L55, L56, *]; try omega)) only [fX6_sounds_l32, fX6_sounds_i32, ↓gm_12, ↓gm_29, ↓ld_aTo, ↓ld_aRow, L0, L1, L31, L35, iv_add, no_def, nx_iv, okx_iv', iv_le, iv_lt, iv_eq, iv_no, no_iv, Nat.not_lt_zero, Nat.le_refl, vu_same, vu_ne, vu_up, ↓reduceIte, hc, h2, mBit, cc0, if_true, if_false]
    · simp (disch := first | assumption | omega | (simp (disch := omega) only [okx_iv', nx_iv, iv_add, L0, L1, L2, L3, L7, L8, L14, L21, L28, L35, L55, L56, *]; try omega)) only [fX6_sounds_l32, fX6_sounds_i32, ↓gm_12, ↓gm_29, ↓ld_aTo, ↓ld_aRow, L0, L1, L31, L35, iv_add, no_def, nx_iv, okx_iv', iv_le, iv_lt, iv_eq, iv_no, no_iv, Nat.not_lt_zero, Nat.le_refl, vu_same, vu_ne, vu_up, ↓reduceIte, hc, h2, mBit, cc0, if_true, if_false]
theorem Q_sounds (I : invA c td lw rw bf kp st ln rd rl rn ms sc mc fa pm xl pc rt ra ch ow ou B nS nN nL sgA ntA lkA F tp wk im lm n) (hn : n < 64) (p : Int32) : qI c n (fX0_sounds (some (aV c)) p (some (aOu c)) (zS c td lw rw bf kp st ln rd rl rn ms sc mc fa pm xl pc rt ra ch ow ou B)) (fun S => fX6_sounds (some (aM c)) p S) := by
  have hN := I.2.2.1
  have hT := I.1
  have hC0 := I.2.2.2.1
  have hR := hC0.1
  have hB := I.2.2.2.2.2.2.2.2
  have hS := hT.2.1.1
  have hNn := hT.2.1.2.1
  have hLn := hT.2.1.2.2.1
  have hf : 1000 < gFU := by unfold gFU; omega
  obtain ⟨kl, hl1, hl2⟩ := I.2.1.1
  have hl3 := I.2.1.2
  rcases rng p 5 (by decide) with ⟨v, hk0, rfl⟩ | e0
  rotate_left
  · have hC : fX1_sounds (some (aV c)) p (zS c td lw rw bf kp st ln rd rl rn ms sc mc fa pm xl pc rt ra ch ow ou B) = some (.inr (31, B.2.1), (zS c td lw rw bf kp st ln rd rl rn ms sc (va_up mc 1 (va_up (mc 1) 1 (mc 1 1 + iv 1))) fa pm xl pc rt ra ch ow ou (bX 31 B))) := by
      unfold fX1_sounds
      simp (disch := first | assumption | omega | (simp (disch := omega) only [okx_iv', nx_iv, iv_add, L0, L1, L2, L3, L7, L8, L14, L21, L28, L35, L55, L56, *]; try omega)) only [↓gv_5, ↓bvv, ↓gvv, ↓tvv, ↓bvc, ↓gvc, L0, iv_add, no_def, nx_iv, okx_iv', iv_le, iv_lt, iv_eq, iv_no, no_iv, Nat.not_lt_zero, Nat.le_refl, vu_same, vu_ne, vu_up, ↓reduceIte, Nat.reduceEqDiff, Nat.reduceLeDiff, Nat.reduceLT, Nat.one_ne_zero, Nat.zero_ne_one, if_true, if_false, ↓bnd (vow0 e0), or_true, ↓tvv, ↓gtn c_need1, ↓gtx (c_need0 hB.1 (hB.rm hn (by decide) (by decide)))]
    have hM : fX6_sounds (some (aM c)) p (zS c td lw rw bf kp st ln rd rl rn ms sc (va_up mc 1 (va_up (mc 1) 1 (mc 1 1 + iv 1))) fa pm xl pc rt ra ch ow ou (bX 31 B)) = some (iv 0, (zS c td lw rw bf kp st ln rd rl rn (va_up ms 1 (va_up (ms 1) 1 (ms 1 1 + iv 1))) sc (va_up mc 1 (va_up (mc 1) 1 (mc 1 1 + iv 1))) fa (va_up pm 0 (iv 1)) xl pc rt ra ch ow ou (bX 31 B))) := by
      unfold fX6_sounds fX6_sounds_j18
      simp (disch := first | assumption | omega | (simp (disch := omega) only [okx_iv', nx_iv, iv_add, L0, L1, L2, L3, L7, L8, L14, L21, L28, L35, L55, L56, *]; try omega)) only [↓pm_0, ↓bvm, ↓gvm, L0, L1, iv_add, no_def, nx_iv, okx_iv', iv_le, iv_lt, iv_eq, iv_no, no_iv, Nat.not_lt_zero, Nat.le_refl, vu_same, vu_ne, vu_up, ↓reduceIte, Nat.reduceEqDiff, Nat.reduceLeDiff, Nat.reduceLT, Nat.one_ne_zero, Nat.zero_ne_one, if_true, if_false, in_eq, has_eq, vow_eq, ↓bnd (vow0 e0), ↓gbn (s_bad0L (vu_same _ _ _)), ↓gbn (s_bad0 (vu_same _ _ _)), ↓gbn (s_bad11L (vu_same _ _ _)), ↓gbn (s_bad1 (k := 1) (r := 1) (vu_same _ _ _) (by decide) (by decide))]
    exact qI_no (k := 1) (by decide) ((w_no zis0 hC).trans rfl) zis3 hM (vu_same _ _ _) (bad11 I)
  have hC : fX1_sounds (some (aV c)) (iv v) (zS c td lw rw bf kp st ln rd rl rn ms sc mc fa pm xl pc rt ra ch ow ou B) = some (.inl (foldN (fun n z => z ||| (if rw 0 (35 + n) = iv v then mBit n else iv 0)) nN 0 (iv 0)), (zS c td lw rw bf kp st ln rd rl rn ms sc mc fa pm xl pc rt ra ch ow ou B)) := by
    unfold fX1_sounds
    simp (disch := first | assumption | omega | (simp (disch := omega) only [okx_iv', nx_iv, iv_add, L0, L1, L2, L3, L7, L8, L14, L21, L28, L35, L55, L56, *]; try omega)) only [↓gv_5, ↓bvv, ↓gvv, ↓tvv, ↓bvc, ↓gvc, L0, iv_add, no_def, nx_iv, okx_iv', iv_le, iv_lt, iv_eq, iv_no, no_iv, Nat.not_lt_zero, Nat.le_refl, vu_same, vu_ne, vu_up, ↓reduceIte, Nat.reduceEqDiff, Nat.reduceLeDiff, Nat.reduceLT, Nat.one_ne_zero, Nat.zero_ne_one, if_true, if_false, ↓bnd (vow1 hk0), Nat.zero_add, ↓tvv, ↓gtn c_need1, ↓bvc isC12]
    rw [bnd (show fX5_soundsOf (some (aCh c 12)) (iv v) (zS c td lw rw bf kp st ln rd rl rn ms sc mc fa pm xl pc rt ra ch ow ou B) = some _ from c_soundsOf_l hT.2.1 isC12 hR nN 0 gFU (iv 0) (by omega) (by omega))]
  have hM : fX6_sounds (some (aM c)) (iv v) (zS c td lw rw bf kp st ln rd rl rn ms sc mc fa pm xl pc rt ra ch ow (va_up ou 0 (foldN (fun n z => z ||| (if rw 0 (35 + n) = iv v then mBit n else iv 0)) nN 0 (iv 0)).toInt64) B) = some (foldN (fun n z => z ||| (if rw 0 (35 + n) = iv v then mBit n else iv 0)) nN 0 (iv 0), (zS c td lw rw bf kp st ln rd rl rn ms sc mc fa (va_up pm 0 (iv 0)) xl pc rt ra ch ow (va_up ou 0 (foldN (fun n z => z ||| (if rw 0 (35 + n) = iv v then mBit n else iv 0)) nN 0 (iv 0)).toInt64) B)) := by
    unfold fX6_sounds fX6_sounds_j18
    simp (disch := first | assumption | omega | (simp (disch := omega) only [okx_iv', nx_iv, iv_add, L0, L1, L2, L3, L7, L8, L14, L21, L28, L35, L55, L56, *]; try omega)) only [↓pm_0, ↓bvm, ↓gvm, L0, L1, iv_add, no_def, nx_iv, okx_iv', iv_le, iv_lt, iv_eq, iv_no, no_iv, Nat.not_lt_zero, Nat.le_refl, vu_same, vu_ne, vu_up, ↓reduceIte, Nat.reduceEqDiff, Nat.reduceLeDiff, Nat.reduceLT, Nat.one_ne_zero, Nat.zero_ne_one, if_true, if_false, in_eq, has_eq, vow_eq, ↓bnd (vow1 hk0), Nat.zero_add, ↓gbn (s_bad0L (vu_same _ _ _)), ↓gbn (s_bad0 (vu_same _ _ _))]
    exact r_sounds_l hT.1 nN 0 gFU _ (by omega) (by omega)
  exact qI_ok (w_ok zis0 hC) zis3 hM (by simp (disch := omega) only [vu_same, vu_ne]) (vu_same _ _ _) (inv_q I (by first | rfl | simp (disch := omega) only [vu_ne]) (fun k hk => by first | rfl | simp (disch := omega) only [vu_ne]) (by first | rfl | simp (disch := omega) only [vu_ne]) (fun k hk => by first | rfl | simp (disch := omega) only [vu_ne]) (by first | exact ⟨hN.2.2.2.2.2.2.1, hN.2.2.2.2.2.2.2⟩ | (simp (disch := omega) only [vu_same, vu_ne, hN.2.2.2.2.2.2.1, hN.2.2.2.2.2.2.2, and_self])) (fun k hk => by first | rfl | simp (disch := omega) only [vu_ne]) (fun x hx => by first | rfl | simp (disch := omega) only [vu_ne]) (by first | exact Or.inl rfl | exact Or.inr ⟨_, rfl⟩))
theorem q_beats_l (h : tO (zV c ow B) rt td nS nN nL sgA ntA lkA) (hr : CR nS nN (ch 12) (rw 0)) {v : Int32} : ∀ (j s fuel : Nat) (z : Int32), s + j = nN → j < fuel → fX1_beats_l12 fuel (some (aV c)) v z (iv s) (zS c td lw rw bf kp st ln rd rl rn ms sc mc fa pm xl pc rt ra ch ow ou B) = some (.inl (foldN (fun n z => z + (if rw 0 (35 + n) = v then td (8 + n) 1 else iv 0)) j s z), (zS c td lw rw bf kp st ln rd rl rn ms sc mc fa pm xl pc rt ra ch ow ou B)) := by
  intro j
  have hN := h.2.1
  have hx := @isC12 ow
  have hv := hr.2.1
  induction j with
  | zero =>
    intro s fuel z hs hf
    obtain ⟨f, rfl⟩ : ∃ f, fuel = f + 1 := ⟨fuel - 1, by omega⟩
    have hc : nN ≤ s := by omega
    simp (disch := first | assumption | omega | (simp (disch := omega) only [okx_iv', nx_iv, iv_add, L0, L1, L2, L3, L7, L8, L14, L21, L28, L35, L55, L56, *]; try omega)) only [fX1_beats_l12, fX1_beats_i12, ↓gv_5, ↓gh_4, ↓bvv, ↓gvv, ↓tvv, ↓ld_aCA4, L0, L1, iv_add, no_def, nx_iv, okx_iv', iv_le, iv_lt, iv_eq, iv_no, no_iv, Nat.not_lt_zero, Nat.le_refl, vu_same, vu_ne, vu_up, ↓reduceIte, hc, foldN, ↓b_notes h, ↓b_noteOf h, ↓b_nt1 h, hv]
  | succ j ih =>
    intro s fuel z hs hf
    obtain ⟨f, rfl⟩ : ∃ f, fuel = f + 1 := ⟨fuel - 1, by omega⟩
    have hc : ¬ nN ≤ s := by omega
    refine Eq.trans ?_ (ih (s + 1) f ((fun n z => z + (if rw 0 (35 + n) = v then td (8 + n) 1 else iv 0)) s z) (by omega) (by omega))
    by_cases cc0 : rw 0 (35 + s) = v
    · simp (disch := first | assumption | omega | (simp (disch := omega) only [okx_iv', nx_iv, iv_add, L0, L1, L2, L3, L7, L8, L14, L21, L28, L35, L55, L56, *]; try omega)) only [fX1_beats_l12, fX1_beats_i12, ↓gv_5, ↓gh_4, ↓bvv, ↓gvv, ↓tvv, ↓ld_aCA4, L0, L1, iv_add, no_def, nx_iv, okx_iv', iv_le, iv_lt, iv_eq, iv_no, no_iv, Nat.not_lt_zero, Nat.le_refl, vu_same, vu_ne, vu_up, ↓reduceIte, hc, ↓b_notes h, ↓b_noteOf h, ↓b_nt1 h, hv, cc0, if_true, if_false]
    · simp (disch := first | assumption | omega | (simp (disch := omega) only [okx_iv', nx_iv, iv_add, L0, L1, L2, L3, L7, L8, L14, L21, L28, L35, L55, L56, *]; try omega)) only [fX1_beats_l12, fX1_beats_i12, ↓gv_5, ↓gh_4, ↓bvv, ↓gvv, ↓tvv, ↓ld_aCA4, L0, L1, iv_add, no_def, nx_iv, okx_iv', iv_le, iv_lt, iv_eq, iv_no, no_iv, Nat.not_lt_zero, Nat.le_refl, vu_same, vu_ne, vu_up, ↓reduceIte, hc, ↓b_notes h, ↓b_noteOf h, ↓b_nt1 h, hv, cc0, if_true, if_false]
theorem r_beats_l (ht : tOK td nS nN nL) {v : Int32} : ∀ (j s fuel : Nat) (z : Int32), s + j = nN → j < fuel → fX6_beats_l32 fuel (some (aM c)) v z (iv s) (zS c td lw rw bf kp st ln rd rl rn ms sc mc fa pm xl pc rt ra ch ow ou B) = some ((foldN (fun n z => z + (if rw 0 (35 + n) = v then td (8 + n) 1 else iv 0)) j s z), (zS c td lw rw bf kp st ln rd rl rn ms sc mc fa pm xl pc rt ra ch ow ou B)) := by
  intro j
  have ⟨h1, h2, h3, h4, h5, h6⟩ := ht
  induction j with
  | zero =>
    intro s fuel z hs hf
    obtain ⟨f, rfl⟩ : ∃ f, fuel = f + 1 := ⟨fuel - 1, by omega⟩
    have hc : nN ≤ s := by omega
    simp (disch := first | assumption | omega | (simp (disch := omega) only [okx_iv', nx_iv, iv_add, L0, L1, L2, L3, L7, L8, L14, L21, L28, L35, L55, L56, *]; try omega)) only [fX6_beats_l32, fX6_beats_i32, ↓gm_12, ↓gm_29, ↓gm_16, ↓ld_aTo, ↓ld_aRow, ↓ld_aNts, ↓ld_aNt, L0, L1, L35, iv_add, no_def, nx_iv, okx_iv', iv_le, iv_lt, iv_eq, iv_no, no_iv, Nat.not_lt_zero, Nat.le_refl, vu_same, vu_ne, vu_up, ↓reduceIte, hc, foldN, h2]
  | succ j ih =>
    intro s fuel z hs hf
    obtain ⟨f, rfl⟩ : ∃ f, fuel = f + 1 := ⟨fuel - 1, by omega⟩
    have hc : ¬ nN ≤ s := by omega
    refine Eq.trans ?_ (ih (s + 1) f ((fun n z => z + (if rw 0 (35 + n) = v then td (8 + n) 1 else iv 0)) s z) (by omega) (by omega))
    by_cases cc0 : rw 0 (35 + s) = v
    · simp (disch := first | assumption | omega | (simp (disch := omega) only [okx_iv', nx_iv, iv_add, L0, L1, L2, L3, L7, L8, L14, L21, L28, L35, L55, L56, *]; try omega)) only [fX6_beats_l32, fX6_beats_i32, ↓gm_12, ↓gm_29, ↓gm_16, ↓ld_aTo, ↓ld_aRow, ↓ld_aNts, ↓ld_aNt, L0, L1, L35, iv_add, no_def, nx_iv, okx_iv', iv_le, iv_lt, iv_eq, iv_no, no_iv, Nat.not_lt_zero, Nat.le_refl, vu_same, vu_ne, vu_up, ↓reduceIte, hc, h2, cc0, if_true, if_false]
    · simp (disch := first | assumption | omega | (simp (disch := omega) only [okx_iv', nx_iv, iv_add, L0, L1, L2, L3, L7, L8, L14, L21, L28, L35, L55, L56, *]; try omega)) only [fX6_beats_l32, fX6_beats_i32, ↓gm_12, ↓gm_29, ↓gm_16, ↓ld_aTo, ↓ld_aRow, ↓ld_aNts, ↓ld_aNt, L0, L1, L35, iv_add, no_def, nx_iv, okx_iv', iv_le, iv_lt, iv_eq, iv_no, no_iv, Nat.not_lt_zero, Nat.le_refl, vu_same, vu_ne, vu_up, ↓reduceIte, hc, h2, cc0, if_true, if_false]
theorem Q_beats (I : invA c td lw rw bf kp st ln rd rl rn ms sc mc fa pm xl pc rt ra ch ow ou B nS nN nL sgA ntA lkA F tp wk im lm n) (hn : n < 64) (p : Int32) : qI c n (fX0_beats (some (aV c)) p (some (aOu c)) (zS c td lw rw bf kp st ln rd rl rn ms sc mc fa pm xl pc rt ra ch ow ou B)) (fun S => fX6_beats (some (aM c)) p S) := by
  have hN := I.2.2.1
  have hT := I.1
  have hC0 := I.2.2.2.1
  have hR := hC0.1
  have hB := I.2.2.2.2.2.2.2.2
  have hS := hT.2.1.1
  have hNn := hT.2.1.2.1
  have hLn := hT.2.1.2.2.1
  have hf : 1000 < gFU := by unfold gFU; omega
  obtain ⟨kl, hl1, hl2⟩ := I.2.1.1
  have hl3 := I.2.1.2
  rcases rng p 5 (by decide) with ⟨v, hk0, rfl⟩ | e0
  rotate_left
  · have hC : fX1_beats (some (aV c)) p (zS c td lw rw bf kp st ln rd rl rn ms sc mc fa pm xl pc rt ra ch ow ou B) = some (.inr (31, B.2.1), (zS c td lw rw bf kp st ln rd rl rn ms sc (va_up mc 1 (va_up (mc 1) 1 (mc 1 1 + iv 1))) fa pm xl pc rt ra ch ow ou (bX 31 B))) := by
      unfold fX1_beats
      simp (disch := first | assumption | omega | (simp (disch := omega) only [okx_iv', nx_iv, iv_add, L0, L1, L2, L3, L7, L8, L14, L21, L28, L35, L55, L56, *]; try omega)) only [↓bvv, ↓gvv, ↓tvv, L0, iv_add, no_def, nx_iv, okx_iv', iv_le, iv_lt, iv_eq, iv_no, no_iv, Nat.not_lt_zero, Nat.le_refl, vu_same, vu_ne, vu_up, ↓reduceIte, Nat.reduceEqDiff, Nat.reduceLeDiff, Nat.reduceLT, Nat.one_ne_zero, Nat.zero_ne_one, if_true, if_false, ↓bnd (vow0 e0), or_true, ↓tvv, ↓gtn c_need1, ↓gtx (c_need0 hB.1 (hB.rm hn (by decide) (by decide)))]
    have hM : fX6_beats (some (aM c)) p (zS c td lw rw bf kp st ln rd rl rn ms sc (va_up mc 1 (va_up (mc 1) 1 (mc 1 1 + iv 1))) fa pm xl pc rt ra ch ow ou (bX 31 B)) = some (iv 0, (zS c td lw rw bf kp st ln rd rl rn (va_up ms 1 (va_up (ms 1) 1 (ms 1 1 + iv 1))) sc (va_up mc 1 (va_up (mc 1) 1 (mc 1 1 + iv 1))) fa (va_up pm 0 (iv 1)) xl pc rt ra ch ow ou (bX 31 B))) := by
      unfold fX6_beats fX6_beats_j18
      simp (disch := first | assumption | omega | (simp (disch := omega) only [okx_iv', nx_iv, iv_add, L0, L1, L2, L3, L7, L8, L14, L21, L28, L35, L55, L56, *]; try omega)) only [↓pm_0, ↓bvm, ↓gvm, L0, L1, iv_add, no_def, nx_iv, okx_iv', iv_le, iv_lt, iv_eq, iv_no, no_iv, Nat.not_lt_zero, Nat.le_refl, vu_same, vu_ne, vu_up, ↓reduceIte, Nat.reduceEqDiff, Nat.reduceLeDiff, Nat.reduceLT, Nat.one_ne_zero, Nat.zero_ne_one, if_true, if_false, in_eq, has_eq, vow_eq, ↓bnd (vow0 e0), ↓gbn (s_bad0L (vu_same _ _ _)), ↓gbn (s_bad0 (vu_same _ _ _)), ↓gbn (s_bad11L (vu_same _ _ _)), ↓gbn (s_bad1 (k := 1) (r := 1) (vu_same _ _ _) (by decide) (by decide))]
    exact qI_no (k := 1) (by decide) ((w_no zis0 hC).trans rfl) zis3 hM (vu_same _ _ _) (bad11 I)
  have hC : fX1_beats (some (aV c)) (iv v) (zS c td lw rw bf kp st ln rd rl rn ms sc mc fa pm xl pc rt ra ch ow ou B) = some (.inl (foldN (fun n z => z + (if rw 0 (35 + n) = iv v then td (8 + n) 1 else iv 0)) nN 0 (iv 0)), (zS c td lw rw bf kp st ln rd rl rn ms sc mc fa pm xl pc rt ra ch ow ou B)) := by
    unfold fX1_beats
    simp (disch := first | assumption | omega | (simp (disch := omega) only [okx_iv', nx_iv, iv_add, L0, L1, L2, L3, L7, L8, L14, L21, L28, L35, L55, L56, *]; try omega)) only [↓bvv, ↓gvv, ↓tvv, L0, iv_add, no_def, nx_iv, okx_iv', iv_le, iv_lt, iv_eq, iv_no, no_iv, Nat.not_lt_zero, Nat.le_refl, vu_same, vu_ne, vu_up, ↓reduceIte, Nat.reduceEqDiff, Nat.reduceLeDiff, Nat.reduceLT, Nat.one_ne_zero, Nat.zero_ne_one, if_true, if_false, ↓bnd (vow1 hk0), Nat.zero_add, ↓tvv, ↓gtn c_need1]
    exact q_beats_l hT.2.1 hR nN 0 gFU _ (by omega) (by omega)
  have hM : fX6_beats (some (aM c)) (iv v) (zS c td lw rw bf kp st ln rd rl rn ms sc mc fa pm xl pc rt ra ch ow (va_up ou 0 (foldN (fun n z => z + (if rw 0 (35 + n) = iv v then td (8 + n) 1 else iv 0)) nN 0 (iv 0)).toInt64) B) = some (foldN (fun n z => z + (if rw 0 (35 + n) = iv v then td (8 + n) 1 else iv 0)) nN 0 (iv 0), (zS c td lw rw bf kp st ln rd rl rn ms sc mc fa (va_up pm 0 (iv 0)) xl pc rt ra ch ow (va_up ou 0 (foldN (fun n z => z + (if rw 0 (35 + n) = iv v then td (8 + n) 1 else iv 0)) nN 0 (iv 0)).toInt64) B)) := by
    unfold fX6_beats fX6_beats_j18
    simp (disch := first | assumption | omega | (simp (disch := omega) only [okx_iv', nx_iv, iv_add, L0, L1, L2, L3, L7, L8, L14, L21, L28, L35, L55, L56, *]; try omega)) only [↓pm_0, ↓bvm, ↓gvm, L0, L1, iv_add, no_def, nx_iv, okx_iv', iv_le, iv_lt, iv_eq, iv_no, no_iv, Nat.not_lt_zero, Nat.le_refl, vu_same, vu_ne, vu_up, ↓reduceIte, Nat.reduceEqDiff, Nat.reduceLeDiff, Nat.reduceLT, Nat.one_ne_zero, Nat.zero_ne_one, if_true, if_false, in_eq, has_eq, vow_eq, ↓bnd (vow1 hk0), Nat.zero_add, ↓gbn (s_bad0L (vu_same _ _ _)), ↓gbn (s_bad0 (vu_same _ _ _))]
    exact r_beats_l hT.1 nN 0 gFU _ (by omega) (by omega)
  exact qI_ok (w_ok zis0 hC) zis3 hM (by simp (disch := omega) only [vu_same, vu_ne]) (vu_same _ _ _) (inv_q I (by first | rfl | simp (disch := omega) only [vu_ne]) (fun k hk => by first | rfl | simp (disch := omega) only [vu_ne]) (by first | rfl | simp (disch := omega) only [vu_ne]) (fun k hk => by first | rfl | simp (disch := omega) only [vu_ne]) (by first | exact ⟨hN.2.2.2.2.2.2.1, hN.2.2.2.2.2.2.2⟩ | (simp (disch := omega) only [vu_same, vu_ne, hN.2.2.2.2.2.2.1, hN.2.2.2.2.2.2.2, and_self])) (fun k hk => by first | rfl | simp (disch := omega) only [vu_ne]) (fun x hx => by first | rfl | simp (disch := omega) only [vu_ne]) (by first | exact Or.inl rfl | exact Or.inr ⟨_, rfl⟩))
theorem Q_words (I : invA c td lw rw bf kp st ln rd rl rn ms sc mc fa pm xl pc rt ra ch ow ou B nS nN nL sgA ntA lkA F tp wk im lm n) (hn : n < 64) (p : Int32) : qI c n (fX0_words (some (aV c)) p (some (aOu c)) (zS c td lw rw bf kp st ln rd rl rn ms sc mc fa pm xl pc rt ra ch ow ou B)) (fun S => fX6_words (some (aM c)) p S) := by
  have hN := I.2.2.1
  have hT := I.1
  have hC0 := I.2.2.2.1
  have hR := hC0.1
  have hB := I.2.2.2.2.2.2.2.2
  have hS := hT.2.1.1
  have hNn := hT.2.1.2.1
  have hLn := hT.2.1.2.2.1
  have hf : 1000 < gFU := by unfold gFU; omega
  obtain ⟨kl, hl1, hl2⟩ := I.2.1.1
  have hl3 := I.2.1.2
  rcases rngS p nN with ⟨k, hk0, rfl⟩ | e0
  rotate_left
  · have hC : fX1_words (some (aV c)) p (zS c td lw rw bf kp st ln rd rl rn ms sc mc fa pm xl pc rt ra ch ow ou B) = some (.inr (32, B.2.1), (zS c td lw rw bf kp st ln rd rl rn ms sc (va_up mc 1 (va_up (mc 1) 0 (mc 1 0 + iv 1))) fa pm xl pc rt ra ch ow ou (bX 32 B))) := by
      unfold fX1_words
      simp (disch := first | assumption | omega | (simp (disch := omega) only [okx_iv', nx_iv, iv_add, L0, L1, L2, L3, L7, L8, L14, L21, L28, L35, L55, L56, *]; try omega)) only [↓bvv, ↓gvv, ↓tvv, L0, iv_add, no_def, nx_iv, okx_iv', iv_le, iv_lt, iv_eq, iv_no, no_iv, Nat.not_lt_zero, Nat.le_refl, vu_same, vu_ne, vu_up, ↓reduceIte, Nat.reduceEqDiff, Nat.reduceLeDiff, Nat.reduceLT, Nat.one_ne_zero, Nat.zero_ne_one, if_true, if_false, ↓gtx (c_nnt0 hT.2.1 hB.1 (hB.rm hn (by decide) (by decide)) e0), or_true, ↓tvv, ↓gtn c_need1, ↓gtx (c_need0 hB.1 (hB.rm hn (by decide) (by decide)))]
    have hM : fX6_words (some (aM c)) p (zS c td lw rw bf kp st ln rd rl rn ms sc (va_up mc 1 (va_up (mc 1) 0 (mc 1 0 + iv 1))) fa pm xl pc rt ra ch ow ou (bX 32 B)) = some (iv 0, (zS c td lw rw bf kp st ln rd rl rn (va_up ms 1 (va_up (ms 1) 0 (ms 1 0 + iv 1))) sc (va_up mc 1 (va_up (mc 1) 0 (mc 1 0 + iv 1))) fa (va_up pm 0 (iv 1)) xl pc rt ra ch ow ou (bX 32 B))) := by
      unfold fX6_words fX6_words_j19
      simp (disch := first | assumption | omega | (simp (disch := omega) only [okx_iv', nx_iv, iv_add, L0, L1, L2, L3, L7, L8, L14, L21, L28, L35, L55, L56, *]; try omega)) only [↓pm_0, ↓bvm, ↓gvm, L0, L1, iv_add, no_def, nx_iv, okx_iv', iv_le, iv_lt, iv_eq, iv_no, no_iv, Nat.not_lt_zero, Nat.le_refl, vu_same, vu_ne, vu_up, ↓reduceIte, Nat.reduceEqDiff, Nat.reduceLeDiff, Nat.reduceLT, Nat.one_ne_zero, Nat.zero_ne_one, if_true, if_false, in_eq, has_eq, vow_eq, ↓bnd (s_isN0 hT.1 e0), ↓gbn (s_bad0L (vu_same _ _ _)), ↓gbn (s_bad0 (vu_same _ _ _)), ↓gbn (s_bad01L (vu_same _ _ _)), ↓gbn (s_bad1 (k := 1) (r := 0) (vu_same _ _ _) (by decide) (by decide))]
    exact qI_no (k := 1) (by decide) ((w_no zis0 hC).trans rfl) zis3 hM (vu_same _ _ _) (bad01 I)
  have hC : fX1_words (some (aV c)) (iv k) (zS c td lw rw bf kp st ln rd rl rn ms sc mc fa pm xl pc rt ra ch ow ou B) = some (.inl (mWds td nL k), (zS c td lw rw bf kp st ln rd rl rn ms sc mc fa pm xl pc rt ra ch ow ou B)) := by
    unfold fX1_words
    simp (disch := first | assumption | omega | (simp (disch := omega) only [okx_iv', nx_iv, iv_add, L0, L1, L2, L3, L7, L8, L14, L21, L28, L35, L55, L56, *]; try omega)) only [↓bvv, ↓gvv, ↓tvv, L0, iv_add, no_def, nx_iv, okx_iv', iv_le, iv_lt, iv_eq, iv_no, no_iv, Nat.not_lt_zero, Nat.le_refl, vu_same, vu_ne, vu_up, ↓reduceIte, Nat.reduceEqDiff, Nat.reduceLeDiff, Nat.reduceLT, Nat.one_ne_zero, Nat.zero_ne_one, if_true, if_false, ↓gtn (c_nnt1 hT.2.1 hk0), Nat.zero_add, ↓tvv, ↓gtn c_need1, ↓bnd (c_wordsOf hT.2.1 hk0)]
  have hM : fX6_words (some (aM c)) (iv k) (zS c td lw rw bf kp st ln rd rl rn ms sc mc fa pm xl pc rt ra ch ow (va_up ou 0 (mWds td nL k).toInt64) B) = some (mWds td nL k, (zS c td lw rw bf kp st ln rd rl rn ms sc mc fa (va_up pm 0 (iv 0)) xl pc rt ra ch ow (va_up ou 0 (mWds td nL k).toInt64) B)) := by
    unfold fX6_words fX6_words_j19
    simp (disch := first | assumption | omega | (simp (disch := omega) only [okx_iv', nx_iv, iv_add, L0, L1, L2, L3, L7, L8, L14, L21, L28, L35, L55, L56, *]; try omega)) only [↓pm_0, ↓bvm, ↓gvm, L0, L1, iv_add, no_def, nx_iv, okx_iv', iv_le, iv_lt, iv_eq, iv_no, no_iv, Nat.not_lt_zero, Nat.le_refl, vu_same, vu_ne, vu_up, ↓reduceIte, Nat.reduceEqDiff, Nat.reduceLeDiff, Nat.reduceLT, Nat.one_ne_zero, Nat.zero_ne_one, if_true, if_false, in_eq, has_eq, vow_eq, ↓bnd (s_isN1 hT.1 hk0), Nat.zero_add, ↓gbn (s_bad0L (vu_same _ _ _)), ↓gbn (s_bad0 (vu_same _ _ _)), ↓bnd (s_wordsOf hT.1 hk0)]
  exact qI_ok (w_ok zis0 hC) zis3 hM (by simp (disch := omega) only [vu_same, vu_ne]) (vu_same _ _ _) (inv_q I (by first | rfl | simp (disch := omega) only [vu_ne]) (fun k hk => by first | rfl | simp (disch := omega) only [vu_ne]) (by first | rfl | simp (disch := omega) only [vu_ne]) (fun k hk => by first | rfl | simp (disch := omega) only [vu_ne]) (by first | exact ⟨hN.2.2.2.2.2.2.1, hN.2.2.2.2.2.2.2⟩ | (simp (disch := omega) only [vu_same, vu_ne, hN.2.2.2.2.2.2.1, hN.2.2.2.2.2.2.2, and_self])) (fun k hk => by first | rfl | simp (disch := omega) only [vu_ne]) (fun x hx => by first | rfl | simp (disch := omega) only [vu_ne]) (by first | exact Or.inl rfl | exact Or.inr ⟨_, rfl⟩))
theorem Q_takes (I : invA c td lw rw bf kp st ln rd rl rn ms sc mc fa pm xl pc rt ra ch ow ou B nS nN nL sgA ntA lkA F tp wk im lm n) (hn : n < 64) (p q : Int32) : qI c n (fX0_takes (some (aV c)) p q (some (aOu c)) (zS c td lw rw bf kp st ln rd rl rn ms sc mc fa pm xl pc rt ra ch ow ou B)) (fun S => fX6_takes (some (aM c)) p q S) := by
  have hN := I.2.2.1
  have hT := I.1
  have hC0 := I.2.2.2.1
  have hR := hC0.1
  have hB := I.2.2.2.2.2.2.2.2
  have hS := hT.2.1.1
  have hNn := hT.2.1.2.1
  have hLn := hT.2.1.2.2.1
  have hf : 1000 < gFU := by unfold gFU; omega
  obtain ⟨kl, hl1, hl2⟩ := I.2.1.1
  have hl3 := I.2.1.2
  rcases rngS p nN with ⟨k, hk0, rfl⟩ | e0
  rotate_left
  · have hC : fX1_takes (some (aV c)) p q (zS c td lw rw bf kp st ln rd rl rn ms sc mc fa pm xl pc rt ra ch ow ou B) = some (.inr (32, B.2.1), (zS c td lw rw bf kp st ln rd rl rn ms sc (va_up mc 1 (va_up (mc 1) 0 (mc 1 0 + iv 1))) fa pm xl pc rt ra ch ow ou (bX 32 B))) := by
      unfold fX1_takes
      simp (disch := first | assumption | omega | (simp (disch := omega) only [okx_iv', nx_iv, iv_add, L0, L1, L2, L3, L7, L8, L14, L21, L28, L35, L55, L56, *]; try omega)) only [↓gv_5, ↓bvv, ↓gvv, ↓tvv, ↓bvc, ↓gvc, L0, iv_add, no_def, nx_iv, okx_iv', iv_le, iv_lt, iv_eq, iv_no, no_iv, Nat.not_lt_zero, Nat.le_refl, vu_same, vu_ne, vu_up, ↓reduceIte, Nat.reduceEqDiff, Nat.reduceLeDiff, Nat.reduceLT, Nat.one_ne_zero, Nat.zero_ne_one, if_true, if_false, ↓gtx (c_nnt0 hT.2.1 hB.1 (hB.rm hn (by decide) (by decide)) e0), or_true, ↓tvv, ↓gtn c_need1, ↓gtx (c_need0 hB.1 (hB.rm hn (by decide) (by decide)))]
    have hM : fX6_takes (some (aM c)) p q (zS c td lw rw bf kp st ln rd rl rn ms sc (va_up mc 1 (va_up (mc 1) 0 (mc 1 0 + iv 1))) fa pm xl pc rt ra ch ow ou (bX 32 B)) = some (iv 0, (zS c td lw rw bf kp st ln rd rl rn (va_up ms 1 (va_up (ms 1) 0 (ms 1 0 + iv 1))) sc (va_up mc 1 (va_up (mc 1) 0 (mc 1 0 + iv 1))) fa (va_up pm 0 (iv 1)) xl pc rt ra ch ow ou (bX 32 B))) := by
      unfold fX6_takes fX6_takes_j22 fX6_takes_j27
      simp (disch := first | assumption | omega | (simp (disch := omega) only [okx_iv', nx_iv, iv_add, L0, L1, L2, L3, L7, L8, L14, L21, L28, L35, L55, L56, *]; try omega)) only [↓pm_0, ↓bvm, ↓gvm, ↓gm_29, ↓ld_aRow, L0, L1, iv_add, no_def, nx_iv, okx_iv', iv_le, iv_lt, iv_eq, iv_no, no_iv, Nat.not_lt_zero, Nat.le_refl, vu_same, vu_ne, vu_up, ↓reduceIte, Nat.reduceEqDiff, Nat.reduceLeDiff, Nat.reduceLT, Nat.one_ne_zero, Nat.zero_ne_one, if_true, if_false, in_eq, has_eq, vow_eq, ↓bnd (s_isN0 hT.1 e0), ↓gbn (s_bad0L (vu_same _ _ _)), ↓gbn (s_bad0 (vu_same _ _ _)), ↓gbn (s_bad01L (vu_same _ _ _)), ↓gbn (s_bad1 (k := 1) (r := 0) (vu_same _ _ _) (by decide) (by decide))]
    exact qI_no (k := 1) (by decide) ((w_no zis0 hC).trans rfl) zis3 hM (vu_same _ _ _) (bad01 I)
  rcases rngS q nS with ⟨s, hk1, rfl⟩ | e1
  rotate_left
  · have hC : fX1_takes (some (aV c)) (iv k) q (zS c td lw rw bf kp st ln rd rl rn ms sc mc fa pm xl pc rt ra ch ow ou B) = some (.inr (32, B.2.1), (zS c td lw rw bf kp st ln rd rl rn ms sc (va_up mc 1 (va_up (mc 1) 0 (mc 1 0 + iv 1))) fa pm xl pc rt ra ch ow ou (bX 32 B))) := by
      unfold fX1_takes
      simp (disch := first | assumption | omega | (simp (disch := omega) only [okx_iv', nx_iv, iv_add, L0, L1, L2, L3, L7, L8, L14, L21, L28, L35, L55, L56, *]; try omega)) only [↓gv_5, ↓bvv, ↓gvv, ↓tvv, ↓bvc, ↓gvc, L0, iv_add, no_def, nx_iv, okx_iv', iv_le, iv_lt, iv_eq, iv_no, no_iv, Nat.not_lt_zero, Nat.le_refl, vu_same, vu_ne, vu_up, ↓reduceIte, Nat.reduceEqDiff, Nat.reduceLeDiff, Nat.reduceLT, Nat.one_ne_zero, Nat.zero_ne_one, if_true, if_false, ↓gtn (c_nnt1 hT.2.1 hk0), ↓gtx (c_nsg0 hT.2.1 hB.1 (hB.rm hn (by decide) (by decide)) e1), or_true, ↓tvv, ↓gtn c_need1, ↓gtx (c_need0 hB.1 (hB.rm hn (by decide) (by decide)))]
    have hM : fX6_takes (some (aM c)) (iv k) q (zS c td lw rw bf kp st ln rd rl rn ms sc (va_up mc 1 (va_up (mc 1) 0 (mc 1 0 + iv 1))) fa pm xl pc rt ra ch ow ou (bX 32 B)) = some (iv 0, (zS c td lw rw bf kp st ln rd rl rn (va_up ms 1 (va_up (ms 1) 0 (ms 1 0 + iv 1))) sc (va_up mc 1 (va_up (mc 1) 0 (mc 1 0 + iv 1))) fa (va_up pm 0 (iv 1)) xl pc rt ra ch ow ou (bX 32 B))) := by
      unfold fX6_takes fX6_takes_j22 fX6_takes_j27
      simp (disch := first | assumption | omega | (simp (disch := omega) only [okx_iv', nx_iv, iv_add, L0, L1, L2, L3, L7, L8, L14, L21, L28, L35, L55, L56, *]; try omega)) only [↓pm_0, ↓bvm, ↓gvm, ↓gm_29, ↓ld_aRow, L0, L1, iv_add, no_def, nx_iv, okx_iv', iv_le, iv_lt, iv_eq, iv_no, no_iv, Nat.not_lt_zero, Nat.le_refl, vu_same, vu_ne, vu_up, ↓reduceIte, Nat.reduceEqDiff, Nat.reduceLeDiff, Nat.reduceLT, Nat.one_ne_zero, Nat.zero_ne_one, if_true, if_false, in_eq, has_eq, vow_eq, ↓bnd (s_isN1 hT.1 hk0), ↓bnd (s_isS0 hT.1 e1), ↓gbn (s_bad0L (vu_same _ _ _)), ↓gbn (s_bad0 (vu_same _ _ _)), ↓gbn (s_bad01L (vu_same _ _ _)), ↓gbn (s_bad1 (k := 1) (r := 0) (vu_same _ _ _) (by decide) (by decide))]
    exact qI_no (k := 1) (by decide) ((w_no zis0 hC).trans rfl) zis3 hM (vu_same _ _ _) (bad01 I)
  obtain ⟨fa1, h1⟩ := c_takes (x := 12) (c := c) (td := td) (lw := lw) (rw := rw) (bf := bf) (kp := kp) (st := st) (ln := ln) (rd := rd) (rl := rl) (rn := rn) (ms := ms) (sc := sc) (mc := mc) (fa := fa) (pm := pm) (xl := xl) (pc := pc) (rt := rt) (ra := ra) (ch := ch) (ow := ow) (ou := ou) (B := B) hT.2.1 hl3 isC12 hR hk0 hk1
  obtain ⟨sc1, h2⟩ := s_breathOf (c := c) (td := td) (lw := lw) (rw := rw) (bf := bf) (kp := kp) (st := st) (ln := ln) (rd := rd) (rl := rl) (rn := rn) (ms := ms) (sc := sc) (mc := mc) (fa := fa1) (pm := va_up pm 0 (iv 0)) (xl := xl) (pc := pc) (rt := rt) (ra := ra) (ch := ch) (ow := ow) (ou := va_up ou 0 (mTk td F (rw 0) k s).toInt64) (B := B) hl1 ((vu_ne (by decide)).trans hl2) hT.1 (b := 0) (by decide) hk0 hk1
  have hC : fX1_takes (some (aV c)) (iv k) (iv s) (zS c td lw rw bf kp st ln rd rl rn ms sc mc fa pm xl pc rt ra ch ow ou B) = some (.inl (mTk td F (rw 0) k s), (zS c td lw rw bf kp st ln rd rl rn ms sc mc (fa1) pm xl pc rt ra ch ow ou B)) := by
    unfold fX1_takes
    simp (disch := first | assumption | omega | (simp (disch := omega) only [okx_iv', nx_iv, iv_add, L0, L1, L2, L3, L7, L8, L14, L21, L28, L35, L55, L56, *]; try omega)) only [↓gv_5, ↓bvv, ↓gvv, ↓tvv, ↓bvc, ↓gvc, L0, iv_add, no_def, nx_iv, okx_iv', iv_le, iv_lt, iv_eq, iv_no, no_iv, Nat.not_lt_zero, Nat.le_refl, vu_same, vu_ne, vu_up, ↓reduceIte, Nat.reduceEqDiff, Nat.reduceLeDiff, Nat.reduceLT, Nat.one_ne_zero, Nat.zero_ne_one, if_true, if_false, ↓gtn (c_nnt1 hT.2.1 hk0), ↓gtn (c_nsg1 hT.2.1 hk1), Nat.zero_add, ↓tvv, ↓gtn c_need1, ↓gvc isC12, ↓gbn h1]
  have hM : fX6_takes (some (aM c)) (iv k) (iv s) (zS c td lw rw bf kp st ln rd rl rn ms sc mc (fa1) pm xl pc rt ra ch ow (va_up ou 0 (mTk td F (rw 0) k s).toInt64) B) = some (mTk td F (rw 0) k s, (zS c td lw rw bf kp st ln rd rl rn ms (sc1) mc (fa1) (va_up pm 0 (iv 0)) xl pc rt ra ch ow (va_up ou 0 (mTk td F (rw 0) k s).toInt64) B)) := by
    unfold fX6_takes fX6_takes_j22 fX6_takes_j27
    simp (disch := first | assumption | omega | (simp (disch := omega) only [okx_iv', nx_iv, iv_add, L0, L1, L2, L3, L7, L8, L14, L21, L28, L35, L55, L56, *]; try omega)) only [↓pm_0, ↓bvm, ↓gvm, ↓gm_29, ↓ld_aRow, L0, L1, iv_add, no_def, nx_iv, okx_iv', iv_le, iv_lt, iv_eq, iv_no, no_iv, Nat.not_lt_zero, Nat.le_refl, vu_same, vu_ne, vu_up, ↓reduceIte, Nat.reduceEqDiff, Nat.reduceLeDiff, Nat.reduceLT, Nat.one_ne_zero, Nat.zero_ne_one, if_true, if_false, in_eq, has_eq, vow_eq, ↓bnd (s_isN1 hT.1 hk0), ↓bnd (s_isS1 hT.1 hk1), Nat.zero_add, ↓gbn (s_bad0L (vu_same _ _ _)), ↓gbn (s_bad0 (vu_same _ _ _)), ↓gbn h2]
  exact qI_ok (w_ok zis0 hC) zis3 hM (by simp (disch := omega) only [vu_same, vu_ne]) (vu_same _ _ _) (inv_q I (by first | rfl | simp (disch := omega) only [vu_ne]) (fun k hk => by first | rfl | simp (disch := omega) only [vu_ne]) (by first | rfl | simp (disch := omega) only [vu_ne]) (fun k hk => by first | rfl | simp (disch := omega) only [vu_ne]) (by first | exact ⟨hN.2.2.2.2.2.2.1, hN.2.2.2.2.2.2.2⟩ | (simp (disch := omega) only [vu_same, vu_ne, hN.2.2.2.2.2.2.1, hN.2.2.2.2.2.2.2, and_self])) (fun k hk => by first | rfl | simp (disch := omega) only [vu_ne]) (fun x hx => by first | rfl | simp (disch := omega) only [vu_ne]) (by first | exact Or.inl rfl | exact Or.inr ⟨_, rfl⟩))
end s33
