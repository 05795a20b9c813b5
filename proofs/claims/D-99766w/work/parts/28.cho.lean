set_option maxRecDepth 100000
/-- a choir's cells hold what the row holds -/
def CR (nS nN : Nat) (b : (Nat → Nat → Int32) × (Nat → Int32)) (ρ : Nat → Int32) : Prop := (∀ s, s < nS → b.1 0 s = ρ s ∧ b.1 1 s = ρ (14 + s) ∧ b.1 2 s = ρ (28 + s) ∧ b.1 3 s = ρ (21 + s)) ∧ (∀ n, n < nN → b.1 4 n = ρ (35 + n)) ∧ (∀ s, s < nS → fX1_has (b.2 5) (iv s) = ρ (7 + s)) ∧ b.2 6 = ρ 55 ∧ b.2 7 = ρ 56
def CF (b b' : (Nat → Nat → Int32) × (Nat → Int32)) : Prop := ∀ k, k ≠ 6 → k ≠ 7 → b'.2 k = b.2 k
theorem CF.rfl' (b : (Nat → Nat → Int32) × (Nat → Int32)) : CF b b := fun _ _ _ => rfl
theorem CF.trans {a b d : (Nat → Nat → Int32) × (Nat → Int32)} (h : CF a b) (g : CF b d) : CF a d := fun k h1 h2 => (g k h1 h2).trans (h k h1 h2)
section s28
variable {c : Nat} {td : Nat → Nat → Int32} {lw : Nat → Nat → Int32} {rw : Nat → Nat → Int32} {bf : Nat → Nat → Int32} {kp : Nat → Nat → Int32} {st : Nat → Nat → Int32} {ln : Nat → Nat → Int32} {rd : Nat → Nat → Int32} {rl : Nat → Nat → Int32} {rn : Nat → Nat → Int32} {ms : Nat → Nat → Int32} {sc : Nat → Nat → Int32} {mc : Nat → Nat → Int32} {fa : Nat → Int32} {pm : Nat → Int32} {xl : Nat → Int64} {pc : Nat → Int32} {rt : Nat → Option Nat} {ra : Nat → Nat → Option Nat} {ch : Nat → (Nat → Nat → Int32) × (Nat → Int32)} {ow : Nat → Option (Nat × Nat)} {ou : Nat → Int64} {B : gS}
variable {tq : Nat → Nat → Int32} {F : (Nat → Int32) → Int32} {nS nN nL x : Nat} {sgA ntA lkA : Nat → Nat} {ρ : Nat → Int32}
theorem c_takes (h : tO (zV c ow B) rt tq nS nN nL sgA ntA lkA) (hl : lwO (zV c ow B) rt F) (hx : isC ow x) (hr : CR nS nN (ch x) ρ) {n s : Nat} (hn : n < nN) (hs : s < nS) : ∃ fa', fX5_takes (some (aCh c x)) (iv n) (iv s) (zS c td lw rw bf kp st ln rd rl rn ms sc mc fa pm xl pc rt ra ch ow ou B) = some (mTk tq F ρ n s, (zS c td lw rw bf kp st ln rd rl rn ms sc mc (fa') pm xl pc rt ra ch ow ou B)) := by
  have h1 := h.1
  have h2 := h.2.1
  obtain ⟨fa', h3⟩ := c_takesBy (c := c) (td := td) (lw := lw) (rw := rw) (bf := bf) (kp := kp) (st := st) (ln := ln) (rd := rd) (rl := rl) (rn := rn) (ms := ms) (sc := sc) (mc := mc) (fa := fa) (pm := pm) (xl := xl) (pc := pc) (rt := rt) (ra := ra) (ch := ch) (ow := ow) (ou := ou) (B := B) hl (tq (8 + n) 1) (tq (1 + s) 1) (ρ s) (ρ (14 + s)) (iv n) (ρ (35 + n)) (ρ 56) (iv s)
  refine ⟨fa', ?_⟩
  unfold fX5_takes
  simp (disch := first | assumption | omega | (simp (disch := omega) only [okx_iv', nx_iv, iv_add, L0, L1, L2, L3, L7, L8, L14, L21, L28, L35, L55, L56, *]; try omega)) only [↓gh_11, ↓gh_0, ↓gh_1, ↓gh_4, ↓gh_7, ↓bvv, ↓gvv, ↓tvv, ↓ld_aCA0, ↓ld_aCA1, ↓ld_aCA4, L0, ↓b_noteOf h, ↓b_singerOf h, ↓b_nt1 h, ↓b_sg1 h, iv_add, no_def, nx_iv, okx_iv', iv_le, iv_lt, iv_eq, iv_no, no_iv, Nat.not_lt_zero, vu_same, vu_ne, vu_up, ↓reduceIte, (hr.1 s hs).1, (hr.1 s hs).2.1, hr.2.1 n hn, hr.2.2.2.2, ↓gbn h3]
  rfl
theorem c_canSing (h : tO (zV c ow B) rt tq nS nN nL sgA ntA lkA) (hl : lwO (zV c ow B) rt F) (hx : isC ow x) (hr : CR nS nN (ch x) ρ) {n s : Nat} (hn : n < nN) (hs : s < nS) : ∃ fa', (mCan tq F ρ n s → fX5_canSing (some (aCh c x)) (iv n) (iv s) (zS c td lw rw bf kp st ln rd rl rn ms sc mc fa pm xl pc rt ra ch ow ou B) = some (iv 1, (zS c td lw rw bf kp st ln rd rl rn ms sc mc (fa') pm xl pc rt ra ch ow ou B))) ∧ (¬ mCan tq F ρ n s → fX5_canSing (some (aCh c x)) (iv n) (iv s) (zS c td lw rw bf kp st ln rd rl rn ms sc mc fa pm xl pc rt ra ch ow ou B) = some (iv 0, (zS c td lw rw bf kp st ln rd rl rn ms sc mc (fa') pm xl pc rt ra ch ow ou B))) := by
  have h1 := h.1
  have h2 := h.2.1
  unfold fX5_canSing
  by_cases c1 : tq (1 + s) 0 = ρ (35 + n)
  · by_cases c2 : ρ (7 + s) = iv 0
    · obtain ⟨fa', h3⟩ := c_takes (c := c) (td := td) (lw := lw) (rw := rw) (bf := bf) (kp := kp) (st := st) (ln := ln) (rd := rd) (rl := rl) (rn := rn) (ms := ms) (sc := sc) (mc := mc) (fa := fa) (pm := pm) (xl := xl) (pc := pc) (rt := rt) (ra := ra) (ch := ch) (ow := ow) (ou := ou) (B := B) h hl hx hr hn hs
      refine ⟨fa', ?_⟩
      simp (disch := first | assumption | omega | (simp (disch := omega) only [okx_iv', nx_iv, iv_add, L0, L1, L2, L3, L7, L8, L14, L21, L28, L35, L55, L56, *]; try omega)) only [↓gh_11, ↓gh_4, ↓gh_5, ↓gh_0, ↓bvv, ↓gvv, ↓tvv, ↓bvc, ↓gvc, ↓ld_aCA4, ↓ld_aCA0, L0, L1, ↓b_singerOf h, ↓b_sg0 h, iv_add, no_def, nx_iv, okx_iv', iv_le, iv_lt, iv_eq, iv_no, no_iv, Nat.not_lt_zero, vu_same, vu_ne, vu_up, ↓reduceIte, (hr.1 s hs).1, hr.2.1 n hn, hr.2.2.1 s hs, c1, c2, ↓gbn h3]
      by_cases c3 : ρ s < mTk tq F ρ n s
      · exact ⟨fun hc => absurd c3 hc.2.2, fun _ => if_pos c3⟩
      · exact ⟨fun _ => if_neg c3, fun hc => absurd ⟨c1, c2, c3⟩ hc⟩
    · refine ⟨fa, fun hc => absurd hc.2.1 c2, fun _ => ?_⟩
      simp (disch := first | assumption | omega | (simp (disch := omega) only [okx_iv', nx_iv, iv_add, L0, L1, L2, L3, L7, L8, L14, L21, L28, L35, L55, L56, *]; try omega)) only [↓gh_11, ↓gh_4, ↓gh_5, ↓gh_0, ↓bvv, ↓gvv, ↓tvv, ↓bvc, ↓gvc, ↓ld_aCA4, ↓ld_aCA0, L0, L1, ↓b_singerOf h, ↓b_sg0 h, iv_add, no_def, nx_iv, okx_iv', iv_le, iv_lt, iv_eq, iv_no, no_iv, Nat.not_lt_zero, vu_same, vu_ne, vu_up, ↓reduceIte, hr.2.1 n hn, hr.2.2.1 s hs, c1, c2]
  · refine ⟨fa, fun hc => absurd hc.1 c1, fun _ => ?_⟩
    simp (disch := first | assumption | omega | (simp (disch := omega) only [okx_iv', nx_iv, iv_add, L0, L1, L2, L3, L7, L8, L14, L21, L28, L35, L55, L56, *]; try omega)) only [↓gh_11, ↓gh_4, ↓gh_5, ↓gh_0, ↓bvv, ↓gvv, ↓tvv, ↓bvc, ↓gvc, ↓ld_aCA4, ↓ld_aCA0, L0, L1, ↓b_singerOf h, ↓b_sg0 h, iv_add, no_def, nx_iv, okx_iv', iv_le, iv_lt, iv_eq, iv_no, no_iv, Nat.not_lt_zero, vu_same, vu_ne, vu_up, ↓reduceIte, hr.2.1 n hn, c1]
theorem c_sungBy_l (h : tO (zV c ow B) rt tq nS nN nL sgA ntA lkA) (hl : lwO (zV c ow B) rt F) (hx : isC ow x) (hr : CR nS nN (ch x) ρ) {n : Nat} (hn : n < nN) : ∀ (j s fuel : Nat) (fa : Nat → Int32), s + j = nS → j < fuel → ∃ fa', fX5_sungBy_l2 fuel (some (aCh c x)) (iv n) (iv s) (zS c td lw rw bf kp st ln rd rl rn ms sc mc fa pm xl pc rt ra ch ow ou B) = some (mOpt (mSb tq F ρ n j s), (zS c td lw rw bf kp st ln rd rl rn ms sc mc (fa') pm xl pc rt ra ch ow ou B)) := by
  intro j
  have h1 := h.1
  induction j with
  | zero =>
    intro s fuel fa hs hf
    obtain ⟨f, rfl⟩ : ∃ f, fuel = f + 1 := ⟨fuel - 1, by omega⟩
    have hc : nS ≤ s := by omega
    refine ⟨fa, ?_⟩
    simp (disch := first | assumption | omega | (simp (disch := omega) only [okx_iv', nx_iv, iv_add, L0, L1, L2, L3, L7, L8, L14, L21, L28, L35, L55, L56, *]; try omega)) only [fX5_sungBy_l2, fX5_sungBy_i2, ↓gh_11, ↓bvv, ↓gvv, ↓tvv, ↓bvc, ↓gvc, L0, L1, ↓b_singers h, iv_add, no_def, nx_iv, okx_iv', iv_le, iv_lt, iv_eq, iv_no, no_iv, Nat.not_lt_zero, vu_same, vu_ne, vu_up, ↓reduceIte, hc, mSb, mOpt]
  | succ j ih =>
    intro s fuel fa hs hf
    obtain ⟨f, rfl⟩ : ∃ f, fuel = f + 1 := ⟨fuel - 1, by omega⟩
    have hc : ¬ nS ≤ s := by omega
    obtain ⟨fa1, h2, h3⟩ := c_canSing (c := c) (td := td) (lw := lw) (rw := rw) (bf := bf) (kp := kp) (st := st) (ln := ln) (rd := rd) (rl := rl) (rn := rn) (ms := ms) (sc := sc) (mc := mc) (fa := fa) (pm := pm) (xl := xl) (pc := pc) (rt := rt) (ra := ra) (ch := ch) (ow := ow) (ou := ou) (B := B) h hl hx hr hn (s := s) (by omega)
    unfold mSb
    by_cases c1 : mCan tq F ρ n s
    · refine ⟨fa1, ?_⟩
      rw [if_pos c1]
      simp (disch := first | assumption | omega | (simp (disch := omega) only [okx_iv', nx_iv, iv_add, L0, L1, L2, L3, L7, L8, L14, L21, L28, L35, L55, L56, *]; try omega)) only [fX5_sungBy_l2, fX5_sungBy_i2, ↓gh_11, ↓bvv, ↓gvv, ↓tvv, ↓bvc, ↓gvc, L0, L1, ↓b_singers h, iv_add, no_def, nx_iv, okx_iv', iv_le, iv_lt, iv_eq, iv_no, no_iv, Nat.not_lt_zero, vu_same, vu_ne, vu_up, ↓reduceIte, hc, ↓gbn (h2 c1), mOpt, iv_eq]
      simp only [Nat.one_ne_zero, if_false]
    · obtain ⟨fa2, h4⟩ := ih (s + 1) f fa1 (by omega) (by omega)
      refine ⟨fa2, ?_⟩
      rw [if_neg c1, ← h4]
      simp (disch := first | assumption | omega | (simp (disch := omega) only [okx_iv', nx_iv, iv_add, L0, L1, L2, L3, L7, L8, L14, L21, L28, L35, L55, L56, *]; try omega)) only [fX5_sungBy_l2, fX5_sungBy_i2, ↓gh_11, ↓bvv, ↓gvv, ↓tvv, ↓bvc, ↓gvc, L0, L1, ↓b_singers h, iv_add, no_def, nx_iv, okx_iv', iv_le, iv_lt, iv_eq, iv_no, no_iv, Nat.not_lt_zero, vu_same, vu_ne, vu_up, ↓reduceIte, hc, ↓gbn (h3 c1)]
theorem c_sungBy (h : tO (zV c ow B) rt tq nS nN nL sgA ntA lkA) (hl : lwO (zV c ow B) rt F) (hx : isC ow x) (hr : CR nS nN (ch x) ρ) {n : Nat} (hn : n < nN) : ∃ fa', fX5_sungBy (some (aCh c x)) (iv n) (zS c td lw rw bf kp st ln rd rl rn ms sc mc fa pm xl pc rt ra ch ow ou B) = some (mOpt (mSb tq F ρ n nS 0), (zS c td lw rw bf kp st ln rd rl rn ms sc mc (fa') pm xl pc rt ra ch ow ou B)) := c_sungBy_l h hl hx hr hn nS 0 gFU fa (by omega) (by have := h.1; unfold gFU; omega)
theorem c_sings (h : tO (zV c ow B) rt tq nS nN nL sgA ntA lkA) (hl : lwO (zV c ow B) rt F) (hx : isC ow x) (hr : CR nS nN (ch x) ρ) {n : Nat} (hn : n < nN) : ∃ fa' b', CR nS nN b' (mSings tq F nS ρ n) ∧ CF (ch x) b' ∧ fX5_sings (some (aCh c x)) (iv n) (zS c td lw rw bf kp st ln rd rl rn ms sc mc fa pm xl pc rt ra ch ow ou B) = some ((if (mSb tq F ρ n nS 0).isSome then iv 1 else iv 0), (zS c td lw rw bf kp st ln rd rl rn ms sc mc (fa') pm xl pc rt ra (va_up ch x b') ow ou B)) := by
  obtain ⟨fa1, h1⟩ := c_sungBy (c := c) (td := td) (lw := lw) (rw := rw) (bf := bf) (kp := kp) (st := st) (ln := ln) (rd := rd) (rl := rl) (rn := rn) (ms := ms) (sc := sc) (mc := mc) (fa := fa) (pm := pm) (xl := xl) (pc := pc) (rt := rt) (ra := ra) (ch := ch) (ow := ow) (ou := ou) (B := B) h hl hx hr hn
  have h2 := h.1
  have h2' := h.2.1
  unfold fX5_sings
  cases hq : mSb tq F ρ n nS 0 with
  | none =>
    rw [hq] at h1
    rw [show mSings tq F nS ρ n = ρ by unfold mSings; rw [hq]]
    refine ⟨fa1, ch x, hr, CF.rfl' _, ?_⟩
    simp (disch := first | assumption | omega | (simp (disch := omega) only [okx_iv', nx_iv, iv_add, L0, L1, L2, L3, L7, L8, L14, L21, L28, L35, L55, L56, *]; try omega)) only [↓gvc, ↓gbn h1, L0, L1, iv_add, no_def, nx_iv, okx_iv', iv_le, iv_lt, iv_eq, iv_no, no_iv, Nat.not_lt_zero, vu_same, vu_ne, vu_up, ↓reduceIte, mOpt, vu_id]
    rfl
  | some s =>
    rw [hq] at h1
    have hs : s < nS := by have := (mSb_lt hq).1; omega
    rw [show mSings tq F nS ρ n = va_up (va_up (va_up ρ s (ρ s - mTk tq F ρ n s)) (14 + s) (ρ (14 + s) + iv 1)) (28 + s) (ρ (28 + s) + iv 1) by unfold mSings; rw [hq]]
    obtain ⟨fa2, h3⟩ := c_takes (c := c) (td := td) (lw := lw) (rw := rw) (bf := bf) (kp := kp) (st := st) (ln := ln) (rd := rd) (rl := rl) (rn := rn) (ms := ms) (sc := sc) (mc := mc) (fa := fa1) (pm := pm) (xl := xl) (pc := pc) (rt := rt) (ra := ra) (ch := ch) (ow := ow) (ou := ou) (B := B) h hl hx hr hn hs
    obtain ⟨r1, r2, r3, r4⟩ := hr
    refine ⟨fa2, (va_up (va_up (va_up (ch x).1 0 (va_up ((ch x).1 0) s (ρ s - mTk tq F ρ n s))) 1 (va_up ((ch x).1 1) s (ρ (14 + s) + iv 1))) 2 (va_up ((ch x).1 2) s (ρ (28 + s) + iv 1)), (ch x).2), ⟨fun s' hs' => ?_, fun n' hn' => ?_, fun s' hs' => ?_, ?_, ?_⟩, CF.rfl' _, ?_⟩
    · obtain ⟨q1, q2, q3, q4⟩ := r1 s' hs'
      by_cases e : s' = s
      · subst e
        simp (disch := omega) only [vu_same, vu_ne, q4, and_self]
      · simp (disch := omega) only [vu_same, vu_ne, q1, q2, q3, q4, and_self]
    · simp (disch := omega) only [vu_same, vu_ne, r2 n' hn']
    · simp (disch := omega) only [vu_same, vu_ne, r3 s' hs']
    · simp (disch := omega) only [vu_same, vu_ne, r4.1]
    · simp (disch := omega) only [vu_same, vu_ne, r4.2]
    · simp (disch := first | assumption | omega | (simp (disch := omega) only [okx_iv', nx_iv, iv_add, L0, L1, L2, L3, L7, L8, L14, L21, L28, L35, L55, L56, *]; try omega)) only [↓gh_0, ↓gh_1, ↓gh_2, ↓bvc, ↓gvc, ↓ld_aCA0, ↓st_aCA0, ↓ld_aCA1, ↓st_aCA1, ↓ld_aCA2, ↓st_aCA2, L0, L1, ↓gbn h1, iv_add, no_def, nx_iv, okx_iv', iv_le, iv_lt, iv_eq, iv_no, no_iv, Nat.not_lt_zero, vu_same, vu_ne, vu_up, ↓reduceIte, mOpt, (r1 s hs).1, (r1 s hs).2.1, (r1 s hs).2.2.1, ↓gbn h3]
      rfl
theorem c_hymn_l (h : tO (zV c ow B) rt tq nS nN nL sgA ntA lkA) (hl : lwO (zV c ow B) rt F) (hx : isC ow x) : ∀ (j n fuel : Nat) (fa : Nat → Int32) (ch : Nat → (Nat → Nat → Int32) × (Nat → Int32)) (ρ : Nat → Int32) (hd : Int32), CR nS nN (ch x) ρ → n + j = nN → j < fuel → ∃ fa' b', CR nS nN b' (foldN (mHstep tq F nS) j n (ρ, hd)).1 ∧ CF (ch x) b' ∧ fX5_hymn_l4 fuel (some (aCh c x)) hd (iv n) (zS c td lw rw bf kp st ln rd rl rn ms sc mc fa pm xl pc rt ra ch ow ou B) = some ((foldN (mHstep tq F nS) j n (ρ, hd)).2, (zS c td lw rw bf kp st ln rd rl rn ms sc mc (fa') pm xl pc rt ra (va_up ch x b') ow ou B)) := by
  intro j
  have h1 := h.1
  have h2 := h.2.1
  induction j with
  | zero =>
    intro n fuel fa ch ρ hd hr hs hf
    obtain ⟨f, rfl⟩ : ∃ f, fuel = f + 1 := ⟨fuel - 1, by omega⟩
    have hc : nN ≤ n := by omega
    refine ⟨fa, ch x, hr, CF.rfl' _, ?_⟩
    simp (disch := first | assumption | omega | (simp (disch := omega) only [okx_iv', nx_iv, iv_add, L0, L1, L2, L3, L7, L8, L14, L21, L28, L35, L55, L56, *]; try omega)) only [fX5_hymn_l4, fX5_hymn_i4, ↓gh_11, ↓gh_6, ↓ph_6, ↓bvv, ↓gvv, ↓tvv, ↓bvc, ↓gvc, L0, L1, L31, ↓b_notes h, iv_add, no_def, nx_iv, okx_iv', iv_le, iv_lt, iv_eq, iv_no, no_iv, Nat.not_lt_zero, vu_same, vu_ne, vu_up, ↓reduceIte, hc, foldN, vu_id]
  | succ j ih =>
    intro n fuel fa ch ρ hd hr hs hf
    obtain ⟨f, rfl⟩ : ∃ f, fuel = f + 1 := ⟨fuel - 1, by omega⟩
    have hc : ¬ nN ≤ n := by omega
    obtain ⟨fa1, b1, r1, f1, h7⟩ := c_sings (c := c) (td := td) (lw := lw) (rw := rw) (bf := bf) (kp := kp) (st := st) (ln := ln) (rd := rd) (rl := rl) (rn := rn) (ms := ms) (sc := sc) (mc := mc) (fa := fa) (pm := pm) (xl := xl) (pc := pc) (rt := rt) (ra := ra) (ch := ch) (ow := ow) (ou := ou) (B := B) h hl hx hr (n := n) (by omega)
    show ∃ fa' b', CR nS nN b' (foldN (mHstep tq F nS) j (n + 1) (mHstep tq F nS n (ρ, hd))).1 ∧ CF (ch x) b' ∧ _ = some ((foldN (mHstep tq F nS) j (n + 1) (mHstep tq F nS n (ρ, hd))).2, _)
    cases hz : mSb tq F ρ n nS 0 with
    | none =>
      have hq : mHstep tq F nS n (ρ, hd) = (va_up ρ 55 (ρ 55 + iv 1), hd) := by unfold mHstep; simp only [hz]
      rw [hz] at h7
      have e1 : mSings tq F nS ρ n = ρ := by unfold mSings; rw [hz]
      rw [e1] at r1
      rw [hq]
      obtain ⟨fa2, b2, r2, f2, h8⟩ := ih (n + 1) f fa1 (va_up ch x (b1.1, va_up b1.2 6 (ρ 55 + iv 1))) (va_up ρ 55 (ρ 55 + iv 1)) hd (by
        rw [vu_same]
        obtain ⟨q1, q2, q3, q4, q5⟩ := r1
        refine ⟨fun s' hs' => ?_, fun n' hn' => ?_, fun s' hs' => ?_, ?_, ?_⟩
        · simp (disch := omega) only [vu_ne]; exact q1 s' hs'
        · simp (disch := omega) only [vu_ne]; exact q2 n' hn'
        · simp (disch := omega) only [vu_ne]; exact q3 s' hs'
        · simp (disch := omega) only [vu_same]
        · simp (disch := omega) only [vu_ne]; exact q5) (by omega) (by omega)
      rw [vu_same] at f2
      rw [vu_up] at h8
      refine ⟨fa2, b2, r2, fun k k1 k2 => (f2 k k1 k2).trans ((vu_ne k1).trans (f1 k k1 k2)), ?_⟩
      rw [← h8]
      simp (disch := first | assumption | omega | (simp (disch := omega) only [okx_iv', nx_iv, iv_add, L0, L1, L2, L3, L7, L8, L14, L21, L28, L35, L55, L56, *]; try omega)) only [fX5_hymn_l4, fX5_hymn_i4, ↓gh_11, ↓gh_6, ↓ph_6, ↓bvv, ↓gvv, ↓tvv, ↓bvc, ↓gvc, L0, L1, L31, ↓b_notes h, iv_add, no_def, nx_iv, okx_iv', iv_le, iv_lt, iv_eq, iv_no, no_iv, Nat.not_lt_zero, vu_same, vu_ne, vu_up, ↓reduceIte, hc, ↓gbn h7, Option.isSome, r1.2.2.2.1]
      rfl
    | some s =>
      have hq : mHstep tq F nS n (ρ, hd) = (mSings tq F nS ρ n, hd ||| mBit n) := by unfold mHstep; simp only [hz]
      rw [hz] at h7
      rw [hq]
      obtain ⟨fa2, b2, r2, f2, h8⟩ := ih (n + 1) f fa1 (va_up ch x b1) (mSings tq F nS ρ n) (hd ||| mBit n) (by rw [vu_same]; exact r1) (by omega) (by omega)
      rw [vu_same] at f2
      rw [vu_up] at h8
      refine ⟨fa2, b2, r2, f1.trans f2, ?_⟩
      rw [← h8]
      simp (disch := first | assumption | omega | (simp (disch := omega) only [okx_iv', nx_iv, iv_add, L0, L1, L2, L3, L7, L8, L14, L21, L28, L35, L55, L56, *]; try omega)) only [fX5_hymn_l4, fX5_hymn_i4, ↓gh_11, ↓gh_6, ↓ph_6, ↓bvv, ↓gvv, ↓tvv, ↓bvc, ↓gvc, L0, L1, L31, ↓b_notes h, iv_add, no_def, nx_iv, okx_iv', iv_le, iv_lt, iv_eq, iv_no, no_iv, Nat.not_lt_zero, vu_same, vu_ne, vu_up, ↓reduceIte, hc, ↓gbn h7, Option.isSome, mBit]
      simp only [if_true, iv_eq, Nat.one_ne_zero, if_false]
theorem c_hymn (h : tO (zV c ow B) rt tq nS nN nL sgA ntA lkA) (hl : lwO (zV c ow B) rt F) (hx : isC ow x) (hr : CR nS nN (ch x) ρ) : ∃ fa' b', CR nS nN b' (mHymn tq F nS nN ρ).1 ∧ CF (ch x) b' ∧ fX5_hymn (some (aCh c x)) (zS c td lw rw bf kp st ln rd rl rn ms sc mc fa pm xl pc rt ra ch ow ou B) = some ((mHymn tq F nS nN ρ).2, (zS c td lw rw bf kp st ln rd rl rn ms sc mc (fa') pm xl pc rt ra (va_up ch x b') ow ou B)) := c_hymn_l h hl hx nN 0 gFU fa ch ρ (iv 0) hr (by omega) (by have := h.2.1; unfold gFU; omega)
end s28
