-- NAME 40.qf
set_option maxRecDepth 100000
section s40
variable {c : Nat} {td : Nat → Nat → Int32} {lw : Nat → Nat → Int32} {rw : Nat → Nat → Int32} {bf : Nat → Nat → Int32} {kp : Nat → Nat → Int32} {st : Nat → Nat → Int32} {ln : Nat → Nat → Int32} {rd : Nat → Nat → Int32} {rl : Nat → Nat → Int32} {rn : Nat → Nat → Int32} {ms : Nat → Nat → Int32} {sc : Nat → Nat → Int32} {mc : Nat → Nat → Int32} {fa : Nat → Int32} {pm : Nat → Int32} {xl : Nat → Int64} {pc : Nat → Int32} {rt : Nat → Option Nat} {ra : Nat → Nat → Option Nat} {ch : Nat → (Nat → Nat → Int32) × (Nat → Int32)} {ow : Nat → Option (Nat × Nat)} {ou : Nat → Int64} {B : gS}
variable {nS nN nL x k : Nat} {sgA ntA lkA : Nat → Nat} {F : (Nat → Int32) → Int32} {tp wk im lm n : Nat} {ρ : Nat → Int32}
/-! chorus -/
theorem rngC (p : Int32) (m : Nat) (hm : m ≤ 7) : (∃ k, k < 2 ^ m ∧ p = iv k) ∨ (p < iv 0 ∨ iv (2 ^ m) ≤ p) := rngS p (2 ^ m)
theorem rngC0 {p : Int32} {m : Nat} (hm : m ≤ 7) (h : p < iv 0 ∨ iv (2 ^ m) ≤ p) : fX1_isIn p (iv 0) (iv (2 ^ m - 1)) = iv 0 := by
  have h1 := pow7 hm
  have h2 := Nat.two_pow_pos m
  have h3 := rngS0 h (by omega)
  rw [iv_sub (by omega)] at h3
  exact h3
theorem rngC1 {k m : Nat} (hm : m ≤ 7) (h : k < 2 ^ m) : fX1_isIn (iv k) (iv 0) (iv (2 ^ m - 1)) = iv 1 := by
  have h1 := pow7 hm
  exact rng1 (by omega) (by omega)
theorem Q_chorus (I : invA c td lw rw bf kp st ln rd rl rn ms sc mc fa pm xl pc rt ra ch ow ou B nS nN nL sgA ntA lkA F tp wk im lm n) (hn : n < 64) (p : Int32) : qI c n (fX0_chorus (some (aV c)) p (some (aOu c)) (zS c td lw rw bf kp st ln rd rl rn ms sc mc fa pm xl pc rt ra ch ow ou B)) (fun S => fX6_chorus (some (aM c)) p S) := by
  have hN := I.2.2.1
  have hT := I.1
  have hR := I.2.2.2.1.1
  have hB := I.2.2.2.2.2.2.2.2
  have hS := hT.2.1.1
  have hNn := hT.2.1.2.1
  have hp7 := pow7 hS
  have hp0 := Nat.two_pow_pos nS
  have hpw := pw2 nS (by omega)
  obtain ⟨kl, hl1, hl2⟩ := I.2.1.1
  have hl3 := I.2.1.2
  have hx := @isC18 ow
  rcases rngC p nS hS with ⟨k, hk, rfl⟩ | e
  rotate_left
  · have hC : fX1_chorus (some (aV c)) p (zS c td lw rw bf kp st ln rd rl rn ms sc mc fa pm xl pc rt ra ch ow ou B) = some (.inr (31, B.2.1), (zS c td lw rw bf kp st ln rd rl rn ms sc (va_up mc 1 (va_up (mc 1) 1 (mc 1 1 + iv 1))) fa pm xl pc rt ra ch ow ou (bX 31 B))) := by
      unfold fX1_chorus fX1_chorus_j19 fX1_chorus_j20
      by_cases h0 : p < iv 0
      · simp (maxSteps := 3000000) (disch := first | assumption | omega | (simp (disch := omega) only [okx_iv', nx_iv, iv_add, L0, L1, L2, L3, L7, L8, L14, L21, L28, L35, L55, L56, *]; try omega)) only [↓bvv, ↓gvv, ↓tvv, ↓gv_6, ↓gv_5, ↓ph_5, ↓bvc, ↓gvc, L0, L1, L31, iv_add, no_def, nx_iv, okx_iv', iv_le, iv_lt, iv_eq, iv_no, no_iv, Nat.not_lt_zero, Nat.le_refl, vu_same, vu_ne, vu_up, ↓reduceIte, Nat.reduceEqDiff, Nat.reduceLeDiff, Nat.reduceLT, Nat.one_ne_zero, Nat.zero_ne_one, if_true, if_false, h0, ↓gtx (c_need0 hB.1 (hB.rm hn (by decide) (by decide)))]
      · have h1 := e.resolve_left h0
        simp (maxSteps := 3000000) (disch := first | assumption | omega | (simp (disch := omega) only [okx_iv', nx_iv, iv_add, L0, L1, L2, L3, L7, L8, L14, L21, L28, L35, L55, L56, *]; try omega)) only [↓bvv, ↓gvv, ↓tvv, ↓gv_6, ↓gv_5, ↓ph_5, ↓bvc, ↓gvc, L0, L1, L31, iv_add, no_def, nx_iv, okx_iv', iv_le, iv_lt, iv_eq, iv_no, no_iv, Nat.not_lt_zero, Nat.le_refl, vu_same, vu_ne, vu_up, ↓reduceIte, Nat.reduceEqDiff, Nat.reduceLeDiff, Nat.reduceLT, Nat.one_ne_zero, Nat.zero_ne_one, if_true, if_false, h0, h1, hpw, ↓b_singers hT.2.1, ↓gtx (c_need0 hB.1 (hB.rm hn (by decide) (by decide)))]
    have hM : fX6_chorus (some (aM c)) p (zS c td lw rw bf kp st ln rd rl rn ms sc (va_up mc 1 (va_up (mc 1) 1 (mc 1 1 + iv 1))) fa pm xl pc rt ra ch ow ou (bX 31 B)) = some (iv 0, (zS c td lw rw bf kp st ln rd rl rn (va_up ms 1 (va_up (ms 1) 1 (ms 1 1 + iv 1))) sc (va_up mc 1 (va_up (mc 1) 1 (mc 1 1 + iv 1))) fa (va_up pm 0 (iv 1)) xl pc rt ra ch ow ou (bX 31 B))) := by
      unfold fX6_chorus fX6_chorus_j23
      simp (maxSteps := 3000000) (disch := first | assumption | omega | (simp (disch := omega) only [okx_iv', nx_iv, iv_add, L0, L1, L2, L3, L7, L8, L14, L21, L28, L35, L55, L56, *]; try omega)) only [↓pm_0, ↓bvm, ↓gvm, ↓gm_29, ↓gm_30, ↓ld_aRow, L0, L1, L14, iv_add, no_def, nx_iv, okx_iv', iv_le, iv_lt, iv_eq, iv_no, no_iv, Nat.not_lt_zero, Nat.le_refl, vu_same, vu_ne, vu_up, ↓reduceIte, Nat.reduceEqDiff, Nat.reduceLeDiff, Nat.reduceLT, Nat.one_ne_zero, Nat.zero_ne_one, if_true, if_false, in_eq, ↓bnd (s_every hT.1), rngC0 hS e, ↓gbn (s_bad11L (vu_same _ _ _)), ↓gbn (s_bad1 (k := 1) (r := 1) (vu_same _ _ _) (by decide) (by decide))]
    exact qI_no (k := 1) (by decide) ((w_no zis0 hC).trans rfl) zis3 hM (vu_same _ _ _) (bad11 I)
  · have hk0 : ¬ 2 ^ nS ≤ k := by omega
    obtain ⟨g1, g2⟩ := c_probe (c := c) (td := td) (lw := lw) (rw := rw) (bf := bf) (kp := kp) (st := st) (ln := ln) (rd := rd) (rl := rl) (rn := rn) (ms := ms) (sc := sc) (mc := mc) (fa := fa) (pm := pm) (xl := xl) (pc := pc) (rt := rt) (ra := ra) (ch := ch) (ow := ow) (ou := ou) (B := B) hT.2.1 hR
    have g2' : CR nS nN (bI (bCp (ch 12) (ch 18)) 5 (iv k ^^^ NO)) (mOnly nS (iv k) (mCpy (rw 0) (rw 1))) := g2.hoarse hS hNn _ (fun j hj => mOnly_ne hS hj) (fun s hs => by rw [mOnly_at hs, has_not _ (by omega)])
    obtain ⟨fa1, b1, g3, -, g4⟩ := c_hymn (x := 18) (c := c) (td := td) (lw := lw) (rw := rw) (bf := bf) (kp := kp) (st := st) (ln := ln) (rd := rd) (rl := rl) (rn := rn) (ms := ms) (sc := sc) (mc := mc) (fa := fa) (pm := pm) (xl := xl) (pc := pc) (rt := rt) (ra := ra) (ch := va_up ch 18 (bI (bCp (ch 12) (ch 18)) 5 (iv k ^^^ NO))) (ow := ow) (ou := ou) (B := B) hT.2.1 hl3 isC18 (by rw [vu_same]; exact g2')
    rw [vu_up] at g4
    obtain ⟨R, hRR⟩ : ∃ R, R = mHymn td F nS nN (mOnly nS (iv k) (mCpy (rw 0) (rw 1))) := ⟨_, rfl⟩
    rw [← hRR] at g3 g4
    obtain ⟨a, a1, a2, a3⟩ := mHymn_all (td := td) (F := F) (ρ := mOnly nS (iv k) (mCpy (rw 0) (rw 1))) hS hNn
    rw [← hRR] at a2 a3
    have a4 : mAll nS (mOnly nS (iv k) (mCpy (rw 0) (rw 1))) 14 = mAll nS (rw 0) 14 := foldN_eq nS 0 (iv 0) (fun s z _ hs => by rw [mOnly_ne hS (by omega), mCpy_at (by omega)])
    rw [a4] at a3
    have a5 : a < 1048576 := Nat.lt_of_lt_of_le a1 (Nat.le_trans (Nat.pow_le_pow_right (by decide) hNn) (by decide))
    have hC : fX1_chorus (some (aV c)) (iv k) (zS c td lw rw bf kp st ln rd rl rn ms sc mc fa pm xl pc rt ra ch ow ou B) = some (.inl (iv (bcN a)), (zS c td lw rw bf kp st ln rd rl rn ms sc mc (fa1) pm xl pc rt ra (va_up ch 18 b1) ow ou B)) := by
      unfold fX1_chorus fX1_chorus_j20
      simp (maxSteps := 3000000) (disch := first | assumption | omega | (simp (disch := omega) only [okx_iv', nx_iv, iv_add, L0, L1, L2, L3, L7, L8, L14, L21, L28, L35, L55, L56, *]; try omega)) only [↓bvv, ↓gvv, ↓tvv, ↓gv_6, ↓gv_5, ↓ph_5, ↓bvc, ↓gvc, L0, L1, L31, iv_add, no_def, nx_iv, okx_iv', iv_le, iv_lt, iv_eq, iv_no, no_iv, Nat.not_lt_zero, Nat.le_refl, vu_same, vu_ne, vu_up, ↓reduceIte, Nat.reduceEqDiff, Nat.reduceLeDiff, Nat.reduceLT, Nat.one_ne_zero, Nat.zero_ne_one, if_true, if_false, hk0, hpw, ↓b_singers hT.2.1, ↓gtn c_need1, ↓gbn g1]
      refine (gbn g4 _).trans ?_
      rw [a2, bnd (c_bc a5 _)]
    obtain ⟨sc1, g5⟩ := s_hymns (c := c) (td := td) (lw := lw) (rw := va_up rw 1 (mOnly nS (iv k) (mCpy (rw 0) (rw 1)))) (bf := bf) (kp := kp) (st := st) (ln := ln) (rd := rd) (rl := rl) (rn := rn) (ms := ms) (sc := sc) (mc := mc) (fa := fa1) (pm := va_up pm 0 (iv 0)) (xl := xl) (pc := pc) (rt := rt) (ra := ra) (ch := va_up ch 18 b1) (ow := ow) (ou := va_up ou 0 (iv (bcN a)).toInt64) (B := B) hl1 ((vu_ne (by decide)).trans hl2) hT.1 (b := 1) (by decide)
    rw [vu_same, vu_up, ← hRR] at g5
    have g6 := s_only (c := c) (td := td) (lw := lw) (rw := va_up rw 1 (mCpy (rw 0) (rw 1))) (bf := bf) (kp := kp) (st := st) (ln := ln) (rd := rd) (rl := rl) (rn := rn) (ms := ms) (sc := sc) (mc := mc) (fa := fa1) (pm := va_up pm 0 (iv 0)) (xl := xl) (pc := pc) (rt := rt) (ra := ra) (ch := va_up ch 18 b1) (ow := ow) (ou := va_up ou 0 (iv (bcN a)).toInt64) (B := B) hT.1 (set := iv k)
    rw [vu_same, vu_up] at g6
    have g7 := s_all (c := c) (td := td) (lw := lw) (rw := va_up rw 1 R.1) (bf := bf) (kp := kp) (st := st) (ln := ln) (rd := rd) (rl := rl) (rn := rn) (ms := ms) (sc := sc1) (mc := mc) (fa := fa1) (pm := va_up (va_up pm 0 (iv 0)) 38 R.2) (xl := xl) (pc := pc) (rt := rt) (ra := ra) (ch := va_up ch 18 b1) (ow := ow) (ou := va_up ou 0 (iv (bcN a)).toInt64) (B := B) hT.1 (b := 1) (d := 14) (by decide) (by omega)
    have g8 := s_all (c := c) (td := td) (lw := lw) (rw := va_up rw 1 R.1) (bf := bf) (kp := kp) (st := st) (ln := ln) (rd := rd) (rl := rl) (rn := rn) (ms := ms) (sc := sc1) (mc := mc) (fa := fa1) (pm := va_up (va_up pm 0 (iv 0)) 38 R.2) (xl := xl) (pc := pc) (rt := rt) (ra := ra) (ch := va_up ch 18 b1) (ow := ow) (ou := va_up ou 0 (iv (bcN a)).toInt64) (B := B) hT.1 (b := 0) (d := 14) (by decide) (by omega)
    rw [vu_same, a3] at g7
    rw [vu_ne (by decide)] at g8
    have hM : fX6_chorus (some (aM c)) (iv k) (zS c td lw rw bf kp st ln rd rl rn ms sc mc (fa1) pm xl pc rt ra (va_up ch 18 b1) ow (va_up ou 0 (iv (bcN a)).toInt64) B) = some (iv (bcN a), (zS c td lw (va_up rw 1 R.1) bf kp st ln rd rl rn ms (sc1) mc (fa1) (va_up (va_up pm 0 (iv 0)) 38 R.2) xl pc rt ra (va_up ch 18 b1) ow (va_up ou 0 (iv (bcN a)).toInt64) B)) := by
      unfold fX6_chorus fX6_chorus_j23
      simp (maxSteps := 3000000) (disch := first | assumption | omega | (simp (disch := omega) only [okx_iv', nx_iv, iv_add, L0, L1, L2, L3, L7, L8, L14, L21, L28, L35, L55, L56, *]; try omega)) only [↓pm_0, ↓bvm, ↓gvm, ↓gm_29, ↓gm_30, ↓ld_aRow, L0, L1, L14, iv_add, no_def, nx_iv, okx_iv', iv_le, iv_lt, iv_eq, iv_no, no_iv, Nat.not_lt_zero, Nat.le_refl, vu_same, vu_ne, vu_up, ↓reduceIte, Nat.reduceEqDiff, Nat.reduceLeDiff, Nat.reduceLT, Nat.one_ne_zero, Nat.zero_ne_one, if_true, if_false, in_eq, ↓bnd (s_every hT.1), rngC1 hS hk, ↓gbn (s_bad0L (vu_same _ _ _)), ↓gbn (s_bad0 (vu_same _ _ _)), ↓gbn s_copies, ↓gbn g6, ↓gbn g5, ↓bnd g7, ↓bnd g8]
      refine congrArg (fun y => some (y, _)) ?_
      rw [Int32.add_comm, Int32.add_sub_cancel]
    exact qI_ok (w_ok zis0 hC) zis3 hM (by simp (disch := omega) only [vu_same, vu_ne]) (vu_same _ _ _) (inv_q I (by first | rfl | simp (disch := omega) only [vu_ne]) (fun k hk => by first | rfl | simp (disch := omega) only [vu_ne]) (by first | rfl | simp (disch := omega) only [vu_ne]) (fun k hk => by first | rfl | simp (disch := omega) only [vu_ne]) (by first | exact ⟨hN.2.2.2.2.2.2.1, hN.2.2.2.2.2.2.2⟩ | (simp (disch := omega) only [vu_same, vu_ne, hN.2.2.2.2.2.2.1, hN.2.2.2.2.2.2.2, and_self])) (fun k hk => by first | rfl | simp (disch := omega) only [vu_ne]) (fun x hx => by first | rfl | simp (disch := omega) only [vu_ne]) (by first | exact Or.inl rfl | exact Or.inr ⟨_, rfl⟩))
/-! cast -/
noncomputable def mHc (td : Nat → Nat → Int32) (F : (Nat → Int32) → Int32) (nS nN : Nat) (ρ : Nat → Int32) (q : Nat) : Int32 := (mHymn td F nS nN (mOnly nS (iv q) (mBrth td nS ρ))).2
def mBet (td : Nat → Nat → Int32) (nS q : Nat) (o : Option Nat) : Prop := match o with
  | none => True
  | some r => bcN q < bcN r ∨ (bcN q = bcN r ∧ mPay td nS (iv q) < mPay td nS (iv r))
noncomputable def mCaS (td : Nat → Nat → Int32) (F : (Nat → Int32) → Int32) (nS nN : Nat) (ρ : Nat → Int32) (q : Nat) (o : Option Nat) : Option Nat := @ite _ (mBet td nS q o ∧ mHc td F nS nN ρ q = iv (2 ^ nN) - iv 1) (Classical.propDecidable _) (some q) o
theorem mCaS_lt {q : Nat} {o : Option Nat} (h : ∀ r, o = some r → r < q) : ∀ r, mCaS td F nS nN ρ q o = some r → r < q + 1 := by
  intro r hr
  unfold mCaS at hr
  split at hr
  · cases hr; omega
  · have := h r hr; omega
theorem dif7 : ∀ a, a < 8 → ∀ b, b < 8 → ((iv a - iv b < iv 0) ↔ a < b) ∧ ((iv a - iv b = iv 0) ↔ a = b) ∧ ((iv 0 < iv a - iv b) ↔ b < a) := by decide +kernel
theorem c_isBetter (h : tO (zV c ow B) rt td nS nN nL sgA ntA lkA) {q : Nat} (hq : q < 128) {o : Option Nat} (ho : ∀ r, o = some r → r < 128) : (mBet td nS q o → fX1_isBetter (some (aV c)) (iv q) (mOpt o) (zS c td lw rw bf kp st ln rd rl rn ms sc mc fa pm xl pc rt ra ch ow ou B) = some (iv 1)) ∧ (¬ mBet td nS q o → fX1_isBetter (some (aV c)) (iv q) (mOpt o) (zS c td lw rw bf kp st ln rd rl rn ms sc mc fa pm xl pc rt ra ch ow ou B) = some (iv 0)) := by
  unfold fX1_isBetter
  cases o with
  | none =>
    refine ⟨fun _ => ?_, fun hb => absurd trivial hb⟩
    simp (maxSteps := 3000000) (disch := first | assumption | omega | (simp (disch := omega) only [okx_iv', nx_iv, iv_add, L0, L1, L2, L3, L7, L8, L14, L21, L28, L35, L55, L56, *]; try omega)) only [L0, L1, iv_add, no_def, nx_iv, okx_iv', iv_le, iv_lt, iv_eq, iv_no, no_iv, Nat.not_lt_zero, Nat.le_refl, vu_same, vu_ne, vu_up, ↓reduceIte, Nat.reduceEqDiff, Nat.reduceLeDiff, Nat.reduceLT, Nat.one_ne_zero, Nat.zero_ne_one, if_true, if_false, mOpt]
  | some r =>
    have hr := ho r rfl
    have h1 := bcN128 q hq
    have h2 := bcN128 r hr
    obtain ⟨d1, d2, d3⟩ := dif7 (bcN q) (by omega) (bcN r) (by omega)
    simp (maxSteps := 3000000) (disch := first | assumption | omega | (simp (disch := omega) only [okx_iv', nx_iv, iv_add, L0, L1, L2, L3, L7, L8, L14, L21, L28, L35, L55, L56, *]; try omega)) only [↓bvv, ↓gvv, ↓tvv, L0, L1, iv_add, no_def, nx_iv, okx_iv', iv_le, iv_lt, iv_eq, iv_no, no_iv, Nat.not_lt_zero, Nat.le_refl, vu_same, vu_ne, vu_up, ↓reduceIte, Nat.reduceEqDiff, Nat.reduceLeDiff, Nat.reduceLT, Nat.one_ne_zero, Nat.zero_ne_one, if_true, if_false, mOpt, ↓bnd (c_bc (show q < 1048576 by omega) _), ↓bnd (c_bc (show r < 1048576 by omega) _), ↓bnd (c_paid h), mBet]
    by_cases c1 : bcN q < bcN r
    · rw [if_pos (d1.mpr c1)]
      exact ⟨fun _ => rfl, fun hb => absurd (Or.inl c1) hb⟩
    · rw [if_neg (fun e => c1 (d1.mp e))]
      by_cases c2 : bcN q = bcN r
      · rw [if_pos (d2.mpr c2)]
        by_cases c3 : mPay td nS (iv r) ≤ mPay td nS (iv q)
        · exact ⟨fun hb => absurd (hb.resolve_left c1).2 (Int32.not_lt.mpr c3), fun _ => if_pos c3⟩
        · exact ⟨fun _ => if_neg c3, fun hb => absurd (Or.inr ⟨c2, Int32.not_le.mp c3⟩) hb⟩
      · rw [if_neg (fun e => c2 (d2.mp e))]
        exact ⟨fun hb => absurd (hb.resolve_left c1).1 c2, fun _ => rfl⟩
theorem q_cast_l (h : tO (zV c ow B) rt td nS nN nL sgA ntA lkA) (hl : lwO (zV c ow B) rt F) : ∀ (j s fuel : Nat) (fa : Nat → Int32) (ch : Nat → (Nat → Nat → Int32) × (Nat → Int32)) (o : Option Nat), CR nS nN (ch 12) ρ → (∀ r, o = some r → r < s) → s + j = 2 ^ nS → j < fuel → ∃ fa' b', fX1_cast_l4 fuel (some (aV c)) (mOpt o) (iv s) (zS c td lw rw bf kp st ln rd rl rn ms sc mc fa pm xl pc rt ra ch ow ou B) = some (mOpt (foldN (mCaS td F nS nN ρ) j s o), (zS c td lw rw bf kp st ln rd rl rn ms sc mc (fa') pm xl pc rt ra (va_up ch 18 b') ow ou B)) := by
  intro j
  have hS := h.1
  have hNn := h.2.1
  have hp7 := pow7 hS
  have hpw := pw2 nS (by omega)
  have hx := @isC18 ow
  induction j with
  | zero =>
    intro s fuel fa ch o hr ho hs hf
    obtain ⟨f, rfl⟩ : ∃ f, fuel = f + 1 := ⟨fuel - 1, by omega⟩
    have hc : 2 ^ nS ≤ s := by omega
    refine ⟨fa, ch 18, ?_⟩
    simp (maxSteps := 3000000) (disch := first | assumption | omega | (simp (disch := omega) only [okx_iv', nx_iv, iv_add, L0, L1, L2, L3, L7, L8, L14, L21, L28, L35, L55, L56, *]; try omega)) only [fX1_cast_l4, fX1_cast_i4, ↓gv_6, ↓gv_5, ↓ph_5, ↓bvv, ↓gvv, ↓tvv, ↓bvc, ↓gvc, L0, L1, L31, ↓b_singers h, iv_add, no_def, nx_iv, okx_iv', iv_le, iv_lt, iv_eq, iv_no, no_iv, Nat.not_lt_zero, Nat.le_refl, vu_same, vu_ne, vu_up, ↓reduceIte, hpw, hc, foldN, vu_id]
  | succ j ih =>
    intro s fuel fa ch o hr ho hs hf
    obtain ⟨f, rfl⟩ : ∃ f, fuel = f + 1 := ⟨fuel - 1, by omega⟩
    have hc : ¬ 2 ^ nS ≤ s := by omega
    obtain ⟨b0, b1⟩ := c_isBetter (c := c) (td := td) (lw := lw) (rw := rw) (bf := bf) (kp := kp) (st := st) (ln := ln) (rd := rd) (rl := rl) (rn := rn) (ms := ms) (sc := sc) (mc := mc) (fa := fa) (pm := pm) (xl := xl) (pc := pc) (rt := rt) (ra := ra) (ch := ch) (ow := ow) (ou := ou) (B := B) h (q := s) (by omega) (o := o) (fun r hr => by have := ho r hr; omega)
    by_cases c1 : mBet td nS s o
    · have g1 := c_becomes (x := 18) (y := 12) (c := c) (td := td) (lw := lw) (rw := rw) (bf := bf) (kp := kp) (st := st) (ln := ln) (rd := rd) (rl := rl) (rn := rn) (ms := ms) (sc := sc) (mc := mc) (fa := fa) (pm := pm) (xl := xl) (pc := pc) (rt := rt) (ra := ra) (ch := ch) (ow := ow) (ou := ou) (B := B) isC18 isC12 (by decide)
      obtain ⟨b2, r2, f2, g2⟩ := c_breathes (x := 18) (ρ := ρ) (c := c) (td := td) (lw := lw) (rw := rw) (bf := bf) (kp := kp) (st := st) (ln := ln) (rd := rd) (rl := rl) (rn := rn) (ms := ms) (sc := sc) (mc := mc) (fa := fa) (pm := pm) (xl := xl) (pc := pc) (rt := rt) (ra := ra) (ch := va_up ch 18 (bCp (ch 12) (ch 18))) (ow := ow) (ou := ou) (B := B) h isC18 (by rw [vu_same]; exact bCp_R hS hNn hr)
      rw [vu_up] at g2
      obtain ⟨fa3, b3, r3, -, g3⟩ := c_hymn (x := 18) (ρ := mOnly nS (iv s) (mBrth td nS ρ)) (c := c) (td := td) (lw := lw) (rw := rw) (bf := bf) (kp := kp) (st := st) (ln := ln) (rd := rd) (rl := rl) (rn := rn) (ms := ms) (sc := sc) (mc := mc) (fa := fa) (pm := pm) (xl := xl) (pc := pc) (rt := rt) (ra := ra) (ch := va_up ch 18 (bI b2 5 (iv s ^^^ NO))) (ow := ow) (ou := ou) (B := B) h hl isC18 (by rw [vu_same]; exact r2.hoarse hS hNn _ (fun j hj => mOnly_ne hS hj) (fun q hq => by rw [mOnly_at hq, has_not _ (by omega)]))
      rw [vu_up] at g3
      obtain ⟨fa4, b4, g4⟩ := ih (s + 1) f fa3 (va_up ch 18 b3) (mCaS td F nS nN ρ s o) (by rw [vu_ne (by decide)]; exact hr) (mCaS_lt ho) (by omega) (by omega)
      rw [vu_up] at g4
      refine ⟨fa4, b4, Eq.trans ?_ g4⟩
      have g5 := b0 c1
      by_cases c2 : (mHymn td F nS nN (mOnly nS (iv s) (mBrth td nS ρ))).2 = iv (2 ^ nN) - iv 1
      · rw [show mCaS td F nS nN ρ s o = some s from if_pos ⟨c1, c2⟩]
        simp (maxSteps := 3000000) (disch := first | assumption | omega | (simp (disch := omega) only [okx_iv', nx_iv, iv_add, L0, L1, L2, L3, L7, L8, L14, L21, L28, L35, L55, L56, *]; try omega)) only [fX1_cast_l4, fX1_cast_i4, ↓gv_6, ↓gv_5, ↓ph_5, ↓bvv, ↓gvv, ↓tvv, ↓bvc, ↓gvc, L0, L1, L31, ↓b_singers h, iv_add, no_def, nx_iv, okx_iv', iv_le, iv_lt, iv_eq, iv_no, no_iv, Nat.not_lt_zero, Nat.le_refl, vu_same, vu_ne, vu_up, ↓reduceIte, Nat.reduceEqDiff, Nat.reduceLeDiff, Nat.reduceLT, Nat.one_ne_zero, Nat.zero_ne_one, if_true, if_false, hpw, hc, ↓bnd g5, ↓gbn g1, ↓gbn g2]
        refine (gbn g3 _).trans ?_
        simp (maxSteps := 3000000) (disch := first | assumption | omega | (simp (disch := omega) only [okx_iv', nx_iv, iv_add, L0, L1, L2, L3, L7, L8, L14, L21, L28, L35, L55, L56, *]; try omega)) only [↓bvv, ↓bnd (c_allN h), c2, iv_add, no_def, nx_iv, okx_iv', iv_le, iv_lt, iv_eq, iv_no, no_iv, Nat.not_lt_zero, Nat.le_refl, vu_same, vu_ne, vu_up, ↓reduceIte, Nat.reduceEqDiff, Nat.reduceLeDiff, Nat.reduceLT, Nat.one_ne_zero, Nat.zero_ne_one, if_true, if_false, mOpt]
      · rw [show mCaS td F nS nN ρ s o = o from if_neg (fun e => c2 e.2)]
        simp (maxSteps := 3000000) (disch := first | assumption | omega | (simp (disch := omega) only [okx_iv', nx_iv, iv_add, L0, L1, L2, L3, L7, L8, L14, L21, L28, L35, L55, L56, *]; try omega)) only [fX1_cast_l4, fX1_cast_i4, ↓gv_6, ↓gv_5, ↓ph_5, ↓bvv, ↓gvv, ↓tvv, ↓bvc, ↓gvc, L0, L1, L31, ↓b_singers h, iv_add, no_def, nx_iv, okx_iv', iv_le, iv_lt, iv_eq, iv_no, no_iv, Nat.not_lt_zero, Nat.le_refl, vu_same, vu_ne, vu_up, ↓reduceIte, Nat.reduceEqDiff, Nat.reduceLeDiff, Nat.reduceLT, Nat.one_ne_zero, Nat.zero_ne_one, if_true, if_false, hpw, hc, ↓bnd g5, ↓gbn g1, ↓gbn g2]
        refine (gbn g3 _).trans ?_
        simp (maxSteps := 3000000) (disch := first | assumption | omega | (simp (disch := omega) only [okx_iv', nx_iv, iv_add, L0, L1, L2, L3, L7, L8, L14, L21, L28, L35, L55, L56, *]; try omega)) only [↓bvv, ↓bnd (c_allN h), c2, iv_add, no_def, nx_iv, okx_iv', iv_le, iv_lt, iv_eq, iv_no, no_iv, Nat.not_lt_zero, Nat.le_refl, vu_same, vu_ne, vu_up, ↓reduceIte, Nat.reduceEqDiff, Nat.reduceLeDiff, Nat.reduceLT, Nat.one_ne_zero, Nat.zero_ne_one, if_true, if_false]
    · obtain ⟨fa4, b4, g4⟩ := ih (s + 1) f fa ch o hr (fun r hr => by have := ho r hr; omega) (by omega) (by omega)
      have g5 := b1 c1
      refine ⟨fa4, b4, Eq.trans ?_ (g4.trans ?_)⟩
      · simp (maxSteps := 3000000) (disch := first | assumption | omega | (simp (disch := omega) only [okx_iv', nx_iv, iv_add, L0, L1, L2, L3, L7, L8, L14, L21, L28, L35, L55, L56, *]; try omega)) only [fX1_cast_l4, fX1_cast_i4, ↓gv_6, ↓gv_5, ↓ph_5, ↓bvv, ↓gvv, ↓tvv, ↓bvc, ↓gvc, L0, L1, L31, ↓b_singers h, iv_add, no_def, nx_iv, okx_iv', iv_le, iv_lt, iv_eq, iv_no, no_iv, Nat.not_lt_zero, Nat.le_refl, vu_same, vu_ne, vu_up, ↓reduceIte, Nat.reduceEqDiff, Nat.reduceLeDiff, Nat.reduceLT, Nat.one_ne_zero, Nat.zero_ne_one, if_true, if_false, hpw, hc, ↓bnd g5]
      · show _ = some (mOpt (foldN (mCaS td F nS nN ρ) j (s + 1) (mCaS td F nS nN ρ s o)), _)
        rw [show mCaS td F nS nN ρ s o = o from if_neg (fun e => c1 e.1)]
theorem r_cast_l {kl : Nat} (hl : lOK lw kl F) (ht : tOK td nS nN nL) : ∀ (j s fuel : Nat) (rw sc : Nat → Nat → Int32) (pm : Nat → Int32) (o : Option Nat), pm 19 = iv kl → rw 0 = ρ → (∀ r, o = some r → r < s) → s + j = 2 ^ nS → j < fuel → ∃ sc' r' y, fX6_cast_l9 fuel (some (aM c)) (mOpt o) (iv s) (zS c td lw rw bf kp st ln rd rl rn ms sc mc fa pm xl pc rt ra ch ow ou B) = some (mOpt (foldN (mCaS td F nS nN ρ) j s o), (zS c td lw (va_up rw 1 r') bf kp st ln rd rl rn ms (sc') mc fa (va_up pm 38 y) xl pc rt ra ch ow ou B)) := by
  intro j
  have ht' := ht
  obtain ⟨h1, h2, h3, h4, h5, h6⟩ := ht
  have hp7 := pow7 h4
  have hp0 := Nat.two_pow_pos nS
  have hpw := pw2 nN (by omega)
  induction j with
  | zero =>
    intro s fuel rw sc pm o hpm hr ho hs hf
    obtain ⟨f, rfl⟩ : ∃ f, fuel = f + 1 := ⟨fuel - 1, by omega⟩
    have hc : 2 ^ nS - 1 < s := by omega
    refine ⟨sc, rw 1, pm 38, ?_⟩
    simp (maxSteps := 3000000) (disch := first | assumption | omega | (simp (disch := omega) only [okx_iv', nx_iv, iv_add, L0, L1, L2, L3, L7, L8, L14, L21, L28, L35, L55, L56, *]; try omega)) only [fX6_cast_l9, fX6_cast_i9, ↓bvm, ↓gvm, L0, L1, ↓bnd (s_every ht'), iv_add, no_def, nx_iv, okx_iv', iv_le, iv_lt, iv_eq, iv_no, no_iv, Nat.not_lt_zero, Nat.le_refl, vu_same, vu_ne, vu_up, ↓reduceIte, hc, foldN, vu_id]
  | succ j ih =>
    intro s fuel rw sc pm o hpm hr ho hs hf
    obtain ⟨f, rfl⟩ : ∃ f, fuel = f + 1 := ⟨fuel - 1, by omega⟩
    have hc : ¬ 2 ^ nS - 1 < s := by omega
    have hs1 : s < 128 := by omega
    -- the way through the hymn
    have hy : ∃ sc' r' y, fX6_cast_j60 (fX6_cast_l9 f) (some (aM c)) (mOpt o) (iv s) (zS c td lw rw bf kp st ln rd rl rn ms sc mc fa pm xl pc rt ra ch ow ou B) = some (mOpt (foldN (mCaS td F nS nN ρ) j (s + 1) (@ite _ (mHc td F nS nN ρ s = iv (2 ^ nN) - iv 1) (Classical.propDecidable _) (some s) o)), (zS c td lw (va_up rw 1 r') bf kp st ln rd rl rn ms (sc') mc fa (va_up pm 38 y) xl pc rt ra ch ow ou B)) := by
      have g2 := s_breathes (c := c) (td := td) (lw := lw) (rw := va_up rw 1 (mCpy (rw 0) (rw 1))) (bf := bf) (kp := kp) (st := st) (ln := ln) (rd := rd) (rl := rl) (rn := rn) (ms := ms) (sc := sc) (mc := mc) (fa := fa) (pm := pm) (xl := xl) (pc := pc) (rt := rt) (ra := ra) (ch := ch) (ow := ow) (ou := ou) (B := B) ht' (b := 1) (by decide)
      rw [vu_same, vu_up] at g2
      have g3 := s_only (c := c) (td := td) (lw := lw) (rw := va_up rw 1 (mBrth td nS (mCpy (rw 0) (rw 1)))) (bf := bf) (kp := kp) (st := st) (ln := ln) (rd := rd) (rl := rl) (rn := rn) (ms := ms) (sc := sc) (mc := mc) (fa := fa) (pm := pm) (xl := xl) (pc := pc) (rt := rt) (ra := ra) (ch := ch) (ow := ow) (ou := ou) (B := B) ht' (set := iv s)
      rw [vu_same, vu_up] at g3
      obtain ⟨sc4, g4⟩ := s_hymns (c := c) (td := td) (lw := lw) (rw := va_up rw 1 (mOnly nS (iv s) (mBrth td nS (mCpy (rw 0) (rw 1))))) (bf := bf) (kp := kp) (st := st) (ln := ln) (rd := rd) (rl := rl) (rn := rn) (ms := ms) (sc := sc) (mc := mc) (fa := fa) (pm := pm) (xl := xl) (pc := pc) (rt := rt) (ra := ra) (ch := ch) (ow := ow) (ou := ou) (B := B) hl hpm ht' (b := 1) (by decide)
      rw [vu_same, vu_up] at g4
      have e4 : (mHymn td F nS nN (mOnly nS (iv s) (mBrth td nS (mCpy (rw 0) (rw 1))))).2 = mHc td F nS nN ρ s := by
        rw [← hr]
        exact (mHymn_ext (mOnly_ext (mBrth_ext (mCpy_ext (rw 0) (rw 1)))) h4 h5).2
      rw [e4] at g4
      have hlt : ∀ r, (@ite _ (mHc td F nS nN ρ s = iv (2 ^ nN) - iv 1) (Classical.propDecidable _) (some s) o) = some r → r < s + 1 := by
        intro r hr
        split at hr
        · cases hr; omega
        · have := ho r hr; omega
      obtain ⟨sc5, r5, y5, g5⟩ := ih (s + 1) f (va_up rw 1 (mHymn td F nS nN (mOnly nS (iv s) (mBrth td nS (mCpy (rw 0) (rw 1))))).1) sc4 (va_up pm 38 (mHc td F nS nN ρ s)) _ ((vu_ne (by decide)).trans hpm) ((vu_ne (by decide)).trans hr) hlt (by omega) (by omega)
      rw [vu_up, vu_up] at g5
      refine ⟨sc5, r5, y5, Eq.trans ?_ g5⟩
      unfold fX6_cast_j60
      by_cases c2 : mHc td F nS nN ρ s = iv (2 ^ nN) - iv 1
      · simp (maxSteps := 3000000) (disch := first | assumption | omega | (simp (disch := omega) only [okx_iv', nx_iv, iv_add, L0, L1, L2, L3, L7, L8, L14, L21, L28, L35, L55, L56, *]; try omega)) only [↓gm_29, ↓gm_30, ↓gm_38, ↓gm_12, ↓bvm, ↓gvm, ↓ld_aRow, ↓ld_aTo, L0, L1, L31, iv_add, no_def, nx_iv, okx_iv', iv_le, iv_lt, iv_eq, iv_no, no_iv, Nat.not_lt_zero, Nat.le_refl, vu_same, vu_ne, vu_up, ↓reduceIte, Nat.reduceEqDiff, Nat.reduceLeDiff, Nat.reduceLT, Nat.one_ne_zero, Nat.zero_ne_one, if_true, if_false, ↓gbn s_copies, ↓gbn g2, ↓gbn g3, ↓gbn g4, h2, hpw, c2, mOpt]
      · simp (maxSteps := 3000000) (disch := first | assumption | omega | (simp (disch := omega) only [okx_iv', nx_iv, iv_add, L0, L1, L2, L3, L7, L8, L14, L21, L28, L35, L55, L56, *]; try omega)) only [↓gm_29, ↓gm_30, ↓gm_38, ↓gm_12, ↓bvm, ↓gvm, ↓ld_aRow, ↓ld_aTo, L0, L1, L31, iv_add, no_def, nx_iv, okx_iv', iv_le, iv_lt, iv_eq, iv_no, no_iv, Nat.not_lt_zero, Nat.le_refl, vu_same, vu_ne, vu_up, ↓reduceIte, Nat.reduceEqDiff, Nat.reduceLeDiff, Nat.reduceLT, Nat.one_ne_zero, Nat.zero_ne_one, if_true, if_false, ↓gbn s_copies, ↓gbn g2, ↓gbn g3, ↓gbn g4, h2, hpw, c2]
    have hn : ∃ sc' r' y, fX6_cast_l9 f (some (aM c)) (mOpt o) (iv (s + 1)) (zS c td lw rw bf kp st ln rd rl rn ms sc mc fa pm xl pc rt ra ch ow ou B) = some (mOpt (foldN (mCaS td F nS nN ρ) j (s + 1) o), (zS c td lw (va_up rw 1 r') bf kp st ln rd rl rn ms (sc') mc fa (va_up pm 38 y) xl pc rt ra ch ow ou B)) := ih (s + 1) f rw sc pm o hpm hr (fun r hr => by have := ho r hr; omega) (by omega) (by omega)
    show ∃ sc' r' y, _ = some (mOpt (foldN (mCaS td F nS nN ρ) j (s + 1) (mCaS td F nS nN ρ s o)), _)
    by_cases c1 : mBet td nS s o
    · have e1 : mCaS td F nS nN ρ s o = (@ite _ (mHc td F nS nN ρ s = iv (2 ^ nN) - iv 1) (Classical.propDecidable _) (some s) o) := by
        unfold mCaS
        by_cases c2 : mHc td F nS nN ρ s = iv (2 ^ nN) - iv 1
        · rw [if_pos ⟨c1, c2⟩, if_pos c2]
        · rw [if_neg (fun e => c2 e.2), if_neg c2]
      rw [e1]
      obtain ⟨sc6, r6, y6, g6⟩ := hy
      refine ⟨sc6, r6, y6, Eq.trans ?_ g6⟩
      cases o with
      | none => simp (maxSteps := 3000000) (disch := first | assumption | omega | (simp (disch := omega) only [okx_iv', nx_iv, iv_add, L0, L1, L2, L3, L7, L8, L14, L21, L28, L35, L55, L56, *]; try omega)) only [fX6_cast_l9, fX6_cast_i9, fX6_cast_j35, ↓bvm, ↓gvm, L0, L1, ↓bnd (s_every ht'), iv_add, no_def, nx_iv, okx_iv', iv_le, iv_lt, iv_eq, iv_no, no_iv, Nat.not_lt_zero, Nat.le_refl, vu_same, vu_ne, vu_up, ↓reduceIte, Nat.reduceEqDiff, Nat.reduceLeDiff, Nat.reduceLT, Nat.one_ne_zero, Nat.zero_ne_one, if_true, if_false, hc, mOpt, show ¬ (iv 0 < NO) by decide]
      | some r =>
        have hr2 := ho r rfl
        have b1 := bcN128 s hs1
        have b2 := bcN128 r (by omega)
        obtain ⟨d1, d2, d3⟩ := dif7 (bcN s) (by omega) (bcN r) (by omega)
        have n1 : ¬ (iv 0 < iv (bcN s) - iv (bcN r)) := fun e => by
          have := d3.mp e
          rcases c1 with c1 | c1 <;> omega
        by_cases c3 : bcN s = bcN r
        · have c4 : mPay td nS (iv s) < mPay td nS (iv r) := (c1.resolve_left (by omega)).2
          have n2 := d2.mpr c3
          simp (maxSteps := 3000000) (disch := first | assumption | omega | (simp (disch := omega) only [okx_iv', nx_iv, iv_add, L0, L1, L2, L3, L7, L8, L14, L21, L28, L35, L55, L56, *]; try omega)) only [fX6_cast_l9, fX6_cast_i9, fX6_cast_j35, ↓bvm, ↓gvm, L0, L1, ↓bnd (s_every ht'), iv_add, no_def, nx_iv, okx_iv', iv_le, iv_lt, iv_eq, iv_no, no_iv, Nat.not_lt_zero, Nat.le_refl, vu_same, vu_ne, vu_up, ↓reduceIte, Nat.reduceEqDiff, Nat.reduceLeDiff, Nat.reduceLT, Nat.one_ne_zero, Nat.zero_ne_one, if_true, if_false, hc, mOpt, ↓bnd (s_ones hs1), ↓bnd (s_ones (show r < 128 by omega)), n1, n2, ↓bnd (s_payOf ht'), c4]
        · have n2 : ¬ iv (bcN s) - iv (bcN r) = iv 0 := fun e => c3 (d2.mp e)
          simp (maxSteps := 3000000) (disch := first | assumption | omega | (simp (disch := omega) only [okx_iv', nx_iv, iv_add, L0, L1, L2, L3, L7, L8, L14, L21, L28, L35, L55, L56, *]; try omega)) only [fX6_cast_l9, fX6_cast_i9, fX6_cast_j35, ↓bvm, ↓gvm, L0, L1, ↓bnd (s_every ht'), iv_add, no_def, nx_iv, okx_iv', iv_le, iv_lt, iv_eq, iv_no, no_iv, Nat.not_lt_zero, Nat.le_refl, vu_same, vu_ne, vu_up, ↓reduceIte, Nat.reduceEqDiff, Nat.reduceLeDiff, Nat.reduceLT, Nat.one_ne_zero, Nat.zero_ne_one, if_true, if_false, hc, mOpt, ↓bnd (s_ones hs1), ↓bnd (s_ones (show r < 128 by omega)), n1, n2]
    · rw [show mCaS td F nS nN ρ s o = o from if_neg (fun e => c1 e.1)]
      obtain ⟨sc6, r6, y6, g6⟩ := hn
      refine ⟨sc6, r6, y6, Eq.trans ?_ g6⟩
      cases o with
      | none => exact absurd trivial c1
      | some r =>
        have hr2 := ho r rfl
        have b1 := bcN128 s hs1
        have b2 := bcN128 r (by omega)
        obtain ⟨d1, d2, d3⟩ := dif7 (bcN s) (by omega) (bcN r) (by omega)
        have n0 : bcN r ≤ bcN s := Nat.le_of_not_lt (fun e => c1 (Or.inl e))
        by_cases c3 : bcN s = bcN r
        · have c4 : ¬ mPay td nS (iv s) < mPay td nS (iv r) := fun e => c1 (Or.inr ⟨c3, e⟩)
          have n2 := d2.mpr c3
          have n1 : ¬ (iv 0 < iv (bcN s) - iv (bcN r)) := fun e => by have := d3.mp e; omega
          simp (maxSteps := 3000000) (disch := first | assumption | omega | (simp (disch := omega) only [okx_iv', nx_iv, iv_add, L0, L1, L2, L3, L7, L8, L14, L21, L28, L35, L55, L56, *]; try omega)) only [fX6_cast_l9, fX6_cast_i9, fX6_cast_j35, ↓bvm, ↓gvm, L0, L1, ↓bnd (s_every ht'), iv_add, no_def, nx_iv, okx_iv', iv_le, iv_lt, iv_eq, iv_no, no_iv, Nat.not_lt_zero, Nat.le_refl, vu_same, vu_ne, vu_up, ↓reduceIte, Nat.reduceEqDiff, Nat.reduceLeDiff, Nat.reduceLT, Nat.one_ne_zero, Nat.zero_ne_one, if_true, if_false, hc, mOpt, ↓bnd (s_ones hs1), ↓bnd (s_ones (show r < 128 by omega)), n1, n2, ↓bnd (s_payOf ht'), c4]
        · have n1 : iv 0 < iv (bcN s) - iv (bcN r) := d3.mpr (by omega)
          simp (maxSteps := 3000000) (disch := first | assumption | omega | (simp (disch := omega) only [okx_iv', nx_iv, iv_add, L0, L1, L2, L3, L7, L8, L14, L21, L28, L35, L55, L56, *]; try omega)) only [fX6_cast_l9, fX6_cast_i9, fX6_cast_j35, ↓bvm, ↓gvm, L0, L1, ↓bnd (s_every ht'), iv_add, no_def, nx_iv, okx_iv', iv_le, iv_lt, iv_eq, iv_no, no_iv, Nat.not_lt_zero, Nat.le_refl, vu_same, vu_ne, vu_up, ↓reduceIte, Nat.reduceEqDiff, Nat.reduceLeDiff, Nat.reduceLT, Nat.one_ne_zero, Nat.zero_ne_one, if_true, if_false, hc, mOpt, ↓bnd (s_ones hs1), ↓bnd (s_ones (show r < 128 by omega)), n1]
theorem Q_cast (I : invA c td lw rw bf kp st ln rd rl rn ms sc mc fa pm xl pc rt ra ch ow ou B nS nN nL sgA ntA lkA F tp wk im lm n) : qD c n (fX1_cast (some (aV c)) (zS c td lw rw bf kp st ln rd rl rn ms sc mc fa pm xl pc rt ra ch ow ou B)) (fun S => fX6_cast (some (aM c)) S) := by
  have hN := I.2.2.1
  have hT := I.1
  have hR := I.2.2.2.1.1
  have hp7 := pow7 hT.2.1.1
  have hf : 1000 < gFU := by unfold gFU; omega
  obtain ⟨kl, hl1, hl2⟩ := I.2.1.1
  obtain ⟨fa1, b1, hC⟩ := q_cast_l (c := c) (td := td) (lw := lw) (rw := rw) (bf := bf) (kp := kp) (st := st) (ln := ln) (rd := rd) (rl := rl) (rn := rn) (ms := ms) (sc := sc) (mc := mc) (fa := fa) (pm := pm) (xl := xl) (pc := pc) (rt := rt) (ra := ra) (ch := ch) (ow := ow) (ou := ou) (B := B) hT.2.1 I.2.1.2 (2 ^ nS) 0 gFU none hR (fun _ h => nomatch h) (by omega) (by omega)
  obtain ⟨sc1, r1, y1, h1⟩ := r_cast_l (ρ := rw 0) (c := c) (td := td) (lw := lw) (rw := rw) (bf := bf) (kp := kp) (st := st) (ln := ln) (rd := rd) (rl := rl) (rn := rn) (ms := ms) (sc := sc) (mc := mc) (fa := fa1) (pm := va_up pm 0 (iv 0)) (xl := xl) (pc := pc) (rt := rt) (ra := ra) (ch := va_up ch 18 b1) (ow := ow) (ou := ou) (B := B) hl1 hT.1 (2 ^ nS) 0 gFU none ((vu_ne (by decide)).trans hl2) rfl (fun _ h => nomatch h) (by omega) (by omega)
  have hM : fX6_cast (some (aM c)) (zS c td lw rw bf kp st ln rd rl rn ms sc mc (fa1) pm xl pc rt ra (va_up ch 18 b1) ow ou B) = some (mOpt (foldN (mCaS td F nS nN (rw 0)) (2 ^ nS) 0 none), (zS c td lw (va_up rw 1 r1) bf kp st ln rd rl rn ms (sc1) mc (fa1) (va_up (va_up pm 0 (iv 0)) 38 y1) xl pc rt ra (va_up ch 18 b1) ow ou B)) := by
    unfold fX6_cast
    simp (maxSteps := 3000000) (disch := first | assumption | omega | (simp (disch := omega) only [okx_iv', nx_iv, iv_add, L0, L1, L2, L3, L7, L8, L14, L21, L28, L35, L55, L56, *]; try omega)) only [↓pm_0, L0, L1, iv_add, no_def, nx_iv, okx_iv', iv_le, iv_lt, iv_eq, iv_no, no_iv, Nat.not_lt_zero, Nat.le_refl, vu_same, vu_ne, vu_up, ↓reduceIte, Nat.reduceEqDiff, Nat.reduceLeDiff, Nat.reduceLT, Nat.one_ne_zero, Nat.zero_ne_one, if_true, if_false]
    exact h1
  exact qD_ok hC zis3 hM (inv_q I (by first | rfl | simp (disch := omega) only [vu_ne]) (fun k hk => by first | rfl | simp (disch := omega) only [vu_ne]) (by first | rfl | simp (disch := omega) only [vu_ne]) (fun k hk => by first | rfl | simp (disch := omega) only [vu_ne]) (by first | exact ⟨hN.2.2.2.2.2.2.1, hN.2.2.2.2.2.2.2⟩ | (simp (disch := omega) only [vu_same, vu_ne, hN.2.2.2.2.2.2.1, hN.2.2.2.2.2.2.2, and_self])) (fun k hk => by first | rfl | simp (disch := omega) only [vu_ne]) (fun x hx => by first | rfl | simp (disch := omega) only [vu_ne]) (by first | exact Or.inl rfl | exact Or.inr ⟨_, rfl⟩))
end s40
