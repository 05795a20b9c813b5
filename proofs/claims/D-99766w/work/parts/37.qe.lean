-- NAME 37.qe
set_option maxRecDepth 100000
section s37
variable {c : Nat} {td : Nat → Nat → Int32} {lw : Nat → Nat → Int32} {rw : Nat → Nat → Int32} {bf : Nat → Nat → Int32} {kp : Nat → Nat → Int32} {st : Nat → Nat → Int32} {ln : Nat → Nat → Int32} {rd : Nat → Nat → Int32} {rl : Nat → Nat → Int32} {rn : Nat → Nat → Int32} {ms : Nat → Nat → Int32} {sc : Nat → Nat → Int32} {mc : Nat → Nat → Int32} {fa : Nat → Int32} {pm : Nat → Int32} {xl : Nat → Int64} {pc : Nat → Int32} {rt : Nat → Option Nat} {ra : Nat → Nat → Option Nat} {ch : Nat → (Nat → Nat → Int32) × (Nat → Int32)} {ow : Nat → Option (Nat × Nat)} {ou : Nat → Int64} {B : gS}
variable {nS nN nL x k : Nat} {sgA ntA lkA : Nat → Nat} {F : (Nat → Int32) → Int32} {tp wk im lm n : Nat} {ρ : Nat → Int32}
theorem CR.l1 {b : (Nat → Nat → Int32) × (Nat → Int32)} (h : CR nS nN b ρ) {s : Nat} (hs : s < nS) : b.1 1 s = ρ (14 + s) := (h.1 s hs).2.1
/-! idle -/
theorem q_idle_l (h : tO (zV c ow B) rt td nS nN nL sgA ntA lkA) (hr : CR nS nN (ch 18) ρ) (hr0 : CR nS nN (ch 12) (rw 0)) : ∀ (j s fuel : Nat) (z : Int32), s + j = nS → j < fuel → fX1_idle_l21 fuel (some (aV c)) (some (aCh c 18)) z (iv s) (zS c td lw rw bf kp st ln rd rl rn ms sc mc fa pm xl pc rt ra ch ow ou B) = some ((foldN (fun s z => z ||| (if ρ (14 + s) = rw 0 (14 + s) then mBit s else iv 0)) j s z), (zS c td lw rw bf kp st ln rd rl rn ms sc mc fa pm xl pc rt ra ch ow ou B)) := by
  intro j
  have hS := h.1
  have hx := @isC12 ow
  have hx2 := @isC18 ow
  induction j with
  | zero =>
    intro s fuel z hs hf
    obtain ⟨f, rfl⟩ : ∃ f, fuel = f + 1 := ⟨fuel - 1, by omega⟩
    have hc : nS ≤ s := by omega
    simp (maxSteps := 3000000) (disch := first | assumption | omega | (simp (disch := omega) only [okx_iv', nx_iv, iv_add, L0, L1, L2, L3, L7, L8, L14, L21, L28, L35, L55, L56, *]; try omega)) only [fX1_idle_l21, fX1_idle_i21, ↓gh_1, ↓gv_5, ↓bvv, ↓gvv, ↓tvv, ↓ld_aCA1, L0, L1, L31, iv_add, no_def, nx_iv, okx_iv', iv_le, iv_lt, iv_eq, iv_no, no_iv, Nat.not_lt_zero, Nat.le_refl, vu_same, vu_ne, vu_up, ↓reduceIte, hc, foldN, ↓b_singers h, hr.l1, hr0.l1, mBit]
  | succ j ih =>
    intro s fuel z hs hf
    obtain ⟨f, rfl⟩ : ∃ f, fuel = f + 1 := ⟨fuel - 1, by omega⟩
    have hc : ¬ nS ≤ s := by omega
    refine Eq.trans ?_ (ih (s + 1) f ((fun s z => z ||| (if ρ (14 + s) = rw 0 (14 + s) then mBit s else iv 0)) s z) (by omega) (by omega))
    by_cases cc0 : ρ (14 + s) = rw 0 (14 + s)
    · simp (maxSteps := 3000000) (disch := first | assumption | omega | (simp (disch := omega) only [okx_iv', nx_iv, iv_add, L0, L1, L2, L3, L7, L8, L14, L21, L28, L35, L55, L56, *]; try omega)) only [fX1_idle_l21, fX1_idle_i21, ↓gh_1, ↓gv_5, ↓bvv, ↓gvv, ↓tvv, ↓ld_aCA1, L0, L1, L31, iv_add, no_def, nx_iv, okx_iv', iv_le, iv_lt, iv_eq, iv_no, no_iv, Nat.not_lt_zero, Nat.le_refl, vu_same, vu_ne, vu_up, ↓reduceIte, hc, ↓b_singers h, hr.l1, hr0.l1, mBit, cc0, if_true, if_false]
    · simp (maxSteps := 3000000) (disch := first | assumption | omega | (simp (disch := omega) only [okx_iv', nx_iv, iv_add, L0, L1, L2, L3, L7, L8, L14, L21, L28, L35, L55, L56, *]; try omega)) only [fX1_idle_l21, fX1_idle_i21, ↓gh_1, ↓gv_5, ↓bvv, ↓gvv, ↓tvv, ↓ld_aCA1, L0, L1, L31, iv_add, no_def, nx_iv, okx_iv', iv_le, iv_lt, iv_eq, iv_no, no_iv, Nat.not_lt_zero, Nat.le_refl, vu_same, vu_ne, vu_up, ↓reduceIte, hc, ↓b_singers h, hr.l1, hr0.l1, mBit, cc0, if_true, if_false]
theorem r_idle_l (ht : tOK td nS nN nL) : ∀ (j s fuel : Nat) (z : Int32), s + j = nS → j < fuel → fX6_idle_l28 fuel (some (aM c)) z (iv s) (zS c td lw rw bf kp st ln rd rl rn ms sc mc fa pm xl pc rt ra ch ow ou B) = some ((foldN (fun s z => z ||| (if rw 1 (14 + s) = rw 0 (14 + s) then mBit s else iv 0)) j s z), (zS c td lw rw bf kp st ln rd rl rn ms sc mc fa pm xl pc rt ra ch ow ou B)) := by
  intro j
  have ⟨h1, h2, h3, h4, h5, h6⟩ := ht
  induction j with
  | zero =>
    intro s fuel z hs hf
    obtain ⟨f, rfl⟩ : ∃ f, fuel = f + 1 := ⟨fuel - 1, by omega⟩
    have hc : nS ≤ s := by omega
    simp (maxSteps := 3000000) (disch := first | assumption | omega | (simp (disch := omega) only [okx_iv', nx_iv, iv_add, L0, L1, L2, L3, L7, L8, L14, L21, L28, L35, L55, L56, *]; try omega)) only [fX6_idle_l28, fX6_idle_i28, ↓gm_12, ↓gm_30, ↓gm_29, ↓ld_aTo, ↓ld_aRow, L0, L1, L14, L31, iv_add, no_def, nx_iv, okx_iv', iv_le, iv_lt, iv_eq, iv_no, no_iv, Nat.not_lt_zero, Nat.le_refl, vu_same, vu_ne, vu_up, ↓reduceIte, hc, foldN, h1, mBit]
  | succ j ih =>
    intro s fuel z hs hf
    obtain ⟨f, rfl⟩ : ∃ f, fuel = f + 1 := ⟨fuel - 1, by omega⟩
    have hc : ¬ nS ≤ s := by omega
    refine Eq.trans ?_ (ih (s + 1) f ((fun s z => z ||| (if rw 1 (14 + s) = rw 0 (14 + s) then mBit s else iv 0)) s z) (by omega) (by omega))
    by_cases cc0 : rw 1 (14 + s) = rw 0 (14 + s)
    · simp (maxSteps := 3000000) (disch := first | assumption | omega | (simp (disch := omega) only [okx_iv', nx_iv, iv_add, L0, L1, L2, L3, L7, L8, L14, L21, L28, L35, L55, L56, *]; try omega)) only [fX6_idle_l28, fX6_idle_i28, ↓gm_12, ↓gm_30, ↓gm_29, ↓ld_aTo, ↓ld_aRow, L0, L1, L14, L31, iv_add, no_def, nx_iv, okx_iv', iv_le, iv_lt, iv_eq, iv_no, no_iv, Nat.not_lt_zero, Nat.le_refl, vu_same, vu_ne, vu_up, ↓reduceIte, hc, h1, mBit, cc0, if_true, if_false]
    · simp (maxSteps := 3000000) (disch := first | assumption | omega | (simp (disch := omega) only [okx_iv', nx_iv, iv_add, L0, L1, L2, L3, L7, L8, L14, L21, L28, L35, L55, L56, *]; try omega)) only [fX6_idle_l28, fX6_idle_i28, ↓gm_12, ↓gm_30, ↓gm_29, ↓ld_aTo, ↓ld_aRow, L0, L1, L14, L31, iv_add, no_def, nx_iv, okx_iv', iv_le, iv_lt, iv_eq, iv_no, no_iv, Nat.not_lt_zero, Nat.le_refl, vu_same, vu_ne, vu_up, ↓reduceIte, hc, h1, mBit, cc0, if_true, if_false]
theorem Q_idle (I : invA c td lw rw bf kp st ln rd rl rn ms sc mc fa pm xl pc rt ra ch ow ou B nS nN nL sgA ntA lkA F tp wk im lm n) : qD c n (fX1_idle (some (aV c)) (zS c td lw rw bf kp st ln rd rl rn ms sc mc fa pm xl pc rt ra ch ow ou B)) (fun S => fX6_idle (some (aM c)) S) := by
  have hN := I.2.2.1
  have hT := I.1
  have hR := I.2.2.2.1.1
  have hS := hT.2.1.1
  have hf : 1000 < gFU := by unfold gFU; omega
  obtain ⟨kl, hl1, hl2⟩ := I.2.1.1
  have hl3 := I.2.1.2
  have hx := @isC12 ow
  have hx2 := @isC18 ow
  obtain ⟨g1, g2⟩ := c_probe (c := c) (td := td) (lw := lw) (rw := rw) (bf := bf) (kp := kp) (st := st) (ln := ln) (rd := rd) (rl := rl) (rn := rn) (ms := ms) (sc := sc) (mc := mc) (fa := fa) (pm := pm) (xl := xl) (pc := pc) (rt := rt) (ra := ra) (ch := ch) (ow := ow) (ou := ou) (B := B) hT.2.1 hR
  obtain ⟨fa1, b1, g3, -, g4⟩ := c_hymn (x := 18) (c := c) (td := td) (lw := lw) (rw := rw) (bf := bf) (kp := kp) (st := st) (ln := ln) (rd := rd) (rl := rl) (rn := rn) (ms := ms) (sc := sc) (mc := mc) (fa := fa) (pm := pm) (xl := xl) (pc := pc) (rt := rt) (ra := ra) (ch := va_up ch 18 (bCp (ch 12) (ch 18))) (ow := ow) (ou := ou) (B := B) hT.2.1 hl3 isC18 (by rw [vu_same]; exact g2)
  rw [vu_up] at g4
  obtain ⟨R, hRR⟩ : ∃ R, R = mHymn td F nS nN (mCpy (rw 0) (rw 1)) := ⟨_, rfl⟩
  rw [← hRR] at g3 g4
  have hC : fX1_idle (some (aV c)) (zS c td lw rw bf kp st ln rd rl rn ms sc mc fa pm xl pc rt ra ch ow ou B) = some (foldN (fun s z => z ||| (if R.1 (14 + s) = rw 0 (14 + s) then mBit s else iv 0)) nS 0 (iv 0), (zS c td lw rw bf kp st ln rd rl rn ms sc mc (fa1) pm xl pc rt ra (va_up ch 18 b1) ow ou B)) := by
    unfold fX1_idle
    simp (maxSteps := 3000000) (disch := first | assumption | omega | (simp (disch := omega) only [okx_iv', nx_iv, iv_add, L0, L1, L2, L3, L7, L8, L14, L21, L28, L35, L55, L56, *]; try omega)) only [↓gv_6, ↓gv_5, ↓bvc, ↓gvc, L0, iv_add, no_def, nx_iv, okx_iv', iv_le, iv_lt, iv_eq, iv_no, no_iv, Nat.not_lt_zero, Nat.le_refl, vu_same, vu_ne, vu_up, ↓reduceIte, Nat.reduceEqDiff, Nat.reduceLeDiff, Nat.reduceLT, Nat.one_ne_zero, Nat.zero_ne_one, if_true, if_false, ↓gbn g1, ↓gbn g4]
    exact q_idle_l hT.2.1 (by rw [vu_same]; exact g3) (by rw [vu_ne (by decide)]; exact hR) nS 0 gFU _ (by omega) (by omega)
  obtain ⟨sc1, g5⟩ := s_hymns (c := c) (td := td) (lw := lw) (rw := va_up rw 1 (mCpy (rw 0) (rw 1))) (bf := bf) (kp := kp) (st := st) (ln := ln) (rd := rd) (rl := rl) (rn := rn) (ms := ms) (sc := sc) (mc := mc) (fa := fa1) (pm := va_up pm 0 (iv 0)) (xl := xl) (pc := pc) (rt := rt) (ra := ra) (ch := va_up ch 18 b1) (ow := ow) (ou := ou) (B := B) hl1 ((vu_ne (by decide)).trans hl2) hT.1 (b := 1) (by decide)
  rw [vu_same, vu_up, ← hRR] at g5
  have hM : fX6_idle (some (aM c)) (zS c td lw rw bf kp st ln rd rl rn ms sc mc (fa1) pm xl pc rt ra (va_up ch 18 b1) ow ou B) = some (foldN (fun s z => z ||| (if R.1 (14 + s) = rw 0 (14 + s) then mBit s else iv 0)) nS 0 (iv 0), (zS c td lw (va_up rw 1 R.1) bf kp st ln rd rl rn ms (sc1) mc (fa1) (va_up (va_up pm 0 (iv 0)) 38 R.2) xl pc rt ra (va_up ch 18 b1) ow ou B)) := by
    unfold fX6_idle
    simp (maxSteps := 3000000) (disch := first | assumption | omega | (simp (disch := omega) only [okx_iv', nx_iv, iv_add, L0, L1, L2, L3, L7, L8, L14, L21, L28, L35, L55, L56, *]; try omega)) only [↓gm_29, ↓gm_30, ↓pm_0, ↓bvm, ↓gvm, ↓ld_aRow, L0, iv_add, no_def, nx_iv, okx_iv', iv_le, iv_lt, iv_eq, iv_no, no_iv, Nat.not_lt_zero, Nat.le_refl, vu_same, vu_ne, vu_up, ↓reduceIte, Nat.reduceEqDiff, Nat.reduceLeDiff, Nat.reduceLT, Nat.one_ne_zero, Nat.zero_ne_one, if_true, if_false, ↓gbn s_copies, ↓gbn g5]
    refine Eq.trans (r_idle_l hT.1 nS 0 gFU (iv 0) (by omega) (by omega)) ?_
    rw [vu_same, vu_ne (by decide)]
  exact qD_ok hC zis3 hM (inv_q I (by first | rfl | simp (disch := omega) only [vu_ne]) (fun k hk => by first | rfl | simp (disch := omega) only [vu_ne]) (by first | rfl | simp (disch := omega) only [vu_ne]) (fun k hk => by first | rfl | simp (disch := omega) only [vu_ne]) (by first | exact ⟨hN.2.2.2.2.2.2.1, hN.2.2.2.2.2.2.2⟩ | (simp (disch := omega) only [vu_same, vu_ne, hN.2.2.2.2.2.2.1, hN.2.2.2.2.2.2.2, and_self])) (fun k hk => by first | rfl | simp (disch := omega) only [vu_ne]) (fun x hx => by first | rfl | simp (disch := omega) only [vu_ne]) (by first | exact Or.inl rfl | exact Or.inr ⟨_, rfl⟩))
/-! mute -/
noncomputable def mMute (td : Nat → Nat → Int32) (F : (Nat → Int32) → Int32) (nS nN : Nat) (ρ : Nat → Int32) (j s : Nat) (z : Int32) : Int32 := foldN (fun n z => z ||| (match mSb td F ρ n nS 0 with | none => mBit n | some _ => iv 0)) j s z
theorem q_mute_l (h : tO (zV c ow B) rt td nS nN nL sgA ntA lkA) (hl : lwO (zV c ow B) rt F) (hr : CR nS nN (ch 12) ρ) : ∀ (j s fuel : Nat) (fa : Nat → Int32) (z : Int32), s + j = nN → j < fuel → ∃ fa', fX1_mute_l4 fuel (some (aV c)) z (iv s) (zS c td lw rw bf kp st ln rd rl rn ms sc mc fa pm xl pc rt ra ch ow ou B) = some (mMute td F nS nN ρ j s z, (zS c td lw rw bf kp st ln rd rl rn ms sc mc (fa') pm xl pc rt ra ch ow ou B)) := by
  intro j
  have hN := h.2.1
  have hS := h.1
  have hx := @isC12 ow
  induction j with
  | zero =>
    intro s fuel fa z hs hf
    obtain ⟨f, rfl⟩ : ∃ f, fuel = f + 1 := ⟨fuel - 1, by omega⟩
    have hc : nN ≤ s := by omega
    refine ⟨fa, ?_⟩
    simp (maxSteps := 3000000) (disch := first | assumption | omega | (simp (disch := omega) only [okx_iv', nx_iv, iv_add, L0, L1, L2, L3, L7, L8, L14, L21, L28, L35, L55, L56, *]; try omega)) only [fX1_mute_l4, fX1_mute_i4, ↓gv_5, ↓bvv, ↓gvv, ↓tvv, ↓bvc, ↓gvc, L0, L1, L31, ↓b_notes h, iv_add, no_def, nx_iv, okx_iv', iv_le, iv_lt, iv_eq, iv_no, no_iv, Nat.not_lt_zero, Nat.le_refl, vu_same, vu_ne, vu_up, ↓reduceIte, hc, mMute, foldN]
  | succ j ih =>
    intro s fuel fa z hs hf
    obtain ⟨f, rfl⟩ : ∃ f, fuel = f + 1 := ⟨fuel - 1, by omega⟩
    have hc : ¬ nN ≤ s := by omega
    obtain ⟨fa1, h1⟩ := c_sungBy (x := 12) (c := c) (td := td) (lw := lw) (rw := rw) (bf := bf) (kp := kp) (st := st) (ln := ln) (rd := rd) (rl := rl) (rn := rn) (ms := ms) (sc := sc) (mc := mc) (fa := fa) (pm := pm) (xl := xl) (pc := pc) (rt := rt) (ra := ra) (ch := ch) (ow := ow) (ou := ou) (B := B) h hl hx hr (n := s) (by omega)
    obtain ⟨fa2, h2⟩ := ih (s + 1) f fa1 (z ||| (match mSb td F ρ s nS 0 with | none => mBit s | some _ => iv 0)) (by omega) (by omega)
    refine ⟨fa2, Eq.trans ?_ h2⟩
    cases hq : mSb td F ρ s nS 0 with
    | none =>
      rw [hq] at h1
      simp (maxSteps := 3000000) (disch := first | assumption | omega | (simp (disch := omega) only [okx_iv', nx_iv, iv_add, L0, L1, L2, L3, L7, L8, L14, L21, L28, L35, L55, L56, *]; try omega)) only [fX1_mute_l4, fX1_mute_i4, ↓gv_5, ↓bvv, ↓gvv, ↓tvv, ↓bvc, ↓gvc, L0, L1, L31, ↓b_notes h, ↓gbn h1, iv_add, no_def, nx_iv, okx_iv', iv_le, iv_lt, iv_eq, iv_no, no_iv, Nat.not_lt_zero, Nat.le_refl, vu_same, vu_ne, vu_up, ↓reduceIte, hc, mOpt, mBit]
    | some q =>
      rw [hq] at h1
      have := (mSb_lt hq).1
      simp (maxSteps := 3000000) (disch := first | assumption | omega | (simp (disch := omega) only [okx_iv', nx_iv, iv_add, L0, L1, L2, L3, L7, L8, L14, L21, L28, L35, L55, L56, *]; try omega)) only [fX1_mute_l4, fX1_mute_i4, ↓gv_5, ↓bvv, ↓gvv, ↓tvv, ↓bvc, ↓gvc, L0, L1, L31, ↓b_notes h, ↓gbn h1, iv_add, no_def, nx_iv, okx_iv', iv_le, iv_lt, iv_eq, iv_no, no_iv, Nat.not_lt_zero, Nat.le_refl, vu_same, vu_ne, vu_up, ↓reduceIte, hc, mOpt, mBit]
theorem r_mute_l {kl : Nat} (hl : lOK lw kl F) (hp : pm 19 = iv kl) (ht : tOK td nS nN nL) : ∀ (j s fuel : Nat) (sc : Nat → Nat → Int32) (z : Int32), s + j = nN → j < fuel → ∃ sc', fX6_mute_l9 fuel (some (aM c)) z (iv s) (zS c td lw rw bf kp st ln rd rl rn ms sc mc fa pm xl pc rt ra ch ow ou B) = some (mMute td F nS nN (rw 0) j s z, (zS c td lw rw bf kp st ln rd rl rn ms (sc') mc fa pm xl pc rt ra ch ow ou B)) := by
  intro j
  have ht' := ht
  obtain ⟨h1, h2, h3, h4, h5, h6⟩ := ht
  induction j with
  | zero =>
    intro s fuel sc z hs hf
    obtain ⟨f, rfl⟩ : ∃ f, fuel = f + 1 := ⟨fuel - 1, by omega⟩
    have hc : nN ≤ s := by omega
    refine ⟨sc, ?_⟩
    simp (maxSteps := 3000000) (disch := first | assumption | omega | (simp (disch := omega) only [okx_iv', nx_iv, iv_add, L0, L1, L2, L3, L7, L8, L14, L21, L28, L35, L55, L56, *]; try omega)) only [fX6_mute_l9, fX6_mute_i9, ↓gm_12, ↓gm_29, ↓bvm, ↓gvm, ↓ld_aTo, ↓ld_aRow, L0, L1, L31, h2, iv_add, no_def, nx_iv, okx_iv', iv_le, iv_lt, iv_eq, iv_no, no_iv, Nat.not_lt_zero, Nat.le_refl, vu_same, vu_ne, vu_up, ↓reduceIte, hc, mMute, foldN]
  | succ j ih =>
    intro s fuel sc z hs hf
    obtain ⟨f, rfl⟩ : ∃ f, fuel = f + 1 := ⟨fuel - 1, by omega⟩
    have hc : ¬ nN ≤ s := by omega
    obtain ⟨sc1, g1⟩ := s_sungBy (c := c) (td := td) (lw := lw) (rw := rw) (bf := bf) (kp := kp) (st := st) (ln := ln) (rd := rd) (rl := rl) (rn := rn) (ms := ms) (sc := sc) (mc := mc) (fa := fa) (pm := pm) (xl := xl) (pc := pc) (rt := rt) (ra := ra) (ch := ch) (ow := ow) (ou := ou) (B := B) hl hp ht' (b := 0) (by decide) (n := s) (by omega)
    obtain ⟨sc2, g2⟩ := ih (s + 1) f sc1 (z ||| (match mSb td F (rw 0) s nS 0 with | none => mBit s | some _ => iv 0)) (by omega) (by omega)
    refine ⟨sc2, Eq.trans ?_ g2⟩
    cases hq : mSb td F (rw 0) s nS 0 with
    | none =>
      rw [hq] at g1
      simp (maxSteps := 3000000) (disch := first | assumption | omega | (simp (disch := omega) only [okx_iv', nx_iv, iv_add, L0, L1, L2, L3, L7, L8, L14, L21, L28, L35, L55, L56, *]; try omega)) only [fX6_mute_l9, fX6_mute_i9, ↓gm_12, ↓gm_29, ↓bvm, ↓gvm, ↓ld_aTo, ↓ld_aRow, L0, L1, L31, h2, ↓gbn g1, iv_add, no_def, nx_iv, okx_iv', iv_le, iv_lt, iv_eq, iv_no, no_iv, Nat.not_lt_zero, Nat.le_refl, vu_same, vu_ne, vu_up, ↓reduceIte, hc, mOpt, mBit]
    | some q =>
      rw [hq] at g1
      have := (mSb_lt hq).1
      simp (maxSteps := 3000000) (disch := first | assumption | omega | (simp (disch := omega) only [okx_iv', nx_iv, iv_add, L0, L1, L2, L3, L7, L8, L14, L21, L28, L35, L55, L56, *]; try omega)) only [fX6_mute_l9, fX6_mute_i9, ↓gm_12, ↓gm_29, ↓bvm, ↓gvm, ↓ld_aTo, ↓ld_aRow, L0, L1, L31, h2, ↓gbn g1, iv_add, no_def, nx_iv, okx_iv', iv_le, iv_lt, iv_eq, iv_no, no_iv, Nat.not_lt_zero, Nat.le_refl, vu_same, vu_ne, vu_up, ↓reduceIte, hc, mOpt, mBit]
theorem Q_mute (I : invA c td lw rw bf kp st ln rd rl rn ms sc mc fa pm xl pc rt ra ch ow ou B nS nN nL sgA ntA lkA F tp wk im lm n) : qD c n (fX1_mute (some (aV c)) (zS c td lw rw bf kp st ln rd rl rn ms sc mc fa pm xl pc rt ra ch ow ou B)) (fun S => fX6_mute (some (aM c)) S) := by
  have hN := I.2.2.1
  have hT := I.1
  have hR := I.2.2.2.1.1
  have hNn := hT.2.1.2.1
  have hf : 1000 < gFU := by unfold gFU; omega
  obtain ⟨kl, hl1, hl2⟩ := I.2.1.1
  obtain ⟨fa1, hC⟩ := q_mute_l (c := c) (td := td) (lw := lw) (rw := rw) (bf := bf) (kp := kp) (st := st) (ln := ln) (rd := rd) (rl := rl) (rn := rn) (ms := ms) (sc := sc) (mc := mc) (fa := fa) (pm := pm) (xl := xl) (pc := pc) (rt := rt) (ra := ra) (ch := ch) (ow := ow) (ou := ou) (B := B) hT.2.1 I.2.1.2 hR nN 0 gFU (iv 0) (by omega) (by omega)
  obtain ⟨sc1, h1⟩ := r_mute_l (c := c) (td := td) (lw := lw) (rw := rw) (bf := bf) (kp := kp) (st := st) (ln := ln) (rd := rd) (rl := rl) (rn := rn) (ms := ms) (sc := sc) (mc := mc) (fa := fa1) (pm := va_up pm 0 (iv 0)) (xl := xl) (pc := pc) (rt := rt) (ra := ra) (ch := ch) (ow := ow) (ou := ou) (B := B) hl1 ((vu_ne (by decide)).trans hl2) hT.1 nN 0 gFU (iv 0) (by omega) (by omega)
  have hM : fX6_mute (some (aM c)) (zS c td lw rw bf kp st ln rd rl rn ms sc mc (fa1) pm xl pc rt ra ch ow ou B) = some (mMute td F nS nN (rw 0) nN 0 (iv 0), (zS c td lw rw bf kp st ln rd rl rn ms (sc1) mc (fa1) (va_up pm 0 (iv 0)) xl pc rt ra ch ow ou B)) := by
    unfold fX6_mute
    simp (maxSteps := 3000000) (disch := first | assumption | omega | (simp (disch := omega) only [okx_iv', nx_iv, iv_add, L0, L1, L2, L3, L7, L8, L14, L21, L28, L35, L55, L56, *]; try omega)) only [↓pm_0, L0, iv_add, no_def, nx_iv, okx_iv', iv_le, iv_lt, iv_eq, iv_no, no_iv, Nat.not_lt_zero, Nat.le_refl, vu_same, vu_ne, vu_up, ↓reduceIte, Nat.reduceEqDiff, Nat.reduceLeDiff, Nat.reduceLT, Nat.one_ne_zero, Nat.zero_ne_one, if_true, if_false]
    exact h1
  exact qD_ok hC zis3 hM (inv_q I (by first | rfl | simp (disch := omega) only [vu_ne]) (fun k hk => by first | rfl | simp (disch := omega) only [vu_ne]) (by first | rfl | simp (disch := omega) only [vu_ne]) (fun k hk => by first | rfl | simp (disch := omega) only [vu_ne]) (by first | exact ⟨hN.2.2.2.2.2.2.1, hN.2.2.2.2.2.2.2⟩ | (simp (disch := omega) only [vu_same, vu_ne, hN.2.2.2.2.2.2.1, hN.2.2.2.2.2.2.2, and_self])) (fun k hk => by first | rfl | simp (disch := omega) only [vu_ne]) (fun x hx => by first | rfl | simp (disch := omega) only [vu_ne]) (by first | exact Or.inl rfl | exact Or.inr ⟨_, rfl⟩))
/-! duty -/
noncomputable def mDuS (td : Nat → Nat → Int32) (F : (Nat → Int32) → Int32) (nS : Nat) (p : Int32) (n : Nat) (q : (Nat → Int32) × Int32) : (Nat → Int32) × Int32 := (mSings td F nS q.1 n, q.2 ||| (if mOpt (mSb td F q.1 n nS 0) = p then mBit n else iv 0))
theorem q_duty_l (h : tO (zV c ow B) rt td nS nN nL sgA ntA lkA) (hl : lwO (zV c ow B) rt F) {p : Int32} : ∀ (j s fuel : Nat) (fa : Nat → Int32) (ch : Nat → (Nat → Nat → Int32) × (Nat → Int32)) (ρ : Nat → Int32) (z : Int32), CR nS nN (ch 18) ρ → s + j = nN → j < fuel → ∃ fa' b', fX1_duty_l22 fuel (some (aV c)) p (some (aCh c 18)) z (iv s) (zS c td lw rw bf kp st ln rd rl rn ms sc mc fa pm xl pc rt ra ch ow ou B) = some (.inl (foldN (mDuS td F nS p) j s (ρ, z)).2, (zS c td lw rw bf kp st ln rd rl rn ms sc mc (fa') pm xl pc rt ra (va_up ch 18 b') ow ou B)) := by
  intro j
  have hN := h.2.1
  have hx := @isC18 ow
  induction j with
  | zero =>
    intro s fuel fa ch ρ z hr hs hf
    obtain ⟨f, rfl⟩ : ∃ f, fuel = f + 1 := ⟨fuel - 1, by omega⟩
    have hc : nN ≤ s := by omega
    refine ⟨fa, ch 18, ?_⟩
    simp (maxSteps := 3000000) (disch := first | assumption | omega | (simp (disch := omega) only [okx_iv', nx_iv, iv_add, L0, L1, L2, L3, L7, L8, L14, L21, L28, L35, L55, L56, *]; try omega)) only [fX1_duty_l22, fX1_duty_i22, ↓bvv, ↓gvv, ↓tvv, ↓bvc, ↓gvc, L0, L1, L31, ↓b_notes h, iv_add, no_def, nx_iv, okx_iv', iv_le, iv_lt, iv_eq, iv_no, no_iv, Nat.not_lt_zero, Nat.le_refl, vu_same, vu_ne, vu_up, ↓reduceIte, hc, foldN, vu_id]
  | succ j ih =>
    intro s fuel fa ch ρ z hr hs hf
    obtain ⟨f, rfl⟩ : ∃ f, fuel = f + 1 := ⟨fuel - 1, by omega⟩
    have hc : ¬ nN ≤ s := by omega
    obtain ⟨fa1, h1⟩ := c_sungBy (x := 18) (c := c) (td := td) (lw := lw) (rw := rw) (bf := bf) (kp := kp) (st := st) (ln := ln) (rd := rd) (rl := rl) (rn := rn) (ms := ms) (sc := sc) (mc := mc) (fa := fa) (pm := pm) (xl := xl) (pc := pc) (rt := rt) (ra := ra) (ch := ch) (ow := ow) (ou := ou) (B := B) h hl hx hr (n := s) (by omega)
    obtain ⟨fa2, b2, r2, -, h2⟩ := c_sings (x := 18) (c := c) (td := td) (lw := lw) (rw := rw) (bf := bf) (kp := kp) (st := st) (ln := ln) (rd := rd) (rl := rl) (rn := rn) (ms := ms) (sc := sc) (mc := mc) (fa := fa1) (pm := pm) (xl := xl) (pc := pc) (rt := rt) (ra := ra) (ch := ch) (ow := ow) (ou := ou) (B := B) h hl hx hr (n := s) (by omega)
    obtain ⟨fa3, b3, h3⟩ := ih (s + 1) f fa2 (va_up ch 18 b2) (mSings td F nS ρ s) (z ||| (if mOpt (mSb td F ρ s nS 0) = p then mBit s else iv 0)) (by rw [vu_same]; exact r2) (by omega) (by omega)
    rw [vu_up] at h3
    refine ⟨fa3, b3, Eq.trans ?_ h3⟩
    by_cases c1 : mOpt (mSb td F ρ s nS 0) = p
    · simp (maxSteps := 3000000) (disch := first | assumption | omega | (simp (disch := omega) only [okx_iv', nx_iv, iv_add, L0, L1, L2, L3, L7, L8, L14, L21, L28, L35, L55, L56, *]; try omega)) only [fX1_duty_l22, fX1_duty_i22, fX1_duty_j50, ↓bvv, ↓gvv, ↓tvv, ↓bvc, ↓gvc, L0, L1, L31, ↓b_notes h, ↓gbn h1, ↓gbn h2, iv_add, no_def, nx_iv, okx_iv', iv_le, iv_lt, iv_eq, iv_no, no_iv, Nat.not_lt_zero, Nat.le_refl, vu_same, vu_ne, vu_up, ↓reduceIte, hc, c1, mBit]
    · simp (maxSteps := 3000000) (disch := first | assumption | omega | (simp (disch := omega) only [okx_iv', nx_iv, iv_add, L0, L1, L2, L3, L7, L8, L14, L21, L28, L35, L55, L56, *]; try omega)) only [fX1_duty_l22, fX1_duty_i22, fX1_duty_j50, ↓bvv, ↓gvv, ↓tvv, ↓bvc, ↓gvc, L0, L1, L31, ↓b_notes h, ↓gbn h1, ↓gbn h2, iv_add, no_def, nx_iv, okx_iv', iv_le, iv_lt, iv_eq, iv_no, no_iv, Nat.not_lt_zero, Nat.le_refl, vu_same, vu_ne, vu_up, ↓reduceIte, hc, c1, mBit]
theorem r_duty_l {kl : Nat} (hl : lOK lw kl F) (hp : pm 19 = iv kl) (ht : tOK td nS nN nL) {p : Int32} : ∀ (j s fuel : Nat) (rw sc : Nat → Nat → Int32) (z : Int32), s + j = nN → j < fuel → ∃ sc' ρ', fX6_duty_l44 fuel (some (aM c)) p z (iv s) (zS c td lw rw bf kp st ln rd rl rn ms sc mc fa pm xl pc rt ra ch ow ou B) = some ((foldN (mDuS td F nS p) j s (rw 1, z)).2, (zS c td lw (va_up rw 1 ρ') bf kp st ln rd rl rn ms (sc') mc fa pm xl pc rt ra ch ow ou B)) := by
  intro j
  have ht' := ht
  obtain ⟨h1, h2, h3, h4, h5, h6⟩ := ht
  induction j with
  | zero =>
    intro s fuel rw sc z hs hf
    obtain ⟨f, rfl⟩ : ∃ f, fuel = f + 1 := ⟨fuel - 1, by omega⟩
    have hc : nN ≤ s := by omega
    refine ⟨sc, rw 1, ?_⟩
    simp (maxSteps := 3000000) (disch := first | assumption | omega | (simp (disch := omega) only [okx_iv', nx_iv, iv_add, L0, L1, L2, L3, L7, L8, L14, L21, L28, L35, L55, L56, *]; try omega)) only [fX6_duty_l44, fX6_duty_i44, ↓gm_12, ↓gm_30, ↓bvm, ↓gvm, ↓ld_aTo, ↓ld_aRow, L0, L1, L31, h2, iv_add, no_def, nx_iv, okx_iv', iv_le, iv_lt, iv_eq, iv_no, no_iv, Nat.not_lt_zero, Nat.le_refl, vu_same, vu_ne, vu_up, ↓reduceIte, hc, foldN, vu_id]
  | succ j ih =>
    intro s fuel rw sc z hs hf
    obtain ⟨f, rfl⟩ : ∃ f, fuel = f + 1 := ⟨fuel - 1, by omega⟩
    have hc : ¬ nN ≤ s := by omega
    obtain ⟨sc1, g1⟩ := s_sungBy (c := c) (td := td) (lw := lw) (rw := rw) (bf := bf) (kp := kp) (st := st) (ln := ln) (rd := rd) (rl := rl) (rn := rn) (ms := ms) (sc := sc) (mc := mc) (fa := fa) (pm := pm) (xl := xl) (pc := pc) (rt := rt) (ra := ra) (ch := ch) (ow := ow) (ou := ou) (B := B) hl hp ht' (b := 1) (by decide) (n := s) (by omega)
    obtain ⟨sc2, g2⟩ := s_sings (c := c) (td := td) (lw := lw) (rw := rw) (bf := bf) (kp := kp) (st := st) (ln := ln) (rd := rd) (rl := rl) (rn := rn) (ms := ms) (sc := sc1) (mc := mc) (fa := fa) (pm := pm) (xl := xl) (pc := pc) (rt := rt) (ra := ra) (ch := ch) (ow := ow) (ou := ou) (B := B) hl hp ht' (b := 1) (by decide) (n := s) (by omega)
    obtain ⟨sc3, r3, g3⟩ := ih (s + 1) f (va_up rw 1 (mSings td F nS (rw 1) s)) sc2 (z ||| (if mOpt (mSb td F (rw 1) s nS 0) = p then mBit s else iv 0)) (by omega) (by omega)
    rw [vu_up, vu_same] at g3
    refine ⟨sc3, r3, Eq.trans ?_ g3⟩
    by_cases c1 : mOpt (mSb td F (rw 1) s nS 0) = p
    · simp (maxSteps := 3000000) (disch := first | assumption | omega | (simp (disch := omega) only [okx_iv', nx_iv, iv_add, L0, L1, L2, L3, L7, L8, L14, L21, L28, L35, L55, L56, *]; try omega)) only [fX6_duty_l44, fX6_duty_i44, fX6_duty_j75, ↓gm_12, ↓gm_30, ↓bvm, ↓gvm, ↓ld_aTo, ↓ld_aRow, L0, L1, L31, h2, ↓gbn g1, ↓gbn g2, iv_add, no_def, nx_iv, okx_iv', iv_le, iv_lt, iv_eq, iv_no, no_iv, Nat.not_lt_zero, Nat.le_refl, vu_same, vu_ne, vu_up, ↓reduceIte, hc, c1, mBit]
    · simp (maxSteps := 3000000) (disch := first | assumption | omega | (simp (disch := omega) only [okx_iv', nx_iv, iv_add, L0, L1, L2, L3, L7, L8, L14, L21, L28, L35, L55, L56, *]; try omega)) only [fX6_duty_l44, fX6_duty_i44, fX6_duty_j75, ↓gm_12, ↓gm_30, ↓bvm, ↓gvm, ↓ld_aTo, ↓ld_aRow, L0, L1, L31, h2, ↓gbn g1, ↓gbn g2, iv_add, no_def, nx_iv, okx_iv', iv_le, iv_lt, iv_eq, iv_no, no_iv, Nat.not_lt_zero, Nat.le_refl, vu_same, vu_ne, vu_up, ↓reduceIte, hc, c1, mBit]
theorem Q_duty (I : invA c td lw rw bf kp st ln rd rl rn ms sc mc fa pm xl pc rt ra ch ow ou B nS nN nL sgA ntA lkA F tp wk im lm n) (hn : n < 64) (p : Int32) : qI c n (fX0_duty (some (aV c)) p (some (aOu c)) (zS c td lw rw bf kp st ln rd rl rn ms sc mc fa pm xl pc rt ra ch ow ou B)) (fun S => fX6_duty (some (aM c)) p S) := by
  have hN := I.2.2.1
  have hT := I.1
  have hC0 := I.2.2.2.1
  have hR := hC0.1
  have hB := I.2.2.2.2.2.2.2.2
  have hS := hT.2.1.1
  have hNn := hT.2.1.2.1
  have hLn := hT.2.1.2.2.1
  have hf : 1000 < gFU := by unfold gFU; omega
  obtain ⟨kl, hl1, hl2⟩ := I.2.1.1
  have hl3 := I.2.1.2
  rcases rngS p nS with ⟨s, hk0, rfl⟩ | e0
  rotate_left
  · have hC : fX1_duty (some (aV c)) p (zS c td lw rw bf kp st ln rd rl rn ms sc mc fa pm xl pc rt ra ch ow ou B) = some (.inr (32, B.2.1), (zS c td lw rw bf kp st ln rd rl rn ms sc (va_up mc 1 (va_up (mc 1) 0 (mc 1 0 + iv 1))) fa pm xl pc rt ra ch ow ou (bX 32 B))) := by
      unfold fX1_duty
      simp (maxSteps := 3000000) (disch := first | assumption | omega | (simp (disch := omega) only [okx_iv', nx_iv, iv_add, L0, L1, L2, L3, L7, L8, L14, L21, L28, L35, L55, L56, *]; try omega)) only [↓gv_6, ↓gv_5, ↓bvv, ↓gvv, ↓tvv, ↓bvc, ↓gvc, L0, iv_add, no_def, nx_iv, okx_iv', iv_le, iv_lt, iv_eq, iv_no, no_iv, Nat.not_lt_zero, Nat.le_refl, vu_same, vu_ne, vu_up, ↓reduceIte, Nat.reduceEqDiff, Nat.reduceLeDiff, Nat.reduceLT, Nat.one_ne_zero, Nat.zero_ne_one, if_true, if_false, ↓gtx (c_nsg0 hT.2.1 hB.1 (hB.rm hn (by decide) (by decide)) e0), or_true, ↓tvv, ↓gtn c_need1, ↓gtx (c_need0 hB.1 (hB.rm hn (by decide) (by decide)))]
    have hM : fX6_duty (some (aM c)) p (zS c td lw rw bf kp st ln rd rl rn ms sc (va_up mc 1 (va_up (mc 1) 0 (mc 1 0 + iv 1))) fa pm xl pc rt ra ch ow ou (bX 32 B)) = some (iv 0, (zS c td lw rw bf kp st ln rd rl rn (va_up ms 1 (va_up (ms 1) 0 (ms 1 0 + iv 1))) sc (va_up mc 1 (va_up (mc 1) 0 (mc 1 0 + iv 1))) fa (va_up pm 0 (iv 1)) xl pc rt ra ch ow ou (bX 32 B))) := by
      unfold fX6_duty fX6_duty_j19
      simp (maxSteps := 3000000) (disch := first | assumption | omega | (simp (disch := omega) only [okx_iv', nx_iv, iv_add, L0, L1, L2, L3, L7, L8, L14, L21, L28, L35, L55, L56, *]; try omega)) only [↓pm_0, ↓bvm, ↓gvm, ↓gm_29, ↓gm_30, ↓ld_aRow, L0, L1, iv_add, no_def, nx_iv, okx_iv', iv_le, iv_lt, iv_eq, iv_no, no_iv, Nat.not_lt_zero, Nat.le_refl, vu_same, vu_ne, vu_up, ↓reduceIte, Nat.reduceEqDiff, Nat.reduceLeDiff, Nat.reduceLT, Nat.one_ne_zero, Nat.zero_ne_one, if_true, if_false, in_eq, has_eq, vow_eq, ↓bnd (s_isS0 hT.1 e0), ↓gbn (s_bad0L (vu_same _ _ _)), ↓gbn (s_bad0 (vu_same _ _ _)), ↓gbn (s_bad01L (vu_same _ _ _)), ↓gbn (s_bad1 (k := 1) (r := 0) (vu_same _ _ _) (by decide) (by decide))]
    exact qI_no (k := 1) (by decide) ((w_no zis0 hC).trans rfl) zis3 hM (vu_same _ _ _) (bad01 I)
  have hx := @isC18 ow
  obtain ⟨g1, g2⟩ := c_probe (c := c) (td := td) (lw := lw) (rw := rw) (bf := bf) (kp := kp) (st := st) (ln := ln) (rd := rd) (rl := rl) (rn := rn) (ms := ms) (sc := sc) (mc := mc) (fa := fa) (pm := pm) (xl := xl) (pc := pc) (rt := rt) (ra := ra) (ch := ch) (ow := ow) (ou := ou) (B := B) hT.2.1 hR
  obtain ⟨V, hV⟩ : ∃ V, V = (foldN (mDuS td F nS (iv s)) nN 0 (mCpy (rw 0) (rw 1), iv 0)).2 := ⟨_, rfl⟩
  obtain ⟨fa1, b1, g3⟩ := q_duty_l (c := c) (td := td) (lw := lw) (rw := rw) (bf := bf) (kp := kp) (st := st) (ln := ln) (rd := rd) (rl := rl) (rn := rn) (ms := ms) (sc := sc) (mc := mc) (fa := fa) (pm := pm) (xl := xl) (pc := pc) (rt := rt) (ra := ra) (ch := va_up ch 18 (bCp (ch 12) (ch 18))) (ow := ow) (ou := ou) (B := B) hT.2.1 hl3 (p := iv s) nN 0 gFU (mCpy (rw 0) (rw 1)) (iv 0) (by rw [vu_same]; exact g2) (by omega) (by omega)
  rw [vu_up, ← hV] at g3
  obtain ⟨sc1, r1, g4⟩ := r_duty_l (c := c) (td := td) (lw := lw) (rw := va_up rw 1 (mCpy (rw 0) (rw 1))) (bf := bf) (kp := kp) (st := st) (ln := ln) (rd := rd) (rl := rl) (rn := rn) (ms := ms) (sc := sc) (mc := mc) (fa := fa1) (pm := va_up pm 0 (iv 0)) (xl := xl) (pc := pc) (rt := rt) (ra := ra) (ch := va_up ch 18 b1) (ow := ow) (ou := va_up ou 0 V.toInt64) (B := B) hl1 ((vu_ne (by decide)).trans hl2) hT.1 (p := iv s) nN 0 gFU (iv 0) (by omega) (by omega)
  rw [vu_same, vu_up, ← hV] at g4
  have hC : fX1_duty (some (aV c)) (iv s) (zS c td lw rw bf kp st ln rd rl rn ms sc mc fa pm xl pc rt ra ch ow ou B) = some (.inl (V), (zS c td lw rw bf kp st ln rd rl rn ms sc mc (fa1) pm xl pc rt ra (va_up ch 18 b1) ow ou B)) := by
    unfold fX1_duty
    simp (maxSteps := 3000000) (disch := first | assumption | omega | (simp (disch := omega) only [okx_iv', nx_iv, iv_add, L0, L1, L2, L3, L7, L8, L14, L21, L28, L35, L55, L56, *]; try omega)) only [↓gv_6, ↓gv_5, ↓bvv, ↓gvv, ↓tvv, ↓bvc, ↓gvc, L0, iv_add, no_def, nx_iv, okx_iv', iv_le, iv_lt, iv_eq, iv_no, no_iv, Nat.not_lt_zero, Nat.le_refl, vu_same, vu_ne, vu_up, ↓reduceIte, Nat.reduceEqDiff, Nat.reduceLeDiff, Nat.reduceLT, Nat.one_ne_zero, Nat.zero_ne_one, if_true, if_false, ↓gtn (c_nsg1 hT.2.1 hk0), Nat.zero_add, ↓tvv, ↓gtn c_need1, ↓gbn g1]
    exact g3
  have hM : fX6_duty (some (aM c)) (iv s) (zS c td lw rw bf kp st ln rd rl rn ms sc mc (fa1) pm xl pc rt ra (va_up ch 18 b1) ow (va_up ou 0 (V).toInt64) B) = some (V, (zS c td lw (va_up rw 1 r1) bf kp st ln rd rl rn ms (sc1) mc (fa1) (va_up pm 0 (iv 0)) xl pc rt ra (va_up ch 18 b1) ow (va_up ou 0 (V).toInt64) B)) := by
    unfold fX6_duty fX6_duty_j19
    simp (maxSteps := 3000000) (disch := first | assumption | omega | (simp (disch := omega) only [okx_iv', nx_iv, iv_add, L0, L1, L2, L3, L7, L8, L14, L21, L28, L35, L55, L56, *]; try omega)) only [↓pm_0, ↓bvm, ↓gvm, ↓gm_29, ↓gm_30, ↓ld_aRow, L0, L1, iv_add, no_def, nx_iv, okx_iv', iv_le, iv_lt, iv_eq, iv_no, no_iv, Nat.not_lt_zero, Nat.le_refl, vu_same, vu_ne, vu_up, ↓reduceIte, Nat.reduceEqDiff, Nat.reduceLeDiff, Nat.reduceLT, Nat.one_ne_zero, Nat.zero_ne_one, if_true, if_false, in_eq, has_eq, vow_eq, ↓bnd (s_isS1 hT.1 hk0), Nat.zero_add, ↓gbn (s_bad0L (vu_same _ _ _)), ↓gbn (s_bad0 (vu_same _ _ _)), ↓gbn s_copies]
    exact g4
  exact qI_ok (w_ok zis0 hC) zis3 hM (by simp (disch := omega) only [vu_same, vu_ne]) (vu_same _ _ _) (inv_q I (by first | rfl | simp (disch := omega) only [vu_ne]) (fun k hk => by first | rfl | simp (disch := omega) only [vu_ne]) (by first | rfl | simp (disch := omega) only [vu_ne]) (fun k hk => by first | rfl | simp (disch := omega) only [vu_ne]) (by first | exact ⟨hN.2.2.2.2.2.2.1, hN.2.2.2.2.2.2.2⟩ | (simp (disch := omega) only [vu_same, vu_ne, hN.2.2.2.2.2.2.1, hN.2.2.2.2.2.2.2, and_self])) (fun k hk => by first | rfl | simp (disch := omega) only [vu_ne]) (fun x hx => by first | rfl | simp (disch := omega) only [vu_ne]) (by first | exact Or.inl rfl | exact Or.inr ⟨_, rfl⟩))
/-! range -/
noncomputable def mRaS (td : Nat → Nat → Int32) (F : (Nat → Int32) → Int32) (nS nN p : Nat) (i : Nat) (q : (Nat → Int32) × Int32) : (Nat → Int32) × Int32 := ((mHymn td F nS nN q.1).1, if (mHymn td F nS nN q.1).1 (14 + p) ≤ q.1 (14 + p) then q.2 else iv i)
theorem q_range_l (h : tO (zV c ow B) rt td nS nN nL sgA ntA lkA) (hl : lwO (zV c ow B) rt F) {p : Nat} (hp : p < nS) : ∀ (j s fuel : Nat) (fa : Nat → Int32) (ch : Nat → (Nat → Nat → Int32) × (Nat → Int32)) (ρ : Nat → Int32) (z : Int32), CR nS nN (ch 18) ρ → s + j = 21 → j < fuel → ∃ fa' b', fX1_range_l22 fuel (iv p) (some (aCh c 18)) z (iv s) (zS c td lw rw bf kp st ln rd rl rn ms sc mc fa pm xl pc rt ra ch ow ou B) = some (.inl (foldN (mRaS td F nS nN p) j s (ρ, z)).2, (zS c td lw rw bf kp st ln rd rl rn ms sc mc (fa') pm xl pc rt ra (va_up ch 18 b') ow ou B)) := by
  intro j
  have hN := h.2.1
  have hS := h.1
  have hx := @isC18 ow
  induction j with
  | zero =>
    intro s fuel fa ch ρ z hr hs hf
    obtain ⟨f, rfl⟩ : ∃ f, fuel = f + 1 := ⟨fuel - 1, by omega⟩
    have hc : 20 < s := by omega
    refine ⟨fa, ch 18, ?_⟩
    simp (maxSteps := 3000000) (disch := first | assumption | omega | (simp (disch := omega) only [okx_iv', nx_iv, iv_add, L0, L1, L2, L3, L7, L8, L14, L21, L28, L35, L55, L56, *]; try omega)) only [fX1_range_l22, fX1_range_i22, ↓gh_1, ↓bvc, ↓gvc, ↓ld_aCA1, L0, L1, L20, iv_add, no_def, nx_iv, okx_iv', iv_le, iv_lt, iv_eq, iv_no, no_iv, Nat.not_lt_zero, Nat.le_refl, vu_same, vu_ne, vu_up, ↓reduceIte, hc, foldN, vu_id]
  | succ j ih =>
    intro s fuel fa ch ρ z hr hs hf
    obtain ⟨f, rfl⟩ : ∃ f, fuel = f + 1 := ⟨fuel - 1, by omega⟩
    have hc : ¬ 20 < s := by omega
    obtain ⟨fa2, b2, r2, -, h2⟩ := c_hymn (x := 18) (c := c) (td := td) (lw := lw) (rw := rw) (bf := bf) (kp := kp) (st := st) (ln := ln) (rd := rd) (rl := rl) (rn := rn) (ms := ms) (sc := sc) (mc := mc) (fa := fa) (pm := pm) (xl := xl) (pc := pc) (rt := rt) (ra := ra) (ch := ch) (ow := ow) (ou := ou) (B := B) h hl hx hr
    obtain ⟨fa3, b3, h3⟩ := ih (s + 1) f fa2 (va_up ch 18 b2) (mHymn td F nS nN ρ).1 (if (mHymn td F nS nN ρ).1 (14 + p) ≤ ρ (14 + p) then z else iv s) (by rw [vu_same]; exact r2) (by omega) (by omega)
    rw [vu_up] at h3
    refine ⟨fa3, b3, Eq.trans ?_ h3⟩
    have q1 := hr.l1 hp
    have q2 := r2.l1 hp
    by_cases c1 : (mHymn td F nS nN ρ).1 (14 + p) ≤ ρ (14 + p)
    · simp (maxSteps := 3000000) (disch := first | assumption | omega | (simp (disch := omega) only [okx_iv', nx_iv, iv_add, L0, L1, L2, L3, L7, L8, L14, L21, L28, L35, L55, L56, *]; try omega)) only [fX1_range_l22, fX1_range_i22, ↓gh_1, ↓bvc, ↓gvc, ↓ld_aCA1, L0, L1, L20, ↓gbn h2, iv_add, no_def, nx_iv, okx_iv', iv_le, iv_lt, iv_eq, iv_no, no_iv, Nat.not_lt_zero, Nat.le_refl, vu_same, vu_ne, vu_up, ↓reduceIte, hc, c1, q1, q2]
    · simp (maxSteps := 3000000) (disch := first | assumption | omega | (simp (disch := omega) only [okx_iv', nx_iv, iv_add, L0, L1, L2, L3, L7, L8, L14, L21, L28, L35, L55, L56, *]; try omega)) only [fX1_range_l22, fX1_range_i22, ↓gh_1, ↓bvc, ↓gvc, ↓ld_aCA1, L0, L1, L20, ↓gbn h2, iv_add, no_def, nx_iv, okx_iv', iv_le, iv_lt, iv_eq, iv_no, no_iv, Nat.not_lt_zero, Nat.le_refl, vu_same, vu_ne, vu_up, ↓reduceIte, hc, c1, q1, q2]
theorem r_range_l {kl : Nat} (hl : lOK lw kl F) (ht : tOK td nS nN nL) {p : Nat} (hp : p < nS) : ∀ (j s fuel : Nat) (rw sc : Nat → Nat → Int32) (pm : Nat → Int32) (z : Int32), pm 19 = iv kl → s + j = 21 → j < fuel → ∃ sc' ρ' y, fX6_range_l44 fuel (some (aM c)) (iv p) z (iv s) (zS c td lw rw bf kp st ln rd rl rn ms sc mc fa pm xl pc rt ra ch ow ou B) = some ((foldN (mRaS td F nS nN p) j s (rw 1, z)).2, (zS c td lw (va_up rw 1 ρ') bf kp st ln rd rl rn ms (sc') mc fa (va_up pm 38 y) xl pc rt ra ch ow ou B)) := by
  intro j
  have ht' := ht
  obtain ⟨h1, h2, h3, h4, h5, h6⟩ := ht
  induction j with
  | zero =>
    intro s fuel rw sc pm z hpm hs hf
    obtain ⟨f, rfl⟩ : ∃ f, fuel = f + 1 := ⟨fuel - 1, by omega⟩
    have hc : 20 < s := by omega
    refine ⟨sc, rw 1, pm 38, ?_⟩
    simp (maxSteps := 3000000) (disch := first | assumption | omega | (simp (disch := omega) only [okx_iv', nx_iv, iv_add, L0, L1, L2, L3, L7, L8, L14, L21, L28, L35, L55, L56, *]; try omega)) only [fX6_range_l44, fX6_range_i44, ↓gm_30, ↓bvm, ↓gvm, ↓ld_aRow, L0, L1, L14, L20, iv_add, no_def, nx_iv, okx_iv', iv_le, iv_lt, iv_eq, iv_no, no_iv, Nat.not_lt_zero, Nat.le_refl, vu_same, vu_ne, vu_up, ↓reduceIte, hc, foldN, vu_id]
  | succ j ih =>
    intro s fuel rw sc pm z hpm hs hf
    obtain ⟨f, rfl⟩ : ∃ f, fuel = f + 1 := ⟨fuel - 1, by omega⟩
    have hc : ¬ 20 < s := by omega
    obtain ⟨sc2, g2⟩ := s_hymns (c := c) (td := td) (lw := lw) (rw := rw) (bf := bf) (kp := kp) (st := st) (ln := ln) (rd := rd) (rl := rl) (rn := rn) (ms := ms) (sc := sc) (mc := mc) (fa := fa) (pm := pm) (xl := xl) (pc := pc) (rt := rt) (ra := ra) (ch := ch) (ow := ow) (ou := ou) (B := B) hl hpm ht' (b := 1) (by decide)
    obtain ⟨sc3, r3, y3, g3⟩ := ih (s + 1) f (va_up rw 1 (mHymn td F nS nN (rw 1)).1) sc2 (va_up pm 38 (mHymn td F nS nN (rw 1)).2) (if (mHymn td F nS nN (rw 1)).1 (14 + p) ≤ rw 1 (14 + p) then z else iv s) ((vu_ne (by decide)).trans hpm) (by omega) (by omega)
    rw [vu_up, vu_same, vu_up] at g3
    refine ⟨sc3, r3, y3, Eq.trans ?_ g3⟩
    by_cases c1 : (mHymn td F nS nN (rw 1)).1 (14 + p) ≤ rw 1 (14 + p)
    · simp (maxSteps := 3000000) (disch := first | assumption | omega | (simp (disch := omega) only [okx_iv', nx_iv, iv_add, L0, L1, L2, L3, L7, L8, L14, L21, L28, L35, L55, L56, *]; try omega)) only [fX6_range_l44, fX6_range_i44, ↓gm_30, ↓bvm, ↓gvm, ↓ld_aRow, L0, L1, L14, L20, ↓gbn g2, iv_add, no_def, nx_iv, okx_iv', iv_le, iv_lt, iv_eq, iv_no, no_iv, Nat.not_lt_zero, Nat.le_refl, vu_same, vu_ne, vu_up, ↓reduceIte, hc, c1]
    · simp (maxSteps := 3000000) (disch := first | assumption | omega | (simp (disch := omega) only [okx_iv', nx_iv, iv_add, L0, L1, L2, L3, L7, L8, L14, L21, L28, L35, L55, L56, *]; try omega)) only [fX6_range_l44, fX6_range_i44, ↓gm_30, ↓bvm, ↓gvm, ↓ld_aRow, L0, L1, L14, L20, ↓gbn g2, iv_add, no_def, nx_iv, okx_iv', iv_le, iv_lt, iv_eq, iv_no, no_iv, Nat.not_lt_zero, Nat.le_refl, vu_same, vu_ne, vu_up, ↓reduceIte, hc, c1]
theorem Q_range (I : invA c td lw rw bf kp st ln rd rl rn ms sc mc fa pm xl pc rt ra ch ow ou B nS nN nL sgA ntA lkA F tp wk im lm n) (hn : n < 64) (p : Int32) : qI c n (fX0_range (some (aV c)) p (some (aOu c)) (zS c td lw rw bf kp st ln rd rl rn ms sc mc fa pm xl pc rt ra ch ow ou B)) (fun S => fX6_range (some (aM c)) p S) := by
  have hN := I.2.2.1
  have hT := I.1
  have hC0 := I.2.2.2.1
  have hR := hC0.1
  have hB := I.2.2.2.2.2.2.2.2
  have hS := hT.2.1.1
  have hNn := hT.2.1.2.1
  have hLn := hT.2.1.2.2.1
  have hf : 1000 < gFU := by unfold gFU; omega
  obtain ⟨kl, hl1, hl2⟩ := I.2.1.1
  have hl3 := I.2.1.2
  rcases rngS p nS with ⟨s, hk0, rfl⟩ | e0
  rotate_left
  · have hC : fX1_range (some (aV c)) p (zS c td lw rw bf kp st ln rd rl rn ms sc mc fa pm xl pc rt ra ch ow ou B) = some (.inr (32, B.2.1), (zS c td lw rw bf kp st ln rd rl rn ms sc (va_up mc 1 (va_up (mc 1) 0 (mc 1 0 + iv 1))) fa pm xl pc rt ra ch ow ou (bX 32 B))) := by
      unfold fX1_range
      simp (maxSteps := 3000000) (disch := first | assumption | omega | (simp (disch := omega) only [okx_iv', nx_iv, iv_add, L0, L1, L2, L3, L7, L8, L14, L21, L28, L35, L55, L56, *]; try omega)) only [↓gv_6, ↓gv_5, ↓bvv, ↓gvv, ↓tvv, ↓bvc, ↓gvc, L0, L1, iv_add, no_def, nx_iv, okx_iv', iv_le, iv_lt, iv_eq, iv_no, no_iv, Nat.not_lt_zero, Nat.le_refl, vu_same, vu_ne, vu_up, ↓reduceIte, Nat.reduceEqDiff, Nat.reduceLeDiff, Nat.reduceLT, Nat.one_ne_zero, Nat.zero_ne_one, if_true, if_false, ↓gtx (c_nsg0 hT.2.1 hB.1 (hB.rm hn (by decide) (by decide)) e0), or_true, ↓tvv, ↓gtn c_need1, ↓gtx (c_need0 hB.1 (hB.rm hn (by decide) (by decide)))]
    have hM : fX6_range (some (aM c)) p (zS c td lw rw bf kp st ln rd rl rn ms sc (va_up mc 1 (va_up (mc 1) 0 (mc 1 0 + iv 1))) fa pm xl pc rt ra ch ow ou (bX 32 B)) = some (iv 0, (zS c td lw rw bf kp st ln rd rl rn (va_up ms 1 (va_up (ms 1) 0 (ms 1 0 + iv 1))) sc (va_up mc 1 (va_up (mc 1) 0 (mc 1 0 + iv 1))) fa (va_up pm 0 (iv 1)) xl pc rt ra ch ow ou (bX 32 B))) := by
      unfold fX6_range fX6_range_j19
      simp (maxSteps := 3000000) (disch := first | assumption | omega | (simp (disch := omega) only [okx_iv', nx_iv, iv_add, L0, L1, L2, L3, L7, L8, L14, L21, L28, L35, L55, L56, *]; try omega)) only [↓pm_0, ↓bvm, ↓gvm, ↓gm_29, ↓gm_30, ↓ld_aRow, L0, L1, iv_add, no_def, nx_iv, okx_iv', iv_le, iv_lt, iv_eq, iv_no, no_iv, Nat.not_lt_zero, Nat.le_refl, vu_same, vu_ne, vu_up, ↓reduceIte, Nat.reduceEqDiff, Nat.reduceLeDiff, Nat.reduceLT, Nat.one_ne_zero, Nat.zero_ne_one, if_true, if_false, in_eq, has_eq, vow_eq, ↓bnd (s_isS0 hT.1 e0), ↓gbn (s_bad0L (vu_same _ _ _)), ↓gbn (s_bad0 (vu_same _ _ _)), ↓gbn (s_bad01L (vu_same _ _ _)), ↓gbn (s_bad1 (k := 1) (r := 0) (vu_same _ _ _) (by decide) (by decide))]
    exact qI_no (k := 1) (by decide) ((w_no zis0 hC).trans rfl) zis3 hM (vu_same _ _ _) (bad01 I)
  have hx := @isC18 ow
  obtain ⟨g1, g2⟩ := c_probe (c := c) (td := td) (lw := lw) (rw := rw) (bf := bf) (kp := kp) (st := st) (ln := ln) (rd := rd) (rl := rl) (rn := rn) (ms := ms) (sc := sc) (mc := mc) (fa := fa) (pm := pm) (xl := xl) (pc := pc) (rt := rt) (ra := ra) (ch := ch) (ow := ow) (ou := ou) (B := B) hT.2.1 hR
  obtain ⟨V, hV⟩ : ∃ V, V = (foldN (mRaS td F nS nN s) 20 1 (mCpy (rw 0) (rw 1), iv 0)).2 := ⟨_, rfl⟩
  obtain ⟨fa1, b1, g3⟩ := q_range_l (c := c) (td := td) (lw := lw) (rw := rw) (bf := bf) (kp := kp) (st := st) (ln := ln) (rd := rd) (rl := rl) (rn := rn) (ms := ms) (sc := sc) (mc := mc) (fa := fa) (pm := pm) (xl := xl) (pc := pc) (rt := rt) (ra := ra) (ch := va_up ch 18 (bCp (ch 12) (ch 18))) (ow := ow) (ou := ou) (B := B) hT.2.1 hl3 (p := s) hk0 20 1 gFU (mCpy (rw 0) (rw 1)) (iv 0) (by rw [vu_same]; exact g2) (by omega) (by omega)
  rw [vu_up, ← hV] at g3
  obtain ⟨sc1, r1, y1, g4⟩ := r_range_l (c := c) (td := td) (lw := lw) (rw := va_up rw 1 (mCpy (rw 0) (rw 1))) (bf := bf) (kp := kp) (st := st) (ln := ln) (rd := rd) (rl := rl) (rn := rn) (ms := ms) (sc := sc) (mc := mc) (fa := fa1) (pm := va_up pm 0 (iv 0)) (xl := xl) (pc := pc) (rt := rt) (ra := ra) (ch := va_up ch 18 b1) (ow := ow) (ou := va_up ou 0 V.toInt64) (B := B) hl1 hT.1 (p := s) hk0 20 1 gFU (iv 0) ((vu_ne (by decide)).trans hl2) (by omega) (by omega)
  rw [vu_same, vu_up, ← hV] at g4
  have hC : fX1_range (some (aV c)) (iv s) (zS c td lw rw bf kp st ln rd rl rn ms sc mc fa pm xl pc rt ra ch ow ou B) = some (.inl (V), (zS c td lw rw bf kp st ln rd rl rn ms sc mc (fa1) pm xl pc rt ra (va_up ch 18 b1) ow ou B)) := by
    unfold fX1_range
    simp (maxSteps := 3000000) (disch := first | assumption | omega | (simp (disch := omega) only [okx_iv', nx_iv, iv_add, L0, L1, L2, L3, L7, L8, L14, L21, L28, L35, L55, L56, *]; try omega)) only [↓gv_6, ↓gv_5, ↓bvv, ↓gvv, ↓tvv, ↓bvc, ↓gvc, L0, L1, iv_add, no_def, nx_iv, okx_iv', iv_le, iv_lt, iv_eq, iv_no, no_iv, Nat.not_lt_zero, Nat.le_refl, vu_same, vu_ne, vu_up, ↓reduceIte, Nat.reduceEqDiff, Nat.reduceLeDiff, Nat.reduceLT, Nat.one_ne_zero, Nat.zero_ne_one, if_true, if_false, ↓gtn (c_nsg1 hT.2.1 hk0), Nat.zero_add, ↓tvv, ↓gtn c_need1, ↓gbn g1]
    exact g3
  have hM : fX6_range (some (aM c)) (iv s) (zS c td lw rw bf kp st ln rd rl rn ms sc mc (fa1) pm xl pc rt ra (va_up ch 18 b1) ow (va_up ou 0 (V).toInt64) B) = some (V, (zS c td lw (va_up rw 1 r1) bf kp st ln rd rl rn ms (sc1) mc (fa1) (va_up (va_up pm 0 (iv 0)) 38 y1) xl pc rt ra (va_up ch 18 b1) ow (va_up ou 0 (V).toInt64) B)) := by
    unfold fX6_range fX6_range_j19
    simp (maxSteps := 3000000) (disch := first | assumption | omega | (simp (disch := omega) only [okx_iv', nx_iv, iv_add, L0, L1, L2, L3, L7, L8, L14, L21, L28, L35, L55, L56, *]; try omega)) only [↓pm_0, ↓bvm, ↓gvm, ↓gm_29, ↓gm_30, ↓ld_aRow, L0, L1, iv_add, no_def, nx_iv, okx_iv', iv_le, iv_lt, iv_eq, iv_no, no_iv, Nat.not_lt_zero, Nat.le_refl, vu_same, vu_ne, vu_up, ↓reduceIte, Nat.reduceEqDiff, Nat.reduceLeDiff, Nat.reduceLT, Nat.one_ne_zero, Nat.zero_ne_one, if_true, if_false, in_eq, has_eq, vow_eq, ↓bnd (s_isS1 hT.1 hk0), Nat.zero_add, ↓gbn (s_bad0L (vu_same _ _ _)), ↓gbn (s_bad0 (vu_same _ _ _)), ↓gbn s_copies]
    exact g4
  exact qI_ok (w_ok zis0 hC) zis3 hM (by simp (disch := omega) only [vu_same, vu_ne]) (vu_same _ _ _) (inv_q I (by first | rfl | simp (disch := omega) only [vu_ne]) (fun k hk => by first | rfl | simp (disch := omega) only [vu_ne]) (by first | rfl | simp (disch := omega) only [vu_ne]) (fun k hk => by first | rfl | simp (disch := omega) only [vu_ne]) (by first | exact ⟨hN.2.2.2.2.2.2.1, hN.2.2.2.2.2.2.2⟩ | (simp (disch := omega) only [vu_same, vu_ne, hN.2.2.2.2.2.2.1, hN.2.2.2.2.2.2.2, and_self])) (fun k hk => by first | rfl | simp (disch := omega) only [vu_ne]) (fun x hx => by first | rfl | simp (disch := omega) only [vu_ne]) (by first | exact Or.inl rfl | exact Or.inr ⟨_, rfl⟩))
end s37
