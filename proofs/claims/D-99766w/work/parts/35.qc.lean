-- NAME 35.qc
set_option maxRecDepth 100000
theorem hrs0 : ∀ m, m < 8 → ∀ q, q < 128 → q < 2 ^ m → foldN (fun s x => x ||| (fX1_has (iv q) (iv s) <<< (iv s &&& iv 31))) m 0 (iv 0) = iv q := by decide +kernel
theorem hrs_eq {nS nN m : Nat} {b : (Nat → Nat → Int32) × (Nat → Int32)} {ρ : Nat → Int32} (hS : nS ≤ 7) (h : chO nS nN m b ρ) : b.2 5 = mHrs nS ρ := by
  obtain ⟨hr, -, -, q, h1, h2⟩ := h
  have h3 : q < 128 := Nat.lt_of_lt_of_le h1 (Nat.le_trans (Nat.pow_le_pow_right (by decide) hS) (by decide))
  rw [h2, ← hrs0 nS (by omega) q h3 h1]
  unfold mHrs
  refine foldN_eq nS 0 (iv 0) (fun i x _ hi => ?_)
  rw [← hr.2.2.1 i (by omega), h2]
section s35
variable {c : Nat} {td : Nat → Nat → Int32} {lw : Nat → Nat → Int32} {rw : Nat → Nat → Int32} {bf : Nat → Nat → Int32} {kp : Nat → Nat → Int32} {st : Nat → Nat → Int32} {ln : Nat → Nat → Int32} {rd : Nat → Nat → Int32} {rl : Nat → Nat → Int32} {rn : Nat → Nat → Int32} {ms : Nat → Nat → Int32} {sc : Nat → Nat → Int32} {mc : Nat → Nat → Int32} {fa : Nat → Int32} {pm : Nat → Int32} {xl : Nat → Int64} {pc : Nat → Int32} {rt : Nat → Option Nat} {ra : Nat → Nat → Option Nat} {ch : Nat → (Nat → Nat → Int32) × (Nat → Int32)} {ow : Nat → Option (Nat × Nat)} {ou : Nat → Int64} {B : gS}
variable {nS nN nL x : Nat} {sgA ntA lkA : Nat → Nat} {F : (Nat → Int32) → Int32} {tp wk im lm n : Nat} {ρ : Nat → Int32}
theorem c_sumS (h : tO (zV c ow B) rt td nS nN nL sgA ntA lkA) (hx : isC ow x) (hr : CR nS nN (ch x) ρ) : fX5_sum (some (aCh c x)) (some (aCA c x 1)) (zS c td lw rw bf kp st ln rd rl rn ms sc mc fa pm xl pc rt ra ch ow ou B) = some (mAll nS ρ 14) := by
  have := h.1
  rw [c_sum h hx (cl_aCA1 hx)]
  exact congrArg some (foldN_eq nS 0 (iv 0) (fun i z _ hi => by rw [(hr.1 i (by omega)).2.1]))
theorem c_sumO (h : tO (zV c ow B) rt td nS nN nL sgA ntA lkA) (hx : isC ow x) (hr : CR nS nN (ch x) ρ) : fX5_sum (some (aCh c x)) (some (aCA c x 3)) (zS c td lw rw bf kp st ln rd rl rn ms sc mc fa pm xl pc rt ra ch ow ou B) = some (mAll nS ρ 21) := by
  have := h.1
  rw [c_sum h hx (cl_aCA3 hx)]
  exact congrArg some (foldN_eq nS 0 (iv 0) (fun i z _ hi => by rw [(hr.1 i (by omega)).2.2.2]))
theorem c_sumL (h : tO (zV c ow B) rt td nS nN nL sgA ntA lkA) (hx : isC ow x) (hr : CR nS nN (ch x) ρ) : fX5_sum (some (aCh c x)) (some (aCA c x 0)) (zS c td lw rw bf kp st ln rd rl rn ms sc mc fa pm xl pc rt ra ch ow ou B) = some (mAll nS ρ 0) := by
  have := h.1
  rw [c_sum h hx (cl_aCA0 hx)]
  exact congrArg some (foldN_eq nS 0 (iv 0) (fun i z _ hi => by rw [(hr.1 i (by omega)).1, Nat.zero_add]))
def vLk (td : Nat → Nat → Int32) (k w : Nat) : Int32 := td (28 + k) w
theorem Q_like (I : invA c td lw rw bf kp st ln rd rl rn ms sc mc fa pm xl pc rt ra ch ow ou B nS nN nL sgA ntA lkA F tp wk im lm n) (hn : n < 64) (p q : Int32) : qI c n (fX0_like (some (aV c)) p q (some (aOu c)) (zS c td lw rw bf kp st ln rd rl rn ms sc mc fa pm xl pc rt ra ch ow ou B)) (fun S => fX6_like (some (aM c)) p q S) := by
  have hN := I.2.2.1
  have hT := I.1
  have hC0 := I.2.2.2.1
  have hR := hC0.1
  have hB := I.2.2.2.2.2.2.2.2
  have hS := hT.2.1.1
  have hNn := hT.2.1.2.1
  have hLn := hT.2.1.2.2.1
  have hf : 1000 < gFU := by unfold gFU; omega
  obtain ⟨kl, hl1, hl2⟩ := I.2.1.1
  have hl3 := I.2.1.2
  obtain ⟨_, _, hL0, ⟨t, l1, l2, l3, bb, cl, g1, g2, g3, g4, g5⟩, _, _, g6⟩ := id hT.2.1
  rcases rngS p nL with ⟨k, hk0, rfl⟩ | e0
  rotate_left
  · have hC : fX1_like (some (aV c)) p q (zS c td lw rw bf kp st ln rd rl rn ms sc mc fa pm xl pc rt ra ch ow ou B) = some (.inr (32, B.2.1), (zS c td lw rw bf kp st ln rd rl rn ms sc (va_up mc 1 (va_up (mc 1) 0 (mc 1 0 + iv 1))) fa pm xl pc rt ra ch ow ou (bX 32 B))) := by
      unfold fX1_like
      simp (maxSteps := 3000000) (disch := first | assumption | omega | (simp (disch := omega) only [okx_iv', nx_iv, iv_add, L0, L1, L2, L3, L7, L8, L14, L21, L28, L35, L55, L56, *]; try omega)) only [↓gv_0, ↓bvv, ↓gvv, ↓tvv, L0, iv_add, no_def, nx_iv, okx_iv', iv_le, iv_lt, iv_eq, iv_no, no_iv, Nat.not_lt_zero, Nat.le_refl, vu_same, vu_ne, vu_up, ↓reduceIte, Nat.reduceEqDiff, Nat.reduceLeDiff, Nat.reduceLT, Nat.one_ne_zero, Nat.zero_ne_one, if_true, if_false, ↓gtx (c_there0 hB.1 (hB.rm hn (by decide) (by decide)) e0), g1, ↓d_getR (cs := [1]) (k := 2) (v := some l3) g2 rfl rfl, ↓bnd (c_size g5), ↓tvv, ↓gtn c_need1, ↓gtx (c_need0 hB.1 (hB.rm hn (by decide) (by decide)))]
    have hM : fX6_like (some (aM c)) p q (zS c td lw rw bf kp st ln rd rl rn ms sc (va_up mc 1 (va_up (mc 1) 0 (mc 1 0 + iv 1))) fa pm xl pc rt ra ch ow ou (bX 32 B)) = some (iv 0, (zS c td lw rw bf kp st ln rd rl rn (va_up ms 1 (va_up (ms 1) 0 (ms 1 0 + iv 1))) sc (va_up mc 1 (va_up (mc 1) 0 (mc 1 0 + iv 1))) fa (va_up pm 0 (iv 1)) xl pc rt ra ch ow ou (bX 32 B))) := by
      unfold fX6_like fX6_like_j27 fX6_like_j50
      simp (maxSteps := 3000000) (disch := first | assumption | omega | (simp (disch := omega) only [okx_iv', nx_iv, iv_add, L0, L1, L2, L3, L7, L8, L14, L21, L28, L35, L55, L56, *]; try omega)) only [↓gm_12, ↓pm_0, ↓bvm, ↓gvm, ↓gm_18, ↓ld_aTo, ↓ld_aLks, ↓ld_aLk, L0, L1, L2, iv_add, no_def, nx_iv, okx_iv', iv_le, iv_lt, iv_eq, iv_no, no_iv, Nat.not_lt_zero, Nat.le_refl, vu_same, vu_ne, vu_up, ↓reduceIte, Nat.reduceEqDiff, Nat.reduceLeDiff, Nat.reduceLT, Nat.one_ne_zero, Nat.zero_ne_one, if_true, if_false, in_eq, has_eq, vow_eq, hT.1.2.2.1, rngS0 e0, ↓gbn (s_bad0L (vu_same _ _ _)), ↓gbn (s_bad0 (vu_same _ _ _)), ↓gbn (s_bad01L (vu_same _ _ _)), ↓gbn (s_bad1 (k := 1) (r := 0) (vu_same _ _ _) (by decide) (by decide))]
    exact qI_no (k := 1) (by decide) ((w_no zis0 hC).trans rfl) zis3 hM (vu_same _ _ _) (bad01 I)
  rcases rngP q with ⟨w, hk1, rfl⟩ | e1
  rotate_left
  · have hC : fX1_like (some (aV c)) (iv k) q (zS c td lw rw bf kp st ln rd rl rn ms sc mc fa pm xl pc rt ra ch ow ou B) = some (.inr (31, B.2.1), (zS c td lw rw bf kp st ln rd rl rn ms sc (va_up mc 1 (va_up (mc 1) 1 (mc 1 1 + iv 1))) fa pm xl pc rt ra ch ow ou (bX 31 B))) := by
      unfold fX1_like
      simp (maxSteps := 3000000) (disch := first | assumption | omega | (simp (disch := omega) only [okx_iv', nx_iv, iv_add, L0, L1, L2, L3, L7, L8, L14, L21, L28, L35, L55, L56, *]; try omega)) only [↓gv_0, ↓bvv, ↓gvv, ↓tvv, L0, iv_add, no_def, nx_iv, okx_iv', iv_le, iv_lt, iv_eq, iv_no, no_iv, Nat.not_lt_zero, Nat.le_refl, vu_same, vu_ne, vu_up, ↓reduceIte, Nat.reduceEqDiff, Nat.reduceLeDiff, Nat.reduceLT, Nat.one_ne_zero, Nat.zero_ne_one, if_true, if_false, ↓gtn (c_there1 hk0 (by omega)), e1.1, ↓gtx (c_need0e hB.1 (hB.rm hn (by decide) (by decide)) e1.1), g1, ↓d_getR (cs := [1]) (k := 2) (v := some l3) g2 rfl rfl, ↓bnd (c_size g5), ↓tvv, ↓gtn c_need1, ↓gtx (c_need0 hB.1 (hB.rm hn (by decide) (by decide)))]
    have hM : fX6_like (some (aM c)) (iv k) q (zS c td lw rw bf kp st ln rd rl rn ms sc (va_up mc 1 (va_up (mc 1) 1 (mc 1 1 + iv 1))) fa pm xl pc rt ra ch ow ou (bX 31 B)) = some (iv 0, (zS c td lw rw bf kp st ln rd rl rn (va_up ms 1 (va_up (ms 1) 1 (ms 1 1 + iv 1))) sc (va_up mc 1 (va_up (mc 1) 1 (mc 1 1 + iv 1))) fa (va_up pm 0 (iv 2)) xl pc rt ra ch ow ou (bX 31 B))) := by
      unfold fX6_like fX6_like_j27 fX6_like_j50
      simp (maxSteps := 3000000) (disch := first | assumption | omega | (simp (disch := omega) only [okx_iv', nx_iv, iv_add, L0, L1, L2, L3, L7, L8, L14, L21, L28, L35, L55, L56, *]; try omega)) only [↓gm_12, ↓pm_0, ↓bvm, ↓gvm, ↓gm_18, ↓ld_aTo, ↓ld_aLks, ↓ld_aLk, L0, L1, L2, iv_add, no_def, nx_iv, okx_iv', iv_le, iv_lt, iv_eq, iv_no, no_iv, Nat.not_lt_zero, Nat.le_refl, vu_same, vu_ne, vu_up, ↓reduceIte, Nat.reduceEqDiff, Nat.reduceLeDiff, Nat.reduceLT, Nat.one_ne_zero, Nat.zero_ne_one, if_true, if_false, in_eq, has_eq, vow_eq, hT.1.2.2.1, rngS1 hk0 (by omega), e1.2, ↓gbn (s_bad0L (vu_same _ _ _)), ↓gbn (s_bad0 (vu_same _ _ _)), ↓gbn (s_bad12L (vu_same _ _ _)), ↓gbn (s_bad1 (k := 2) (r := 1) (vu_same _ _ _) (by decide) (by decide))]
    exact qI_no (k := 2) (by decide) ((w_no zis0 hC).trans rfl) zis3 hM (vu_same _ _ _) (bad12 I)
  obtain ⟨b6, g7⟩ := g6 k hk0
  have hw8 : w = 0 ∨ w = 1 := by omega
  have hC : fX1_like (some (aV c)) (iv k) (iv w) (zS c td lw rw bf kp st ln rd rl rn ms sc mc fa pm xl pc rt ra ch ow ou B) = some (.inl (td (28 + k) w), (zS c td lw rw bf kp st ln rd rl rn ms sc mc fa pm xl pc rt ra ch ow ou B)) := by
    rcases hw8 with rfl | rfl
    all_goals unfold fX1_like
    all_goals simp (maxSteps := 3000000) (disch := first | assumption | omega | (simp (disch := omega) only [okx_iv', nx_iv, iv_add, L0, L1, L2, L3, L7, L8, L14, L21, L28, L35, L55, L56, *]; try omega)) only [↓gv_0, ↓bvv, ↓gvv, ↓tvv, L0, iv_add, no_def, nx_iv, okx_iv', iv_le, iv_lt, iv_eq, iv_no, no_iv, Nat.not_lt_zero, Nat.le_refl, vu_same, vu_ne, vu_up, ↓reduceIte, Nat.reduceEqDiff, Nat.reduceLeDiff, Nat.reduceLT, Nat.one_ne_zero, Nat.zero_ne_one, if_true, if_false, g1, ↓d_getR (cs := [1]) (k := 2) (v := some l3) g2 rfl rfl, ↓bnd (c_size g5), ↓gtn (c_there1 hk0 (by omega)), rngP1 hk1, ↓gtn (c_need1e (rngP1 hk1)), ↓tvv, ↓gtn c_need1, Nat.zero_add, ↓bnd (c_get g5 hk0), ↓d_getI (cs := [8]) (k := 0) g7 rfl rfl, ↓d_getI (cs := [8]) (k := 1) g7 rfl rfl, d_is (cs := [8]) g7]
    all_goals rfl
  have hM : fX6_like (some (aM c)) (iv k) (iv w) (zS c td lw rw bf kp st ln rd rl rn ms sc mc fa pm xl pc rt ra ch ow (va_up ou 0 (td (28 + k) w).toInt64) B) = some (td (28 + k) w, (zS c td lw rw bf kp st ln rd rl rn ms sc mc fa (va_up pm 0 (iv 0)) xl pc rt ra ch ow (va_up ou 0 (td (28 + k) w).toInt64) B)) := by
    unfold fX6_like fX6_like_j27 fX6_like_j50
    simp (maxSteps := 3000000) (disch := first | assumption | omega | (simp (disch := omega) only [okx_iv', nx_iv, iv_add, L0, L1, L2, L3, L7, L8, L14, L21, L28, L35, L55, L56, *]; try omega)) only [↓gm_12, ↓pm_0, ↓bvm, ↓gvm, ↓gm_18, ↓ld_aTo, ↓ld_aLks, ↓ld_aLk, L0, L1, L2, iv_add, no_def, nx_iv, okx_iv', iv_le, iv_lt, iv_eq, iv_no, no_iv, Nat.not_lt_zero, Nat.le_refl, vu_same, vu_ne, vu_up, ↓reduceIte, Nat.reduceEqDiff, Nat.reduceLeDiff, Nat.reduceLT, Nat.one_ne_zero, Nat.zero_ne_one, if_true, if_false, in_eq, has_eq, vow_eq, hT.1.2.2.1, rngS1 hk0 (by omega), rng1 hk1 (by decide), Nat.zero_add, ↓gbn (s_bad0L (vu_same _ _ _)), ↓gbn (s_bad0 (vu_same _ _ _)), hT.1.2.2.1]
  exact qI_ok (w_ok zis0 hC) zis3 hM (by simp (disch := omega) only [vu_same, vu_ne]) (vu_same _ _ _) (inv_q I (by first | rfl | simp (disch := omega) only [vu_ne]) (fun k hk => by first | rfl | simp (disch := omega) only [vu_ne]) (by first | rfl | simp (disch := omega) only [vu_ne]) (fun k hk => by first | rfl | simp (disch := omega) only [vu_ne]) (by first | exact ⟨hN.2.2.2.2.2.2.1, hN.2.2.2.2.2.2.2⟩ | (simp (disch := omega) only [vu_same, vu_ne, hN.2.2.2.2.2.2.1, hN.2.2.2.2.2.2.2, and_self])) (fun k hk => by first | rfl | simp (disch := omega) only [vu_ne]) (fun x hx => by first | rfl | simp (disch := omega) only [vu_ne]) (by first | exact Or.inl rfl | exact Or.inr ⟨_, rfl⟩))
def mWdd (td : Nat → Nat → Int32) (nN : Nat) (ρ : Nat → Int32) : Int32 := foldN (fun n z => z ||| (if ρ (35 + n) = td (8 + n) 0 then iv 0 else mBit n)) nN 0 (iv 0)
def vTd (td : Nat → Nat → Int32) (nS nN nL : Nat) (ρ : Nat → Int32) (l r : Int32) (w : Nat) (x : Int32) : Int32 := if w = 0 then iv nS else if w = 1 then iv nN else if w = 2 then iv nL else if w = 3 then ρ 56 else if w = 4 then mHrs nS ρ else if w = 5 then ρ 55 else if w = 6 then mAll nS ρ 14 else if w = 7 then mAll nS ρ 21 else if w = 8 then mAll nS ρ 0 else if w = 9 then l else if w = 10 then r else x
theorem r_told_l (ht : tOK td nS nN nL) {w : Nat} (hw : w = 0 ∨ w = 1 ∨ w = 2 ∨ w = 3 ∨ w = 4 ∨ w = 5 ∨ w = 6 ∨ w = 7 ∨ w = 8 ∨ w = 9 ∨ w = 10 ∨ w = 11) : ∀ (j s fuel : Nat) (z : Int32), s + j = nN → j < fuel → fX6_told_l35 fuel (some (aM c)) (iv w) z (iv s) (zS c td lw rw bf kp st ln rd rl rn ms sc mc fa pm xl pc rt ra ch ow ou B) = some (vTd td nS nN nL (rw 0) (pm 33) (pm 35) w (foldN (fun n z => z ||| (if rw 0 (35 + n) = td (8 + n) 0 then iv 0 else mBit n)) j s z), (zS c td lw rw bf kp st ln rd rl rn ms sc mc fa pm xl pc rt ra ch ow ou B)) := by
  intro j
  have ht' := ht
  have ⟨h1, h2, h3, h4, h5, h6⟩ := ht
  induction j with
  | zero =>
    intro s fuel z hs hf
    obtain ⟨f, rfl⟩ : ∃ f, fuel = f + 1 := ⟨fuel - 1, by omega⟩
    have hc : nN ≤ s := by omega
    simp (maxSteps := 3000000) (disch := first | assumption | omega | (simp (disch := omega) only [okx_iv', nx_iv, iv_add, L0, L1, L2, L3, L7, L8, L14, L21, L28, L35, L55, L56, *]; try omega)) only [fX6_told_l35, fX6_told_i35, ↓gm_12, ↓gm_29, ↓gm_33, ↓gm_35, ↓gm_16, ↓bvm, ↓gvm, ↓ld_aTo, ↓ld_aRow, ↓ld_aNts, ↓ld_aNt, L0, L1, L2, L3, L4, L5, L6, L7, L8, L9, L10, L14, L21, L31, L35, L55, L56, iv_add, no_def, nx_iv, okx_iv', iv_le, iv_lt, iv_eq, iv_no, no_iv, Nat.not_lt_zero, Nat.le_refl, vu_same, vu_ne, vu_up, ↓reduceIte, hc, foldN, h2, Nat.le_refl]
    have hh := s_hoarse (c := c) (td := td) (lw := lw) (rw := rw) (bf := bf) (kp := kp) (st := st) (ln := ln) (rd := rd) (rl := rl) (rn := rn) (ms := ms) (sc := sc) (mc := mc) (fa := fa) (pm := pm) (xl := xl) (pc := pc) (rt := rt) (ra := ra) (ch := ch) (ow := ow) (ou := ou) (B := B) ht' (b := 0) (by decide)
    have ha := s_all (c := c) (td := td) (lw := lw) (rw := rw) (bf := bf) (kp := kp) (st := st) (ln := ln) (rd := rd) (rl := rl) (rn := rn) (ms := ms) (sc := sc) (mc := mc) (fa := fa) (pm := pm) (xl := xl) (pc := pc) (rt := rt) (ra := ra) (ch := ch) (ow := ow) (ou := ou) (B := B) ht' (b := 0) (d := 14) (by decide) (by omega)
    have hb := s_all (c := c) (td := td) (lw := lw) (rw := rw) (bf := bf) (kp := kp) (st := st) (ln := ln) (rd := rd) (rl := rl) (rn := rn) (ms := ms) (sc := sc) (mc := mc) (fa := fa) (pm := pm) (xl := xl) (pc := pc) (rt := rt) (ra := ra) (ch := ch) (ow := ow) (ou := ou) (B := B) ht' (b := 0) (d := 21) (by decide) (by omega)
    have hd := s_all (c := c) (td := td) (lw := lw) (rw := rw) (bf := bf) (kp := kp) (st := st) (ln := ln) (rd := rd) (rl := rl) (rn := rn) (ms := ms) (sc := sc) (mc := mc) (fa := fa) (pm := pm) (xl := xl) (pc := pc) (rt := rt) (ra := ra) (ch := ch) (ow := ow) (ou := ou) (B := B) ht' (b := 0) (d := 0) (by decide) (by omega)
    rcases hw with rfl | rfl | rfl | rfl | rfl | rfl | rfl | rfl | rfl | rfl | rfl | rfl
    all_goals simp (maxSteps := 3000000) (disch := first | assumption | omega | (simp (disch := omega) only [okx_iv', nx_iv, iv_add, L0, L1, L2, L3, L7, L8, L14, L21, L28, L35, L55, L56, *]; try omega)) only [↓gm_12, ↓gm_29, ↓gm_33, ↓gm_35, ↓gm_16, ↓bvm, ↓gvm, ↓ld_aTo, ↓ld_aRow, ↓ld_aNts, ↓ld_aNt, L0, L1, L2, L3, L4, L5, L6, L7, L8, L9, L10, L14, L21, L31, L35, L55, L56, iv_add, no_def, nx_iv, okx_iv', iv_le, iv_lt, iv_eq, iv_no, no_iv, Nat.not_lt_zero, Nat.le_refl, vu_same, vu_ne, vu_up, ↓reduceIte, Nat.reduceEqDiff, Nat.reduceLeDiff, Nat.reduceLT, Nat.one_ne_zero, Nat.zero_ne_one, if_true, if_false, h1, h2, h3, ↓bnd hh, ↓bnd ha, ↓bnd hb, ↓bnd hd, vTd]
  | succ j ih =>
    intro s fuel z hs hf
    obtain ⟨f, rfl⟩ : ∃ f, fuel = f + 1 := ⟨fuel - 1, by omega⟩
    have hc : ¬ nN ≤ s := by omega
    refine Eq.trans ?_ (ih (s + 1) f ((fun n z => z ||| (if rw 0 (35 + n) = td (8 + n) 0 then iv 0 else mBit n)) s z) (by omega) (by omega))
    by_cases cc0 : rw 0 (35 + s) = td (8 + s) 0
    · simp (maxSteps := 3000000) (disch := first | assumption | omega | (simp (disch := omega) only [okx_iv', nx_iv, iv_add, L0, L1, L2, L3, L7, L8, L14, L21, L28, L35, L55, L56, *]; try omega)) only [fX6_told_l35, fX6_told_i35, ↓gm_12, ↓gm_29, ↓gm_33, ↓gm_35, ↓gm_16, ↓bvm, ↓gvm, ↓ld_aTo, ↓ld_aRow, ↓ld_aNts, ↓ld_aNt, L0, L1, L2, L3, L4, L5, L6, L7, L8, L9, L10, L14, L21, L31, L35, L55, L56, iv_add, no_def, nx_iv, okx_iv', iv_le, iv_lt, iv_eq, iv_no, no_iv, Nat.not_lt_zero, Nat.le_refl, vu_same, vu_ne, vu_up, ↓reduceIte, hc, h2, mBit, cc0, if_true, if_false]
    · simp (maxSteps := 3000000) (disch := first | assumption | omega | (simp (disch := omega) only [okx_iv', nx_iv, iv_add, L0, L1, L2, L3, L7, L8, L14, L21, L28, L35, L55, L56, *]; try omega)) only [fX6_told_l35, fX6_told_i35, ↓gm_12, ↓gm_29, ↓gm_33, ↓gm_35, ↓gm_16, ↓bvm, ↓gvm, ↓ld_aTo, ↓ld_aRow, ↓ld_aNts, ↓ld_aNt, L0, L1, L2, L3, L4, L5, L6, L7, L8, L9, L10, L14, L21, L31, L35, L55, L56, iv_add, no_def, nx_iv, okx_iv', iv_le, iv_lt, iv_eq, iv_no, no_iv, Nat.not_lt_zero, Nat.le_refl, vu_same, vu_ne, vu_up, ↓reduceIte, hc, h2, mBit, cc0, if_true, if_false]
theorem Q_told (I : invA c td lw rw bf kp st ln rd rl rn ms sc mc fa pm xl pc rt ra ch ow ou B nS nN nL sgA ntA lkA F tp wk im lm n) (hn : n < 64) (p : Int32) : qI c n (fX0_told (some (aV c)) p (some (aOu c)) (zS c td lw rw bf kp st ln rd rl rn ms sc mc fa pm xl pc rt ra ch ow ou B)) (fun S => fX6_told (some (aM c)) p S) := by
  have hN := I.2.2.1
  have hT := I.1
  have hC0 := I.2.2.2.1
  have hR := hC0.1
  have hB := I.2.2.2.2.2.2.2.2
  have hS := hT.2.1.1
  have hNn := hT.2.1.2.1
  have hLn := hT.2.1.2.2.1
  have hf : 1000 < gFU := by unfold gFU; omega
  obtain ⟨kl, hl1, hl2⟩ := I.2.1.1
  have hl3 := I.2.1.2
  rcases rng p 11 (by decide) with ⟨w, hk0, rfl⟩ | e0
  rotate_left
  · have hC : fX1_told (some (aV c)) p (zS c td lw rw bf kp st ln rd rl rn ms sc mc fa pm xl pc rt ra ch ow ou B) = some (.inr (31, B.2.1), (zS c td lw rw bf kp st ln rd rl rn ms sc (va_up mc 1 (va_up (mc 1) 1 (mc 1 1 + iv 1))) fa pm xl pc rt ra ch ow ou (bX 31 B))) := by
      unfold fX1_told
      simp (maxSteps := 3000000) (disch := first | assumption | omega | (simp (disch := omega) only [okx_iv', nx_iv, iv_add, L0, L1, L2, L3, L7, L8, L14, L21, L28, L35, L55, L56, *]; try omega)) only [↓gv_0, ↓gv_5, ↓gh_7, ↓gh_5, ↓gh_6, ↓gh_1, ↓gh_3, ↓gh_0, ↓gv_13, ↓gv_12, ↓bvv, ↓gvv, ↓tvv, ↓bvc, ↓gvc, ↓ld_aCA1, ↓ld_aCA3, ↓ld_aCA0, L0, L1, L2, L3, L4, L5, L6, L7, L8, L9, L10, L11, iv_add, no_def, nx_iv, okx_iv', iv_le, iv_lt, iv_eq, iv_no, no_iv, Nat.not_lt_zero, Nat.le_refl, vu_same, vu_ne, vu_up, ↓reduceIte, Nat.reduceEqDiff, Nat.reduceLeDiff, Nat.reduceLT, Nat.one_ne_zero, Nat.zero_ne_one, if_true, if_false, e0, ↓gtx (c_need0e hB.1 (hB.rm hn (by decide) (by decide)) (show fX1_isIn p (0 : Int32) (11 : Int32) = iv 0 from e0)), or_true, ↓tvv, ↓gtn c_need1, ↓gtx (c_need0 hB.1 (hB.rm hn (by decide) (by decide)))]
    have hM : fX6_told (some (aM c)) p (zS c td lw rw bf kp st ln rd rl rn ms sc (va_up mc 1 (va_up (mc 1) 1 (mc 1 1 + iv 1))) fa pm xl pc rt ra ch ow ou (bX 31 B)) = some (iv 0, (zS c td lw rw bf kp st ln rd rl rn (va_up ms 1 (va_up (ms 1) 1 (ms 1 1 + iv 1))) sc (va_up mc 1 (va_up (mc 1) 1 (mc 1 1 + iv 1))) fa (va_up pm 0 (iv 1)) xl pc rt ra ch ow ou (bX 31 B))) := by
      unfold fX6_told fX6_told_j21
      simp (maxSteps := 3000000) (disch := first | assumption | omega | (simp (disch := omega) only [okx_iv', nx_iv, iv_add, L0, L1, L2, L3, L7, L8, L14, L21, L28, L35, L55, L56, *]; try omega)) only [↓pm_0, ↓bvm, ↓gvm, L0, L1, L11, iv_add, no_def, nx_iv, okx_iv', iv_le, iv_lt, iv_eq, iv_no, no_iv, Nat.not_lt_zero, Nat.le_refl, vu_same, vu_ne, vu_up, ↓reduceIte, Nat.reduceEqDiff, Nat.reduceLeDiff, Nat.reduceLT, Nat.one_ne_zero, Nat.zero_ne_one, if_true, if_false, in_eq, has_eq, vow_eq, e0, ↓gbn (s_bad0L (vu_same _ _ _)), ↓gbn (s_bad0 (vu_same _ _ _)), ↓gbn (s_bad11L (vu_same _ _ _)), ↓gbn (s_bad1 (k := 1) (r := 1) (vu_same _ _ _) (by decide) (by decide))]
    exact qI_no (k := 1) (by decide) ((w_no zis0 hC).trans rfl) zis3 hM (vu_same _ _ _) (bad11 I)
  have hw8 : w = 0 ∨ w = 1 ∨ w = 2 ∨ w = 3 ∨ w = 4 ∨ w = 5 ∨ w = 6 ∨ w = 7 ∨ w = 8 ∨ w = 9 ∨ w = 10 ∨ w = 11 := by omega
  obtain ⟨_, _, hL0, ⟨t, l1, l2, l3, bb, cl, g1, g2, g3, g4, g5⟩, _, _, g6⟩ := id hT.2.1
  have hx := @isC12 ow
  have hh := hrs_eq hS hC0
  have hs1 := c_sumS (x := 12) (c := c) (td := td) (lw := lw) (rw := rw) (bf := bf) (kp := kp) (st := st) (ln := ln) (rd := rd) (rl := rl) (rn := rn) (ms := ms) (sc := sc) (mc := mc) (fa := fa) (pm := pm) (xl := xl) (pc := pc) (rt := rt) (ra := ra) (ch := ch) (ow := ow) (ou := ou) (B := B) hT.2.1 isC12 hR
  have hs2 := c_sumO (x := 12) (c := c) (td := td) (lw := lw) (rw := rw) (bf := bf) (kp := kp) (st := st) (ln := ln) (rd := rd) (rl := rl) (rn := rn) (ms := ms) (sc := sc) (mc := mc) (fa := fa) (pm := pm) (xl := xl) (pc := pc) (rt := rt) (ra := ra) (ch := ch) (ow := ow) (ou := ou) (B := B) hT.2.1 isC12 hR
  have hs3 := c_sumL (x := 12) (c := c) (td := td) (lw := lw) (rw := rw) (bf := bf) (kp := kp) (st := st) (ln := ln) (rd := rd) (rl := rl) (rn := rn) (ms := ms) (sc := sc) (mc := mc) (fa := fa) (pm := pm) (xl := xl) (pc := pc) (rt := rt) (ra := ra) (ch := ch) (ow := ow) (ou := ou) (B := B) hT.2.1 isC12 hR
  have hs4 : fX5_worded (some (aCh c 12)) (zS c td lw rw bf kp st ln rd rl rn ms sc mc fa pm xl pc rt ra ch ow ou B) = some (mWdd td nN (rw 0)) := c_worded_l hT.2.1 isC12 hR nN 0 gFU (iv 0) (by omega) (by omega)
  have hl := hN.2.2.2.2.2.1.1.trans hN.2.2.2.2.2.1.2.symm
  have hrf := hN.2.2.2.1
  have hC : fX1_told (some (aV c)) (iv w) (zS c td lw rw bf kp st ln rd rl rn ms sc mc fa pm xl pc rt ra ch ow ou B) = some (.inl (vTd td nS nN nL (rw 0) (pm 33) (pm 35) w (mWdd td nN (rw 0))), (zS c td lw rw bf kp st ln rd rl rn ms sc mc fa pm xl pc rt ra ch ow ou B)) := by
    rcases hw8 with rfl | rfl | rfl | rfl | rfl | rfl | rfl | rfl | rfl | rfl | rfl | rfl
    all_goals unfold fX1_told
    all_goals simp (maxSteps := 3000000) (disch := first | assumption | omega | (simp (disch := omega) only [okx_iv', nx_iv, iv_add, L0, L1, L2, L3, L7, L8, L14, L21, L28, L35, L55, L56, *]; try omega)) only [↓gv_0, ↓gv_5, ↓gh_7, ↓gh_5, ↓gh_6, ↓gh_1, ↓gh_3, ↓gh_0, ↓gv_13, ↓gv_12, ↓bvv, ↓gvv, ↓tvv, ↓bvc, ↓gvc, ↓ld_aCA1, ↓ld_aCA3, ↓ld_aCA0, L0, L1, L2, L3, L4, L5, L6, L7, L8, L9, L10, L11, iv_add, no_def, nx_iv, okx_iv', iv_le, iv_lt, iv_eq, iv_no, no_iv, Nat.not_lt_zero, Nat.le_refl, vu_same, vu_ne, vu_up, ↓reduceIte, Nat.reduceEqDiff, Nat.reduceLeDiff, Nat.reduceLT, Nat.one_ne_zero, Nat.zero_ne_one, if_true, if_false, rng1 hk0 (by decide), ↓gtn (c_need1e (show fX1_isIn _ (0 : Int32) (11 : Int32) = iv 1 from rng1 hk0 (by decide))), ↓tvv, ↓gtn c_need1, Nat.zero_add, g1, ↓d_getR (cs := [1]) (k := 2) (v := some l3) g2 rfl rfl, ↓bnd (c_size g5), ↓b_singers hT.2.1, ↓b_notes hT.2.1, vTd, hR.2.2.2.1, hR.2.2.2.2, hh, ↓bnd hs1, ↓bnd hs2, ↓bnd hs3, ↓bnd hs4, hl, hrf]
  have hM : fX6_told (some (aM c)) (iv w) (zS c td lw rw bf kp st ln rd rl rn ms sc mc fa pm xl pc rt ra ch ow (va_up ou 0 (vTd td nS nN nL (rw 0) (pm 33) (pm 35) w (mWdd td nN (rw 0))).toInt64) B) = some (vTd td nS nN nL (rw 0) (pm 33) (pm 35) w (mWdd td nN (rw 0)), (zS c td lw rw bf kp st ln rd rl rn ms sc mc fa (va_up pm 0 (iv 0)) xl pc rt ra ch ow (va_up ou 0 (vTd td nS nN nL (rw 0) (pm 33) (pm 35) w (mWdd td nN (rw 0))).toInt64) B)) := by
    unfold fX6_told fX6_told_j21
    simp (maxSteps := 3000000) (disch := first | assumption | omega | (simp (disch := omega) only [okx_iv', nx_iv, iv_add, L0, L1, L2, L3, L7, L8, L14, L21, L28, L35, L55, L56, *]; try omega)) only [↓pm_0, ↓bvm, ↓gvm, L0, L1, L11, iv_add, no_def, nx_iv, okx_iv', iv_le, iv_lt, iv_eq, iv_no, no_iv, Nat.not_lt_zero, Nat.le_refl, vu_same, vu_ne, vu_up, ↓reduceIte, Nat.reduceEqDiff, Nat.reduceLeDiff, Nat.reduceLT, Nat.one_ne_zero, Nat.zero_ne_one, if_true, if_false, in_eq, has_eq, vow_eq, rng1 hk0 (by decide), Nat.zero_add, ↓gbn (s_bad0L (vu_same _ _ _)), ↓gbn (s_bad0 (vu_same _ _ _))]
    have hq := r_told_l (c := c) (td := td) (lw := lw) (rw := rw) (bf := bf) (kp := kp) (st := st) (ln := ln) (rd := rd) (rl := rl) (rn := rn) (ms := ms) (sc := sc) (mc := mc) (fa := fa) (pm := va_up pm 0 (iv 0)) (xl := xl) (pc := pc) (rt := rt) (ra := ra) (ch := ch) (ow := ow) (ou := va_up ou 0 (vTd td nS nN nL (rw 0) (pm 33) (pm 35) w (mWdd td nN (rw 0))).toInt64) (B := B) hT.1 hw8 nN 0 gFU (iv 0) (by omega) (by omega)
    rw [hq, vu_ne (by decide), vu_ne (by decide)]
    rfl
  exact qI_ok (w_ok zis0 hC) zis3 hM (by simp (disch := omega) only [vu_same, vu_ne]) (vu_same _ _ _) (inv_q I (by first | rfl | simp (disch := omega) only [vu_ne]) (fun k hk => by first | rfl | simp (disch := omega) only [vu_ne]) (by first | rfl | simp (disch := omega) only [vu_ne]) (fun k hk => by first | rfl | simp (disch := omega) only [vu_ne]) (by first | exact ⟨hN.2.2.2.2.2.2.1, hN.2.2.2.2.2.2.2⟩ | (simp (disch := omega) only [vu_same, vu_ne, hN.2.2.2.2.2.2.1, hN.2.2.2.2.2.2.2, and_self])) (fun k hk => by first | rfl | simp (disch := omega) only [vu_ne]) (fun x hx => by first | rfl | simp (disch := omega) only [vu_ne]) (by first | exact Or.inl rfl | exact Or.inr ⟨_, rfl⟩))
theorem q_dearest_l (h : tO (zV c ow B) rt td nS nN nL sgA ntA lkA) {w : Nat} (hw : w ≤ 1) : ∀ (j s fuel : Nat) (o : Option Nat), (∀ q, o = some q → q < s) → s + j = nS → j < fuel → fX1_dearest_l12 fuel (some (aV c)) (iv w) (mOpt o) (iv s) (zS c td lw rw bf kp st ln rd rl rn ms sc mc fa pm xl pc rt ra ch ow ou B) = some (.inl (mBst (fun q => td (1 + q) 1) w (foldN (bStep (fun s q => td (1 + s) 1 ≤ td (1 + q) 1)) j s o)), (zS c td lw rw bf kp st ln rd rl rn ms sc mc fa pm xl pc rt ra ch ow ou B)) := by
  intro j
  have hS := h.1
  induction j with
  | zero =>
    intro s fuel o ho hs hf
    obtain ⟨f, rfl⟩ : ∃ f, fuel = f + 1 := ⟨fuel - 1, by omega⟩
    have hc : nS ≤ s := by omega
    cases o with
    | none =>
      by_cases hw0 : w = 0
      · simp (maxSteps := 3000000) (disch := first | assumption | omega | (simp (disch := omega) only [okx_iv', nx_iv, iv_add, L0, L1, L2, L3, L7, L8, L14, L21, L28, L35, L55, L56, *]; try omega)) only [fX1_dearest_l12, fX1_dearest_i12, ↓bvv, ↓gvv, ↓tvv, L0, L1, iv_add, no_def, nx_iv, okx_iv', iv_le, iv_lt, iv_eq, iv_no, no_iv, Nat.not_lt_zero, Nat.le_refl, vu_same, vu_ne, vu_up, ↓reduceIte, hc, foldN, mBst, mOpt, hw0, ↓b_singers h, ↓b_singerOf h, ↓b_sg1 h]
      · simp (maxSteps := 3000000) (disch := first | assumption | omega | (simp (disch := omega) only [okx_iv', nx_iv, iv_add, L0, L1, L2, L3, L7, L8, L14, L21, L28, L35, L55, L56, *]; try omega)) only [fX1_dearest_l12, fX1_dearest_i12, ↓bvv, ↓gvv, ↓tvv, L0, L1, iv_add, no_def, nx_iv, okx_iv', iv_le, iv_lt, iv_eq, iv_no, no_iv, Nat.not_lt_zero, Nat.le_refl, vu_same, vu_ne, vu_up, ↓reduceIte, hc, foldN, mBst, mOpt, hw0, ↓b_singers h, ↓b_singerOf h, ↓b_sg1 h]
    | some q =>
      have hq : q < nS := by have := ho q rfl; omega
      by_cases hw0 : w = 0
      · simp (maxSteps := 3000000) (disch := first | assumption | omega | (simp (disch := omega) only [okx_iv', nx_iv, iv_add, L0, L1, L2, L3, L7, L8, L14, L21, L28, L35, L55, L56, *]; try omega)) only [fX1_dearest_l12, fX1_dearest_i12, ↓bvv, ↓gvv, ↓tvv, L0, L1, iv_add, no_def, nx_iv, okx_iv', iv_le, iv_lt, iv_eq, iv_no, no_iv, Nat.not_lt_zero, Nat.le_refl, vu_same, vu_ne, vu_up, ↓reduceIte, hc, foldN, mBst, mOpt, hw0, if_true, ↓b_singers h, ↓b_singerOf h, ↓b_sg1 h]
      · simp (maxSteps := 3000000) (disch := first | assumption | omega | (simp (disch := omega) only [okx_iv', nx_iv, iv_add, L0, L1, L2, L3, L7, L8, L14, L21, L28, L35, L55, L56, *]; try omega)) only [fX1_dearest_l12, fX1_dearest_i12, ↓bvv, ↓gvv, ↓tvv, L0, L1, iv_add, no_def, nx_iv, okx_iv', iv_le, iv_lt, iv_eq, iv_no, no_iv, Nat.not_lt_zero, Nat.le_refl, vu_same, vu_ne, vu_up, ↓reduceIte, hc, foldN, mBst, mOpt, hw0, if_false, Nat.zero_add, ↓b_singers h, ↓b_singerOf h, ↓b_sg1 h]
  | succ j ih =>
    intro s fuel o ho hs hf
    obtain ⟨f, rfl⟩ : ∃ f, fuel = f + 1 := ⟨fuel - 1, by omega⟩
    have hc : ¬ nS ≤ s := by omega
    have hs1 : s < nS := by omega
    refine Eq.trans ?_ (ih (s + 1) f (bStep (fun s q => td (1 + s) 1 ≤ td (1 + q) 1) s o) (bStep_lt ho) (by omega) (by omega))
    cases o with
    | none =>
      simp (maxSteps := 3000000) (disch := first | assumption | omega | (simp (disch := omega) only [okx_iv', nx_iv, iv_add, L0, L1, L2, L3, L7, L8, L14, L21, L28, L35, L55, L56, *]; try omega)) only [fX1_dearest_l12, fX1_dearest_i12, ↓bvv, ↓gvv, ↓tvv, L0, L1, iv_add, no_def, nx_iv, okx_iv', iv_le, iv_lt, iv_eq, iv_no, no_iv, Nat.not_lt_zero, Nat.le_refl, vu_same, vu_ne, vu_up, ↓reduceIte, hc, mOpt, bStep, ↓b_singers h, ↓b_singerOf h, ↓b_sg1 h]
    | some q =>
      have hq : q < nS := by have := ho q rfl; omega
      by_cases ck : td (1 + s) 1 ≤ td (1 + q) 1
      · simp (maxSteps := 3000000) (disch := first | assumption | omega | (simp (disch := omega) only [okx_iv', nx_iv, iv_add, L0, L1, L2, L3, L7, L8, L14, L21, L28, L35, L55, L56, *]; try omega)) only [fX1_dearest_l12, fX1_dearest_i12, ↓bvv, ↓gvv, ↓tvv, L0, L1, iv_add, no_def, nx_iv, okx_iv', iv_le, iv_lt, iv_eq, iv_no, no_iv, Nat.not_lt_zero, Nat.le_refl, vu_same, vu_ne, vu_up, ↓reduceIte, hc, mOpt, bStep, ck, if_true, Nat.zero_add, ↓b_singers h, ↓b_singerOf h, ↓b_sg1 h]
      · simp (maxSteps := 3000000) (disch := first | assumption | omega | (simp (disch := omega) only [okx_iv', nx_iv, iv_add, L0, L1, L2, L3, L7, L8, L14, L21, L28, L35, L55, L56, *]; try omega)) only [fX1_dearest_l12, fX1_dearest_i12, ↓bvv, ↓gvv, ↓tvv, L0, L1, iv_add, no_def, nx_iv, okx_iv', iv_le, iv_lt, iv_eq, iv_no, no_iv, Nat.not_lt_zero, Nat.le_refl, vu_same, vu_ne, vu_up, ↓reduceIte, hc, mOpt, bStep, ck, if_false, Nat.zero_add, ↓b_singers h, ↓b_singerOf h, ↓b_sg1 h]
theorem r_dearest_l (ht : tOK td nS nN nL) {w : Nat} (hw : w ≤ 1) : ∀ (j s fuel : Nat) (o : Option Nat), (∀ q, o = some q → q < s) → s + j = nS → j < fuel → fX6_dearest_l34 fuel (some (aM c)) (iv w) (mOpt o) (iv s) (zS c td lw rw bf kp st ln rd rl rn ms sc mc fa pm xl pc rt ra ch ow ou B) = some ((mBst (fun q => td (1 + q) 1) w (foldN (bStep (fun s q => td (1 + s) 1 ≤ td (1 + q) 1)) j s o)), (zS c td lw rw bf kp st ln rd rl rn ms sc mc fa pm xl pc rt ra ch ow ou B)) := by
  intro j
  have ⟨h1, h2, h3, h4, h5, h6⟩ := ht
  induction j with
  | zero =>
    intro s fuel o ho hs hf
    obtain ⟨f, rfl⟩ : ∃ f, fuel = f + 1 := ⟨fuel - 1, by omega⟩
    have hc : nS ≤ s := by omega
    cases o with
    | none =>
      by_cases hw0 : w = 0
      · simp (maxSteps := 3000000) (disch := first | assumption | omega | (simp (disch := omega) only [okx_iv', nx_iv, iv_add, L0, L1, L2, L3, L7, L8, L14, L21, L28, L35, L55, L56, *]; try omega)) only [fX6_dearest_l34, fX6_dearest_i34, ↓gm_12, ↓gm_14, ↓ld_aTo, ↓ld_aSgs, ↓ld_aSg, L0, L1, iv_add, no_def, nx_iv, okx_iv', iv_le, iv_lt, iv_eq, iv_no, no_iv, Nat.not_lt_zero, Nat.le_refl, vu_same, vu_ne, vu_up, ↓reduceIte, hc, foldN, mBst, mOpt, hw0, h1]
      · simp (maxSteps := 3000000) (disch := first | assumption | omega | (simp (disch := omega) only [okx_iv', nx_iv, iv_add, L0, L1, L2, L3, L7, L8, L14, L21, L28, L35, L55, L56, *]; try omega)) only [fX6_dearest_l34, fX6_dearest_i34, ↓gm_12, ↓gm_14, ↓ld_aTo, ↓ld_aSgs, ↓ld_aSg, L0, L1, iv_add, no_def, nx_iv, okx_iv', iv_le, iv_lt, iv_eq, iv_no, no_iv, Nat.not_lt_zero, Nat.le_refl, vu_same, vu_ne, vu_up, ↓reduceIte, hc, foldN, mBst, mOpt, hw0, h1]
    | some q =>
      have hq : q < nS := by have := ho q rfl; omega
      by_cases hw0 : w = 0
      · simp (maxSteps := 3000000) (disch := first | assumption | omega | (simp (disch := omega) only [okx_iv', nx_iv, iv_add, L0, L1, L2, L3, L7, L8, L14, L21, L28, L35, L55, L56, *]; try omega)) only [fX6_dearest_l34, fX6_dearest_i34, ↓gm_12, ↓gm_14, ↓ld_aTo, ↓ld_aSgs, ↓ld_aSg, L0, L1, iv_add, no_def, nx_iv, okx_iv', iv_le, iv_lt, iv_eq, iv_no, no_iv, Nat.not_lt_zero, Nat.le_refl, vu_same, vu_ne, vu_up, ↓reduceIte, hc, foldN, mBst, mOpt, hw0, if_true, h1]
      · simp (maxSteps := 3000000) (disch := first | assumption | omega | (simp (disch := omega) only [okx_iv', nx_iv, iv_add, L0, L1, L2, L3, L7, L8, L14, L21, L28, L35, L55, L56, *]; try omega)) only [fX6_dearest_l34, fX6_dearest_i34, ↓gm_12, ↓gm_14, ↓ld_aTo, ↓ld_aSgs, ↓ld_aSg, L0, L1, iv_add, no_def, nx_iv, okx_iv', iv_le, iv_lt, iv_eq, iv_no, no_iv, Nat.not_lt_zero, Nat.le_refl, vu_same, vu_ne, vu_up, ↓reduceIte, hc, foldN, mBst, mOpt, hw0, if_false, Nat.zero_add, h1]
  | succ j ih =>
    intro s fuel o ho hs hf
    obtain ⟨f, rfl⟩ : ∃ f, fuel = f + 1 := ⟨fuel - 1, by omega⟩
    have hc : ¬ nS ≤ s := by omega
    have hs1 : s < nS := by omega
    refine Eq.trans ?_ (ih (s + 1) f (bStep (fun s q => td (1 + s) 1 ≤ td (1 + q) 1) s o) (bStep_lt ho) (by omega) (by omega))
    cases o with
    | none =>
      simp (maxSteps := 3000000) (disch := first | assumption | omega | (simp (disch := omega) only [okx_iv', nx_iv, iv_add, L0, L1, L2, L3, L7, L8, L14, L21, L28, L35, L55, L56, *]; try omega)) only [fX6_dearest_l34, fX6_dearest_i34, ↓gm_12, ↓gm_14, ↓ld_aTo, ↓ld_aSgs, ↓ld_aSg, L0, L1, iv_add, no_def, nx_iv, okx_iv', iv_le, iv_lt, iv_eq, iv_no, no_iv, Nat.not_lt_zero, Nat.le_refl, vu_same, vu_ne, vu_up, ↓reduceIte, hc, mOpt, bStep, h1]
    | some q =>
      have hq : q < nS := by have := ho q rfl; omega
      by_cases ck : td (1 + s) 1 ≤ td (1 + q) 1
      · simp (maxSteps := 3000000) (disch := first | assumption | omega | (simp (disch := omega) only [okx_iv', nx_iv, iv_add, L0, L1, L2, L3, L7, L8, L14, L21, L28, L35, L55, L56, *]; try omega)) only [fX6_dearest_l34, fX6_dearest_i34, ↓gm_12, ↓gm_14, ↓ld_aTo, ↓ld_aSgs, ↓ld_aSg, L0, L1, iv_add, no_def, nx_iv, okx_iv', iv_le, iv_lt, iv_eq, iv_no, no_iv, Nat.not_lt_zero, Nat.le_refl, vu_same, vu_ne, vu_up, ↓reduceIte, hc, mOpt, bStep, ck, if_true, Nat.zero_add, h1]
      · simp (maxSteps := 3000000) (disch := first | assumption | omega | (simp (disch := omega) only [okx_iv', nx_iv, iv_add, L0, L1, L2, L3, L7, L8, L14, L21, L28, L35, L55, L56, *]; try omega)) only [fX6_dearest_l34, fX6_dearest_i34, ↓gm_12, ↓gm_14, ↓ld_aTo, ↓ld_aSgs, ↓ld_aSg, L0, L1, iv_add, no_def, nx_iv, okx_iv', iv_le, iv_lt, iv_eq, iv_no, no_iv, Nat.not_lt_zero, Nat.le_refl, vu_same, vu_ne, vu_up, ↓reduceIte, hc, mOpt, bStep, ck, if_false, Nat.zero_add, h1]
theorem Q_dearest (I : invA c td lw rw bf kp st ln rd rl rn ms sc mc fa pm xl pc rt ra ch ow ou B nS nN nL sgA ntA lkA F tp wk im lm n) (hn : n < 64) (p : Int32) : qI c n (fX0_dearest (some (aV c)) p (some (aOu c)) (zS c td lw rw bf kp st ln rd rl rn ms sc mc fa pm xl pc rt ra ch ow ou B)) (fun S => fX6_dearest (some (aM c)) p S) := by
  have hN := I.2.2.1
  have hT := I.1
  have hC0 := I.2.2.2.1
  have hR := hC0.1
  have hB := I.2.2.2.2.2.2.2.2
  have hS := hT.2.1.1
  have hNn := hT.2.1.2.1
  have hLn := hT.2.1.2.2.1
  have hf : 1000 < gFU := by unfold gFU; omega
  obtain ⟨kl, hl1, hl2⟩ := I.2.1.1
  have hl3 := I.2.1.2
  rcases rngP p with ⟨w, hk0, rfl⟩ | e0
  rotate_left
  · have hC : fX1_dearest (some (aV c)) p (zS c td lw rw bf kp st ln rd rl rn ms sc mc fa pm xl pc rt ra ch ow ou B) = some (.inr (31, B.2.1), (zS c td lw rw bf kp st ln rd rl rn ms sc (va_up mc 1 (va_up (mc 1) 1 (mc 1 1 + iv 1))) fa pm xl pc rt ra ch ow ou (bX 31 B))) := by
      unfold fX1_dearest
      simp (maxSteps := 3000000) (disch := first | assumption | omega | (simp (disch := omega) only [okx_iv', nx_iv, iv_add, L0, L1, L2, L3, L7, L8, L14, L21, L28, L35, L55, L56, *]; try omega)) only [↓bvv, ↓gvv, ↓tvv, L0, L1, iv_add, no_def, nx_iv, okx_iv', iv_le, iv_lt, iv_eq, iv_no, no_iv, Nat.not_lt_zero, Nat.le_refl, vu_same, vu_ne, vu_up, ↓reduceIte, Nat.reduceEqDiff, Nat.reduceLeDiff, Nat.reduceLT, Nat.one_ne_zero, Nat.zero_ne_one, if_true, if_false, e0.1, ↓gtx (c_need0e hB.1 (hB.rm hn (by decide) (by decide)) e0.1), or_true, ↓tvv, ↓gtn c_need1, ↓gtx (c_need0 hB.1 (hB.rm hn (by decide) (by decide)))]
    have hM : fX6_dearest (some (aM c)) p (zS c td lw rw bf kp st ln rd rl rn ms sc (va_up mc 1 (va_up (mc 1) 1 (mc 1 1 + iv 1))) fa pm xl pc rt ra ch ow ou (bX 31 B)) = some (iv 0, (zS c td lw rw bf kp st ln rd rl rn (va_up ms 1 (va_up (ms 1) 1 (ms 1 1 + iv 1))) sc (va_up mc 1 (va_up (mc 1) 1 (mc 1 1 + iv 1))) fa (va_up pm 0 (iv 1)) xl pc rt ra ch ow ou (bX 31 B))) := by
      unfold fX6_dearest fX6_dearest_j20
      simp (maxSteps := 3000000) (disch := first | assumption | omega | (simp (disch := omega) only [okx_iv', nx_iv, iv_add, L0, L1, L2, L3, L7, L8, L14, L21, L28, L35, L55, L56, *]; try omega)) only [↓pm_0, ↓bvm, ↓gvm, L0, L1, iv_add, no_def, nx_iv, okx_iv', iv_le, iv_lt, iv_eq, iv_no, no_iv, Nat.not_lt_zero, Nat.le_refl, vu_same, vu_ne, vu_up, ↓reduceIte, Nat.reduceEqDiff, Nat.reduceLeDiff, Nat.reduceLT, Nat.one_ne_zero, Nat.zero_ne_one, if_true, if_false, in_eq, has_eq, vow_eq, e0.2, ↓gbn (s_bad0L (vu_same _ _ _)), ↓gbn (s_bad0 (vu_same _ _ _)), ↓gbn (s_bad11L (vu_same _ _ _)), ↓gbn (s_bad1 (k := 1) (r := 1) (vu_same _ _ _) (by decide) (by decide))]
    exact qI_no (k := 1) (by decide) ((w_no zis0 hC).trans rfl) zis3 hM (vu_same _ _ _) (bad11 I)
  have hC : fX1_dearest (some (aV c)) (iv w) (zS c td lw rw bf kp st ln rd rl rn ms sc mc fa pm xl pc rt ra ch ow ou B) = some (.inl (mBst (fun q => td (1 + q) 1) w (foldN (bStep (fun s q => td (1 + s) 1 ≤ td (1 + q) 1)) nS 0 none)), (zS c td lw rw bf kp st ln rd rl rn ms sc mc fa pm xl pc rt ra ch ow ou B)) := by
    unfold fX1_dearest
    simp (maxSteps := 3000000) (disch := first | assumption | omega | (simp (disch := omega) only [okx_iv', nx_iv, iv_add, L0, L1, L2, L3, L7, L8, L14, L21, L28, L35, L55, L56, *]; try omega)) only [↓bvv, ↓gvv, ↓tvv, L0, L1, iv_add, no_def, nx_iv, okx_iv', iv_le, iv_lt, iv_eq, iv_no, no_iv, Nat.not_lt_zero, Nat.le_refl, vu_same, vu_ne, vu_up, ↓reduceIte, Nat.reduceEqDiff, Nat.reduceLeDiff, Nat.reduceLT, Nat.one_ne_zero, Nat.zero_ne_one, if_true, if_false, rngP1 hk0, ↓gtn (c_need1e (rngP1 hk0)), Nat.zero_add, ↓tvv, ↓gtn c_need1]
    exact q_dearest_l hT.2.1 hk0 nS 0 gFU none (fun _ h => nomatch h) (by omega) (by omega)
  have hM : fX6_dearest (some (aM c)) (iv w) (zS c td lw rw bf kp st ln rd rl rn ms sc mc fa pm xl pc rt ra ch ow (va_up ou 0 (mBst (fun q => td (1 + q) 1) w (foldN (bStep (fun s q => td (1 + s) 1 ≤ td (1 + q) 1)) nS 0 none)).toInt64) B) = some (mBst (fun q => td (1 + q) 1) w (foldN (bStep (fun s q => td (1 + s) 1 ≤ td (1 + q) 1)) nS 0 none), (zS c td lw rw bf kp st ln rd rl rn ms sc mc fa (va_up pm 0 (iv 0)) xl pc rt ra ch ow (va_up ou 0 (mBst (fun q => td (1 + q) 1) w (foldN (bStep (fun s q => td (1 + s) 1 ≤ td (1 + q) 1)) nS 0 none)).toInt64) B)) := by
    unfold fX6_dearest fX6_dearest_j20
    simp (maxSteps := 3000000) (disch := first | assumption | omega | (simp (disch := omega) only [okx_iv', nx_iv, iv_add, L0, L1, L2, L3, L7, L8, L14, L21, L28, L35, L55, L56, *]; try omega)) only [↓pm_0, ↓bvm, ↓gvm, L0, L1, iv_add, no_def, nx_iv, okx_iv', iv_le, iv_lt, iv_eq, iv_no, no_iv, Nat.not_lt_zero, Nat.le_refl, vu_same, vu_ne, vu_up, ↓reduceIte, Nat.reduceEqDiff, Nat.reduceLeDiff, Nat.reduceLT, Nat.one_ne_zero, Nat.zero_ne_one, if_true, if_false, in_eq, has_eq, vow_eq, rng1 hk0 (by decide), Nat.zero_add, ↓gbn (s_bad0L (vu_same _ _ _)), ↓gbn (s_bad0 (vu_same _ _ _))]
    exact r_dearest_l hT.1 hk0 nS 0 gFU none (fun _ h => nomatch h) (by omega) (by omega)
  exact qI_ok (w_ok zis0 hC) zis3 hM (by simp (disch := omega) only [vu_same, vu_ne]) (vu_same _ _ _) (inv_q I (by first | rfl | simp (disch := omega) only [vu_ne]) (fun k hk => by first | rfl | simp (disch := omega) only [vu_ne]) (by first | rfl | simp (disch := omega) only [vu_ne]) (fun k hk => by first | rfl | simp (disch := omega) only [vu_ne]) (by first | exact ⟨hN.2.2.2.2.2.2.1, hN.2.2.2.2.2.2.2⟩ | (simp (disch := omega) only [vu_same, vu_ne, hN.2.2.2.2.2.2.1, hN.2.2.2.2.2.2.2, and_self])) (fun k hk => by first | rfl | simp (disch := omega) only [vu_ne]) (fun x hx => by first | rfl | simp (disch := omega) only [vu_ne]) (by first | exact Or.inl rfl | exact Or.inr ⟨_, rfl⟩))
theorem q_longest_l (h : tO (zV c ow B) rt td nS nN nL sgA ntA lkA) {w : Nat} (hw : w ≤ 1) : ∀ (j s fuel : Nat) (o : Option Nat), (∀ q, o = some q → q < s) → s + j = nN → j < fuel → fX1_longest_l12 fuel (some (aV c)) (iv w) (mOpt o) (iv s) (zS c td lw rw bf kp st ln rd rl rn ms sc mc fa pm xl pc rt ra ch ow ou B) = some (.inl (mBst (fun q => td (8 + q) 1) w (foldN (bStep (fun s q => td (8 + s) 1 ≤ td (8 + q) 1)) j s o)), (zS c td lw rw bf kp st ln rd rl rn ms sc mc fa pm xl pc rt ra ch ow ou B)) := by
  intro j
  have hN := h.2.1
  induction j with
  | zero =>
    intro s fuel o ho hs hf
    obtain ⟨f, rfl⟩ : ∃ f, fuel = f + 1 := ⟨fuel - 1, by omega⟩
    have hc : nN ≤ s := by omega
    cases o with
    | none =>
      by_cases hw0 : w = 0
      · simp (maxSteps := 3000000) (disch := first | assumption | omega | (simp (disch := omega) only [okx_iv', nx_iv, iv_add, L0, L1, L2, L3, L7, L8, L14, L21, L28, L35, L55, L56, *]; try omega)) only [fX1_longest_l12, fX1_longest_i12, ↓bvv, ↓gvv, ↓tvv, L0, L1, iv_add, no_def, nx_iv, okx_iv', iv_le, iv_lt, iv_eq, iv_no, no_iv, Nat.not_lt_zero, Nat.le_refl, vu_same, vu_ne, vu_up, ↓reduceIte, hc, foldN, mBst, mOpt, hw0, ↓b_notes h, ↓b_noteOf h, ↓b_nt1 h]
      · simp (maxSteps := 3000000) (disch := first | assumption | omega | (simp (disch := omega) only [okx_iv', nx_iv, iv_add, L0, L1, L2, L3, L7, L8, L14, L21, L28, L35, L55, L56, *]; try omega)) only [fX1_longest_l12, fX1_longest_i12, ↓bvv, ↓gvv, ↓tvv, L0, L1, iv_add, no_def, nx_iv, okx_iv', iv_le, iv_lt, iv_eq, iv_no, no_iv, Nat.not_lt_zero, Nat.le_refl, vu_same, vu_ne, vu_up, ↓reduceIte, hc, foldN, mBst, mOpt, hw0, ↓b_notes h, ↓b_noteOf h, ↓b_nt1 h]
    | some q =>
      have hq : q < nN := by have := ho q rfl; omega
      by_cases hw0 : w = 0
      · simp (maxSteps := 3000000) (disch := first | assumption | omega | (simp (disch := omega) only [okx_iv', nx_iv, iv_add, L0, L1, L2, L3, L7, L8, L14, L21, L28, L35, L55, L56, *]; try omega)) only [fX1_longest_l12, fX1_longest_i12, ↓bvv, ↓gvv, ↓tvv, L0, L1, iv_add, no_def, nx_iv, okx_iv', iv_le, iv_lt, iv_eq, iv_no, no_iv, Nat.not_lt_zero, Nat.le_refl, vu_same, vu_ne, vu_up, ↓reduceIte, hc, foldN, mBst, mOpt, hw0, if_true, ↓b_notes h, ↓b_noteOf h, ↓b_nt1 h]
      · simp (maxSteps := 3000000) (disch := first | assumption | omega | (simp (disch := omega) only [okx_iv', nx_iv, iv_add, L0, L1, L2, L3, L7, L8, L14, L21, L28, L35, L55, L56, *]; try omega)) only [fX1_longest_l12, fX1_longest_i12, ↓bvv, ↓gvv, ↓tvv, L0, L1, iv_add, no_def, nx_iv, okx_iv', iv_le, iv_lt, iv_eq, iv_no, no_iv, Nat.not_lt_zero, Nat.le_refl, vu_same, vu_ne, vu_up, ↓reduceIte, hc, foldN, mBst, mOpt, hw0, if_false, Nat.zero_add, ↓b_notes h, ↓b_noteOf h, ↓b_nt1 h]
  | succ j ih =>
    intro s fuel o ho hs hf
    obtain ⟨f, rfl⟩ : ∃ f, fuel = f + 1 := ⟨fuel - 1, by omega⟩
    have hc : ¬ nN ≤ s := by omega
    have hs1 : s < nN := by omega
    refine Eq.trans ?_ (ih (s + 1) f (bStep (fun s q => td (8 + s) 1 ≤ td (8 + q) 1) s o) (bStep_lt ho) (by omega) (by omega))
    cases o with
    | none =>
      simp (maxSteps := 3000000) (disch := first | assumption | omega | (simp (disch := omega) only [okx_iv', nx_iv, iv_add, L0, L1, L2, L3, L7, L8, L14, L21, L28, L35, L55, L56, *]; try omega)) only [fX1_longest_l12, fX1_longest_i12, ↓bvv, ↓gvv, ↓tvv, L0, L1, iv_add, no_def, nx_iv, okx_iv', iv_le, iv_lt, iv_eq, iv_no, no_iv, Nat.not_lt_zero, Nat.le_refl, vu_same, vu_ne, vu_up, ↓reduceIte, hc, mOpt, bStep, ↓b_notes h, ↓b_noteOf h, ↓b_nt1 h]
    | some q =>
      have hq : q < nN := by have := ho q rfl; omega
      by_cases ck : td (8 + s) 1 ≤ td (8 + q) 1
      · simp (maxSteps := 3000000) (disch := first | assumption | omega | (simp (disch := omega) only [okx_iv', nx_iv, iv_add, L0, L1, L2, L3, L7, L8, L14, L21, L28, L35, L55, L56, *]; try omega)) only [fX1_longest_l12, fX1_longest_i12, ↓bvv, ↓gvv, ↓tvv, L0, L1, iv_add, no_def, nx_iv, okx_iv', iv_le, iv_lt, iv_eq, iv_no, no_iv, Nat.not_lt_zero, Nat.le_refl, vu_same, vu_ne, vu_up, ↓reduceIte, hc, mOpt, bStep, ck, if_true, Nat.zero_add, ↓b_notes h, ↓b_noteOf h, ↓b_nt1 h]
      · simp (maxSteps := 3000000) (disch := first | assumption | omega | (simp (disch := omega) only [okx_iv', nx_iv, iv_add, L0, L1, L2, L3, L7, L8, L14, L21, L28, L35, L55, L56, *]; try omega)) only [fX1_longest_l12, fX1_longest_i12, ↓bvv, ↓gvv, ↓tvv, L0, L1, iv_add, no_def, nx_iv, okx_iv', iv_le, iv_lt, iv_eq, iv_no, no_iv, Nat.not_lt_zero, Nat.le_refl, vu_same, vu_ne, vu_up, ↓reduceIte, hc, mOpt, bStep, ck, if_false, Nat.zero_add, ↓b_notes h, ↓b_noteOf h, ↓b_nt1 h]
theorem r_longest_l (ht : tOK td nS nN nL) {w : Nat} (hw : w ≤ 1) : ∀ (j s fuel : Nat) (o : Option Nat), (∀ q, o = some q → q < s) → s + j = nN → j < fuel → fX6_longest_l34 fuel (some (aM c)) (iv w) (mOpt o) (iv s) (zS c td lw rw bf kp st ln rd rl rn ms sc mc fa pm xl pc rt ra ch ow ou B) = some ((mBst (fun q => td (8 + q) 1) w (foldN (bStep (fun s q => td (8 + s) 1 ≤ td (8 + q) 1)) j s o)), (zS c td lw rw bf kp st ln rd rl rn ms sc mc fa pm xl pc rt ra ch ow ou B)) := by
  intro j
  have ⟨h1, h2, h3, h4, h5, h6⟩ := ht
  induction j with
  | zero =>
    intro s fuel o ho hs hf
    obtain ⟨f, rfl⟩ : ∃ f, fuel = f + 1 := ⟨fuel - 1, by omega⟩
    have hc : nN ≤ s := by omega
    cases o with
    | none =>
      by_cases hw0 : w = 0
      · simp (maxSteps := 3000000) (disch := first | assumption | omega | (simp (disch := omega) only [okx_iv', nx_iv, iv_add, L0, L1, L2, L3, L7, L8, L14, L21, L28, L35, L55, L56, *]; try omega)) only [fX6_longest_l34, fX6_longest_i34, ↓gm_12, ↓gm_16, ↓ld_aTo, ↓ld_aNts, ↓ld_aNt, L0, L1, iv_add, no_def, nx_iv, okx_iv', iv_le, iv_lt, iv_eq, iv_no, no_iv, Nat.not_lt_zero, Nat.le_refl, vu_same, vu_ne, vu_up, ↓reduceIte, hc, foldN, mBst, mOpt, hw0, h2]
      · simp (maxSteps := 3000000) (disch := first | assumption | omega | (simp (disch := omega) only [okx_iv', nx_iv, iv_add, L0, L1, L2, L3, L7, L8, L14, L21, L28, L35, L55, L56, *]; try omega)) only [fX6_longest_l34, fX6_longest_i34, ↓gm_12, ↓gm_16, ↓ld_aTo, ↓ld_aNts, ↓ld_aNt, L0, L1, iv_add, no_def, nx_iv, okx_iv', iv_le, iv_lt, iv_eq, iv_no, no_iv, Nat.not_lt_zero, Nat.le_refl, vu_same, vu_ne, vu_up, ↓reduceIte, hc, foldN, mBst, mOpt, hw0, h2]
    | some q =>
      have hq : q < nN := by have := ho q rfl; omega
      by_cases hw0 : w = 0
      · simp (maxSteps := 3000000) (disch := first | assumption | omega | (simp (disch := omega) only [okx_iv', nx_iv, iv_add, L0, L1, L2, L3, L7, L8, L14, L21, L28, L35, L55, L56, *]; try omega)) only [fX6_longest_l34, fX6_longest_i34, ↓gm_12, ↓gm_16, ↓ld_aTo, ↓ld_aNts, ↓ld_aNt, L0, L1, iv_add, no_def, nx_iv, okx_iv', iv_le, iv_lt, iv_eq, iv_no, no_iv, Nat.not_lt_zero, Nat.le_refl, vu_same, vu_ne, vu_up, ↓reduceIte, hc, foldN, mBst, mOpt, hw0, if_true, h2]
      · simp (maxSteps := 3000000) (disch := first | assumption | omega | (simp (disch := omega) only [okx_iv', nx_iv, iv_add, L0, L1, L2, L3, L7, L8, L14, L21, L28, L35, L55, L56, *]; try omega)) only [fX6_longest_l34, fX6_longest_i34, ↓gm_12, ↓gm_16, ↓ld_aTo, ↓ld_aNts, ↓ld_aNt, L0, L1, iv_add, no_def, nx_iv, okx_iv', iv_le, iv_lt, iv_eq, iv_no, no_iv, Nat.not_lt_zero, Nat.le_refl, vu_same, vu_ne, vu_up, ↓reduceIte, hc, foldN, mBst, mOpt, hw0, if_false, Nat.zero_add, h2]
  | succ j ih =>
    intro s fuel o ho hs hf
    obtain ⟨f, rfl⟩ : ∃ f, fuel = f + 1 := ⟨fuel - 1, by omega⟩
    have hc : ¬ nN ≤ s := by omega
    have hs1 : s < nN := by omega
    refine Eq.trans ?_ (ih (s + 1) f (bStep (fun s q => td (8 + s) 1 ≤ td (8 + q) 1) s o) (bStep_lt ho) (by omega) (by omega))
    cases o with
    | none =>
      simp (maxSteps := 3000000) (disch := first | assumption | omega | (simp (disch := omega) only [okx_iv', nx_iv, iv_add, L0, L1, L2, L3, L7, L8, L14, L21, L28, L35, L55, L56, *]; try omega)) only [fX6_longest_l34, fX6_longest_i34, ↓gm_12, ↓gm_16, ↓ld_aTo, ↓ld_aNts, ↓ld_aNt, L0, L1, iv_add, no_def, nx_iv, okx_iv', iv_le, iv_lt, iv_eq, iv_no, no_iv, Nat.not_lt_zero, Nat.le_refl, vu_same, vu_ne, vu_up, ↓reduceIte, hc, mOpt, bStep, h2]
    | some q =>
      have hq : q < nN := by have := ho q rfl; omega
      by_cases ck : td (8 + s) 1 ≤ td (8 + q) 1
      · simp (maxSteps := 3000000) (disch := first | assumption | omega | (simp (disch := omega) only [okx_iv', nx_iv, iv_add, L0, L1, L2, L3, L7, L8, L14, L21, L28, L35, L55, L56, *]; try omega)) only [fX6_longest_l34, fX6_longest_i34, ↓gm_12, ↓gm_16, ↓ld_aTo, ↓ld_aNts, ↓ld_aNt, L0, L1, iv_add, no_def, nx_iv, okx_iv', iv_le, iv_lt, iv_eq, iv_no, no_iv, Nat.not_lt_zero, Nat.le_refl, vu_same, vu_ne, vu_up, ↓reduceIte, hc, mOpt, bStep, ck, if_true, Nat.zero_add, h2]
      · simp (maxSteps := 3000000) (disch := first | assumption | omega | (simp (disch := omega) only [okx_iv', nx_iv, iv_add, L0, L1, L2, L3, L7, L8, L14, L21, L28, L35, L55, L56, *]; try omega)) only [fX6_longest_l34, fX6_longest_i34, ↓gm_12, ↓gm_16, ↓ld_aTo, ↓ld_aNts, ↓ld_aNt, L0, L1, iv_add, no_def, nx_iv, okx_iv', iv_le, iv_lt, iv_eq, iv_no, no_iv, Nat.not_lt_zero, Nat.le_refl, vu_same, vu_ne, vu_up, ↓reduceIte, hc, mOpt, bStep, ck, if_false, Nat.zero_add, h2]
theorem Q_longest (I : invA c td lw rw bf kp st ln rd rl rn ms sc mc fa pm xl pc rt ra ch ow ou B nS nN nL sgA ntA lkA F tp wk im lm n) (hn : n < 64) (p : Int32) : qI c n (fX0_longest (some (aV c)) p (some (aOu c)) (zS c td lw rw bf kp st ln rd rl rn ms sc mc fa pm xl pc rt ra ch ow ou B)) (fun S => fX6_longest (some (aM c)) p S) := by
  have hN := I.2.2.1
  have hT := I.1
  have hC0 := I.2.2.2.1
  have hR := hC0.1
  have hB := I.2.2.2.2.2.2.2.2
  have hS := hT.2.1.1
  have hNn := hT.2.1.2.1
  have hLn := hT.2.1.2.2.1
  have hf : 1000 < gFU := by unfold gFU; omega
  obtain ⟨kl, hl1, hl2⟩ := I.2.1.1
  have hl3 := I.2.1.2
  rcases rngP p with ⟨w, hk0, rfl⟩ | e0
  rotate_left
  · have hC : fX1_longest (some (aV c)) p (zS c td lw rw bf kp st ln rd rl rn ms sc mc fa pm xl pc rt ra ch ow ou B) = some (.inr (31, B.2.1), (zS c td lw rw bf kp st ln rd rl rn ms sc (va_up mc 1 (va_up (mc 1) 1 (mc 1 1 + iv 1))) fa pm xl pc rt ra ch ow ou (bX 31 B))) := by
      unfold fX1_longest
      simp (maxSteps := 3000000) (disch := first | assumption | omega | (simp (disch := omega) only [okx_iv', nx_iv, iv_add, L0, L1, L2, L3, L7, L8, L14, L21, L28, L35, L55, L56, *]; try omega)) only [↓bvv, ↓gvv, ↓tvv, L0, L1, iv_add, no_def, nx_iv, okx_iv', iv_le, iv_lt, iv_eq, iv_no, no_iv, Nat.not_lt_zero, Nat.le_refl, vu_same, vu_ne, vu_up, ↓reduceIte, Nat.reduceEqDiff, Nat.reduceLeDiff, Nat.reduceLT, Nat.one_ne_zero, Nat.zero_ne_one, if_true, if_false, e0.1, ↓gtx (c_need0e hB.1 (hB.rm hn (by decide) (by decide)) e0.1), or_true, ↓tvv, ↓gtn c_need1, ↓gtx (c_need0 hB.1 (hB.rm hn (by decide) (by decide)))]
    have hM : fX6_longest (some (aM c)) p (zS c td lw rw bf kp st ln rd rl rn ms sc (va_up mc 1 (va_up (mc 1) 1 (mc 1 1 + iv 1))) fa pm xl pc rt ra ch ow ou (bX 31 B)) = some (iv 0, (zS c td lw rw bf kp st ln rd rl rn (va_up ms 1 (va_up (ms 1) 1 (ms 1 1 + iv 1))) sc (va_up mc 1 (va_up (mc 1) 1 (mc 1 1 + iv 1))) fa (va_up pm 0 (iv 1)) xl pc rt ra ch ow ou (bX 31 B))) := by
      unfold fX6_longest fX6_longest_j20
      simp (maxSteps := 3000000) (disch := first | assumption | omega | (simp (disch := omega) only [okx_iv', nx_iv, iv_add, L0, L1, L2, L3, L7, L8, L14, L21, L28, L35, L55, L56, *]; try omega)) only [↓pm_0, ↓bvm, ↓gvm, L0, L1, iv_add, no_def, nx_iv, okx_iv', iv_le, iv_lt, iv_eq, iv_no, no_iv, Nat.not_lt_zero, Nat.le_refl, vu_same, vu_ne, vu_up, ↓reduceIte, Nat.reduceEqDiff, Nat.reduceLeDiff, Nat.reduceLT, Nat.one_ne_zero, Nat.zero_ne_one, if_true, if_false, in_eq, has_eq, vow_eq, e0.2, ↓gbn (s_bad0L (vu_same _ _ _)), ↓gbn (s_bad0 (vu_same _ _ _)), ↓gbn (s_bad11L (vu_same _ _ _)), ↓gbn (s_bad1 (k := 1) (r := 1) (vu_same _ _ _) (by decide) (by decide))]
    exact qI_no (k := 1) (by decide) ((w_no zis0 hC).trans rfl) zis3 hM (vu_same _ _ _) (bad11 I)
  have hC : fX1_longest (some (aV c)) (iv w) (zS c td lw rw bf kp st ln rd rl rn ms sc mc fa pm xl pc rt ra ch ow ou B) = some (.inl (mBst (fun q => td (8 + q) 1) w (foldN (bStep (fun s q => td (8 + s) 1 ≤ td (8 + q) 1)) nN 0 none)), (zS c td lw rw bf kp st ln rd rl rn ms sc mc fa pm xl pc rt ra ch ow ou B)) := by
    unfold fX1_longest
    simp (maxSteps := 3000000) (disch := first | assumption | omega | (simp (disch := omega) only [okx_iv', nx_iv, iv_add, L0, L1, L2, L3, L7, L8, L14, L21, L28, L35, L55, L56, *]; try omega)) only [↓bvv, ↓gvv, ↓tvv, L0, L1, iv_add, no_def, nx_iv, okx_iv', iv_le, iv_lt, iv_eq, iv_no, no_iv, Nat.not_lt_zero, Nat.le_refl, vu_same, vu_ne, vu_up, ↓reduceIte, Nat.reduceEqDiff, Nat.reduceLeDiff, Nat.reduceLT, Nat.one_ne_zero, Nat.zero_ne_one, if_true, if_false, rngP1 hk0, ↓gtn (c_need1e (rngP1 hk0)), Nat.zero_add, ↓tvv, ↓gtn c_need1]
    exact q_longest_l hT.2.1 hk0 nN 0 gFU none (fun _ h => nomatch h) (by omega) (by omega)
  have hM : fX6_longest (some (aM c)) (iv w) (zS c td lw rw bf kp st ln rd rl rn ms sc mc fa pm xl pc rt ra ch ow (va_up ou 0 (mBst (fun q => td (8 + q) 1) w (foldN (bStep (fun s q => td (8 + s) 1 ≤ td (8 + q) 1)) nN 0 none)).toInt64) B) = some (mBst (fun q => td (8 + q) 1) w (foldN (bStep (fun s q => td (8 + s) 1 ≤ td (8 + q) 1)) nN 0 none), (zS c td lw rw bf kp st ln rd rl rn ms sc mc fa (va_up pm 0 (iv 0)) xl pc rt ra ch ow (va_up ou 0 (mBst (fun q => td (8 + q) 1) w (foldN (bStep (fun s q => td (8 + s) 1 ≤ td (8 + q) 1)) nN 0 none)).toInt64) B)) := by
    unfold fX6_longest fX6_longest_j20
    simp (maxSteps := 3000000) (disch := first | assumption | omega | (simp (disch := omega) only [okx_iv', nx_iv, iv_add, L0, L1, L2, L3, L7, L8, L14, L21, L28, L35, L55, L56, *]; try omega)) only [↓pm_0, ↓bvm, ↓gvm, L0, L1, iv_add, no_def, nx_iv, okx_iv', iv_le, iv_lt, iv_eq, iv_no, no_iv, Nat.not_lt_zero, Nat.le_refl, vu_same, vu_ne, vu_up, ↓reduceIte, Nat.reduceEqDiff, Nat.reduceLeDiff, Nat.reduceLT, Nat.one_ne_zero, Nat.zero_ne_one, if_true, if_false, in_eq, has_eq, vow_eq, rng1 hk0 (by decide), Nat.zero_add, ↓gbn (s_bad0L (vu_same _ _ _)), ↓gbn (s_bad0 (vu_same _ _ _))]
    exact r_longest_l hT.1 hk0 nN 0 gFU none (fun _ h => nomatch h) (by omega) (by omega)
  exact qI_ok (w_ok zis0 hC) zis3 hM (by simp (disch := omega) only [vu_same, vu_ne]) (vu_same _ _ _) (inv_q I (by first | rfl | simp (disch := omega) only [vu_ne]) (fun k hk => by first | rfl | simp (disch := omega) only [vu_ne]) (by first | rfl | simp (disch := omega) only [vu_ne]) (fun k hk => by first | rfl | simp (disch := omega) only [vu_ne]) (by first | exact ⟨hN.2.2.2.2.2.2.1, hN.2.2.2.2.2.2.2⟩ | (simp (disch := omega) only [vu_same, vu_ne, hN.2.2.2.2.2.2.1, hN.2.2.2.2.2.2.2, and_self])) (fun k hk => by first | rfl | simp (disch := omega) only [vu_ne]) (fun x hx => by first | rfl | simp (disch := omega) only [vu_ne]) (by first | exact Or.inl rfl | exact Or.inr ⟨_, rfl⟩))
theorem CR.l0 {b : (Nat → Nat → Int32) × (Nat → Int32)} (h : CR nS nN b ρ) {s : Nat} (hs : s < nS) : b.1 0 s = ρ s := (h.1 s hs).1
theorem q_spare_l (h : tO (zV c ow B) rt td nS nN nL sgA ntA lkA) (hr : CR nS nN (ch 12) (rw 0)) (hx : isC ow 12) {w : Nat} (hw : w ≤ 1) : ∀ (j s fuel : Nat) (o : Option Nat), (∀ q, o = some q → q < s) → s + j = nS → j < fuel → fX1_spare_l12 fuel (some (aV c)) (iv w) (mOpt o) (iv s) (zS c td lw rw bf kp st ln rd rl rn ms sc mc fa pm xl pc rt ra ch ow ou B) = some (.inl (mBst (fun q => rw 0 q) w (foldN (bStep (fun s q => rw 0 q ≤ rw 0 s)) j s o)), (zS c td lw rw bf kp st ln rd rl rn ms sc mc fa pm xl pc rt ra ch ow ou B)) := by
  intro j
  have hS := h.1
  induction j with
  | zero =>
    intro s fuel o ho hs hf
    obtain ⟨f, rfl⟩ : ∃ f, fuel = f + 1 := ⟨fuel - 1, by omega⟩
    have hc : nS ≤ s := by omega
    cases o with
    | none =>
      by_cases hw0 : w = 0
      · simp (maxSteps := 3000000) (disch := first | assumption | omega | (simp (disch := omega) only [okx_iv', nx_iv, iv_add, L0, L1, L2, L3, L7, L8, L14, L21, L28, L35, L55, L56, *]; try omega)) only [fX1_spare_l12, fX1_spare_i12, ↓gv_5, ↓gh_0, ↓bvv, ↓gvv, ↓tvv, ↓ld_aCA0, L0, L1, iv_add, no_def, nx_iv, okx_iv', iv_le, iv_lt, iv_eq, iv_no, no_iv, Nat.not_lt_zero, Nat.le_refl, vu_same, vu_ne, vu_up, ↓reduceIte, hc, foldN, mBst, mOpt, hw0, ↓b_singers h, hr.l0]
      · simp (maxSteps := 3000000) (disch := first | assumption | omega | (simp (disch := omega) only [okx_iv', nx_iv, iv_add, L0, L1, L2, L3, L7, L8, L14, L21, L28, L35, L55, L56, *]; try omega)) only [fX1_spare_l12, fX1_spare_i12, ↓gv_5, ↓gh_0, ↓bvv, ↓gvv, ↓tvv, ↓ld_aCA0, L0, L1, iv_add, no_def, nx_iv, okx_iv', iv_le, iv_lt, iv_eq, iv_no, no_iv, Nat.not_lt_zero, Nat.le_refl, vu_same, vu_ne, vu_up, ↓reduceIte, hc, foldN, mBst, mOpt, hw0, ↓b_singers h, hr.l0]
    | some q =>
      have hq : q < nS := by have := ho q rfl; omega
      by_cases hw0 : w = 0
      · simp (maxSteps := 3000000) (disch := first | assumption | omega | (simp (disch := omega) only [okx_iv', nx_iv, iv_add, L0, L1, L2, L3, L7, L8, L14, L21, L28, L35, L55, L56, *]; try omega)) only [fX1_spare_l12, fX1_spare_i12, ↓gv_5, ↓gh_0, ↓bvv, ↓gvv, ↓tvv, ↓ld_aCA0, L0, L1, iv_add, no_def, nx_iv, okx_iv', iv_le, iv_lt, iv_eq, iv_no, no_iv, Nat.not_lt_zero, Nat.le_refl, vu_same, vu_ne, vu_up, ↓reduceIte, hc, foldN, mBst, mOpt, hw0, if_true, ↓b_singers h, hr.l0]
      · simp (maxSteps := 3000000) (disch := first | assumption | omega | (simp (disch := omega) only [okx_iv', nx_iv, iv_add, L0, L1, L2, L3, L7, L8, L14, L21, L28, L35, L55, L56, *]; try omega)) only [fX1_spare_l12, fX1_spare_i12, ↓gv_5, ↓gh_0, ↓bvv, ↓gvv, ↓tvv, ↓ld_aCA0, L0, L1, iv_add, no_def, nx_iv, okx_iv', iv_le, iv_lt, iv_eq, iv_no, no_iv, Nat.not_lt_zero, Nat.le_refl, vu_same, vu_ne, vu_up, ↓reduceIte, hc, foldN, mBst, mOpt, hw0, if_false, Nat.zero_add, ↓b_singers h, hr.l0]
  | succ j ih =>
    intro s fuel o ho hs hf
    obtain ⟨f, rfl⟩ : ∃ f, fuel = f + 1 := ⟨fuel - 1, by omega⟩
    have hc : ¬ nS ≤ s := by omega
    have hs1 : s < nS := by omega
    refine Eq.trans ?_ (ih (s + 1) f (bStep (fun s q => rw 0 q ≤ rw 0 s) s o) (bStep_lt ho) (by omega) (by omega))
    cases o with
    | none =>
      simp (maxSteps := 3000000) (disch := first | assumption | omega | (simp (disch := omega) only [okx_iv', nx_iv, iv_add, L0, L1, L2, L3, L7, L8, L14, L21, L28, L35, L55, L56, *]; try omega)) only [fX1_spare_l12, fX1_spare_i12, ↓gv_5, ↓gh_0, ↓bvv, ↓gvv, ↓tvv, ↓ld_aCA0, L0, L1, iv_add, no_def, nx_iv, okx_iv', iv_le, iv_lt, iv_eq, iv_no, no_iv, Nat.not_lt_zero, Nat.le_refl, vu_same, vu_ne, vu_up, ↓reduceIte, hc, mOpt, bStep, ↓b_singers h, hr.l0]
    | some q =>
      have hq : q < nS := by have := ho q rfl; omega
      by_cases ck : rw 0 q ≤ rw 0 s
      · simp (maxSteps := 3000000) (disch := first | assumption | omega | (simp (disch := omega) only [okx_iv', nx_iv, iv_add, L0, L1, L2, L3, L7, L8, L14, L21, L28, L35, L55, L56, *]; try omega)) only [fX1_spare_l12, fX1_spare_i12, ↓gv_5, ↓gh_0, ↓bvv, ↓gvv, ↓tvv, ↓ld_aCA0, L0, L1, iv_add, no_def, nx_iv, okx_iv', iv_le, iv_lt, iv_eq, iv_no, no_iv, Nat.not_lt_zero, Nat.le_refl, vu_same, vu_ne, vu_up, ↓reduceIte, hc, mOpt, bStep, ck, if_true, Nat.zero_add, ↓b_singers h, hr.l0]
      · simp (maxSteps := 3000000) (disch := first | assumption | omega | (simp (disch := omega) only [okx_iv', nx_iv, iv_add, L0, L1, L2, L3, L7, L8, L14, L21, L28, L35, L55, L56, *]; try omega)) only [fX1_spare_l12, fX1_spare_i12, ↓gv_5, ↓gh_0, ↓bvv, ↓gvv, ↓tvv, ↓ld_aCA0, L0, L1, iv_add, no_def, nx_iv, okx_iv', iv_le, iv_lt, iv_eq, iv_no, no_iv, Nat.not_lt_zero, Nat.le_refl, vu_same, vu_ne, vu_up, ↓reduceIte, hc, mOpt, bStep, ck, if_false, Nat.zero_add, ↓b_singers h, hr.l0]
theorem r_spare_l (ht : tOK td nS nN nL) {w : Nat} (hw : w ≤ 1) : ∀ (j s fuel : Nat) (o : Option Nat), (∀ q, o = some q → q < s) → s + j = nS → j < fuel → fX6_spare_l34 fuel (some (aM c)) (iv w) (mOpt o) (iv s) (zS c td lw rw bf kp st ln rd rl rn ms sc mc fa pm xl pc rt ra ch ow ou B) = some ((mBst (fun q => rw 0 q) w (foldN (bStep (fun s q => rw 0 q ≤ rw 0 s)) j s o)), (zS c td lw rw bf kp st ln rd rl rn ms sc mc fa pm xl pc rt ra ch ow ou B)) := by
  intro j
  have ⟨h1, h2, h3, h4, h5, h6⟩ := ht
  induction j with
  | zero =>
    intro s fuel o ho hs hf
    obtain ⟨f, rfl⟩ : ∃ f, fuel = f + 1 := ⟨fuel - 1, by omega⟩
    have hc : nS ≤ s := by omega
    cases o with
    | none =>
      by_cases hw0 : w = 0
      · simp (maxSteps := 3000000) (disch := first | assumption | omega | (simp (disch := omega) only [okx_iv', nx_iv, iv_add, L0, L1, L2, L3, L7, L8, L14, L21, L28, L35, L55, L56, *]; try omega)) only [fX6_spare_l34, fX6_spare_i34, ↓gm_12, ↓gm_29, ↓ld_aTo, ↓ld_aRow, L0, L1, iv_add, no_def, nx_iv, okx_iv', iv_le, iv_lt, iv_eq, iv_no, no_iv, Nat.not_lt_zero, Nat.le_refl, vu_same, vu_ne, vu_up, ↓reduceIte, hc, foldN, mBst, mOpt, hw0, h1, Nat.zero_add]
      · simp (maxSteps := 3000000) (disch := first | assumption | omega | (simp (disch := omega) only [okx_iv', nx_iv, iv_add, L0, L1, L2, L3, L7, L8, L14, L21, L28, L35, L55, L56, *]; try omega)) only [fX6_spare_l34, fX6_spare_i34, ↓gm_12, ↓gm_29, ↓ld_aTo, ↓ld_aRow, L0, L1, iv_add, no_def, nx_iv, okx_iv', iv_le, iv_lt, iv_eq, iv_no, no_iv, Nat.not_lt_zero, Nat.le_refl, vu_same, vu_ne, vu_up, ↓reduceIte, hc, foldN, mBst, mOpt, hw0, h1, Nat.zero_add]
    | some q =>
      have hq : q < nS := by have := ho q rfl; omega
      by_cases hw0 : w = 0
      · simp (maxSteps := 3000000) (disch := first | assumption | omega | (simp (disch := omega) only [okx_iv', nx_iv, iv_add, L0, L1, L2, L3, L7, L8, L14, L21, L28, L35, L55, L56, *]; try omega)) only [fX6_spare_l34, fX6_spare_i34, ↓gm_12, ↓gm_29, ↓ld_aTo, ↓ld_aRow, L0, L1, iv_add, no_def, nx_iv, okx_iv', iv_le, iv_lt, iv_eq, iv_no, no_iv, Nat.not_lt_zero, Nat.le_refl, vu_same, vu_ne, vu_up, ↓reduceIte, hc, foldN, mBst, mOpt, hw0, if_true, h1, Nat.zero_add]
      · simp (maxSteps := 3000000) (disch := first | assumption | omega | (simp (disch := omega) only [okx_iv', nx_iv, iv_add, L0, L1, L2, L3, L7, L8, L14, L21, L28, L35, L55, L56, *]; try omega)) only [fX6_spare_l34, fX6_spare_i34, ↓gm_12, ↓gm_29, ↓ld_aTo, ↓ld_aRow, L0, L1, iv_add, no_def, nx_iv, okx_iv', iv_le, iv_lt, iv_eq, iv_no, no_iv, Nat.not_lt_zero, Nat.le_refl, vu_same, vu_ne, vu_up, ↓reduceIte, hc, foldN, mBst, mOpt, hw0, if_false, Nat.zero_add, h1, Nat.zero_add]
  | succ j ih =>
    intro s fuel o ho hs hf
    obtain ⟨f, rfl⟩ : ∃ f, fuel = f + 1 := ⟨fuel - 1, by omega⟩
    have hc : ¬ nS ≤ s := by omega
    have hs1 : s < nS := by omega
    refine Eq.trans ?_ (ih (s + 1) f (bStep (fun s q => rw 0 q ≤ rw 0 s) s o) (bStep_lt ho) (by omega) (by omega))
    cases o with
    | none =>
      simp (maxSteps := 3000000) (disch := first | assumption | omega | (simp (disch := omega) only [okx_iv', nx_iv, iv_add, L0, L1, L2, L3, L7, L8, L14, L21, L28, L35, L55, L56, *]; try omega)) only [fX6_spare_l34, fX6_spare_i34, ↓gm_12, ↓gm_29, ↓ld_aTo, ↓ld_aRow, L0, L1, iv_add, no_def, nx_iv, okx_iv', iv_le, iv_lt, iv_eq, iv_no, no_iv, Nat.not_lt_zero, Nat.le_refl, vu_same, vu_ne, vu_up, ↓reduceIte, hc, mOpt, bStep, h1, Nat.zero_add]
    | some q =>
      have hq : q < nS := by have := ho q rfl; omega
      by_cases ck : rw 0 q ≤ rw 0 s
      · simp (maxSteps := 3000000) (disch := first | assumption | omega | (simp (disch := omega) only [okx_iv', nx_iv, iv_add, L0, L1, L2, L3, L7, L8, L14, L21, L28, L35, L55, L56, *]; try omega)) only [fX6_spare_l34, fX6_spare_i34, ↓gm_12, ↓gm_29, ↓ld_aTo, ↓ld_aRow, L0, L1, iv_add, no_def, nx_iv, okx_iv', iv_le, iv_lt, iv_eq, iv_no, no_iv, Nat.not_lt_zero, Nat.le_refl, vu_same, vu_ne, vu_up, ↓reduceIte, hc, mOpt, bStep, ck, if_true, Nat.zero_add, h1, Nat.zero_add]
      · simp (maxSteps := 3000000) (disch := first | assumption | omega | (simp (disch := omega) only [okx_iv', nx_iv, iv_add, L0, L1, L2, L3, L7, L8, L14, L21, L28, L35, L55, L56, *]; try omega)) only [fX6_spare_l34, fX6_spare_i34, ↓gm_12, ↓gm_29, ↓ld_aTo, ↓ld_aRow, L0, L1, iv_add, no_def, nx_iv, okx_iv', iv_le, iv_lt, iv_eq, iv_no, no_iv, Nat.not_lt_zero, Nat.le_refl, vu_same, vu_ne, vu_up, ↓reduceIte, hc, mOpt, bStep, ck, if_false, Nat.zero_add, h1, Nat.zero_add]
theorem Q_spare (I : invA c td lw rw bf kp st ln rd rl rn ms sc mc fa pm xl pc rt ra ch ow ou B nS nN nL sgA ntA lkA F tp wk im lm n) (hn : n < 64) (p : Int32) : qI c n (fX0_spare (some (aV c)) p (some (aOu c)) (zS c td lw rw bf kp st ln rd rl rn ms sc mc fa pm xl pc rt ra ch ow ou B)) (fun S => fX6_spare (some (aM c)) p S) := by
  have hN := I.2.2.1
  have hT := I.1
  have hC0 := I.2.2.2.1
  have hR := hC0.1
  have hB := I.2.2.2.2.2.2.2.2
  have hS := hT.2.1.1
  have hNn := hT.2.1.2.1
  have hLn := hT.2.1.2.2.1
  have hf : 1000 < gFU := by unfold gFU; omega
  obtain ⟨kl, hl1, hl2⟩ := I.2.1.1
  have hl3 := I.2.1.2
  rcases rngP p with ⟨w, hk0, rfl⟩ | e0
  rotate_left
  · have hC : fX1_spare (some (aV c)) p (zS c td lw rw bf kp st ln rd rl rn ms sc mc fa pm xl pc rt ra ch ow ou B) = some (.inr (31, B.2.1), (zS c td lw rw bf kp st ln rd rl rn ms sc (va_up mc 1 (va_up (mc 1) 1 (mc 1 1 + iv 1))) fa pm xl pc rt ra ch ow ou (bX 31 B))) := by
      unfold fX1_spare
      simp (maxSteps := 3000000) (disch := first | assumption | omega | (simp (disch := omega) only [okx_iv', nx_iv, iv_add, L0, L1, L2, L3, L7, L8, L14, L21, L28, L35, L55, L56, *]; try omega)) only [↓bvv, ↓gvv, ↓tvv, L0, L1, iv_add, no_def, nx_iv, okx_iv', iv_le, iv_lt, iv_eq, iv_no, no_iv, Nat.not_lt_zero, Nat.le_refl, vu_same, vu_ne, vu_up, ↓reduceIte, Nat.reduceEqDiff, Nat.reduceLeDiff, Nat.reduceLT, Nat.one_ne_zero, Nat.zero_ne_one, if_true, if_false, e0.1, ↓gtx (c_need0e hB.1 (hB.rm hn (by decide) (by decide)) e0.1), or_true, ↓tvv, ↓gtn c_need1, ↓gtx (c_need0 hB.1 (hB.rm hn (by decide) (by decide)))]
    have hM : fX6_spare (some (aM c)) p (zS c td lw rw bf kp st ln rd rl rn ms sc (va_up mc 1 (va_up (mc 1) 1 (mc 1 1 + iv 1))) fa pm xl pc rt ra ch ow ou (bX 31 B)) = some (iv 0, (zS c td lw rw bf kp st ln rd rl rn (va_up ms 1 (va_up (ms 1) 1 (ms 1 1 + iv 1))) sc (va_up mc 1 (va_up (mc 1) 1 (mc 1 1 + iv 1))) fa (va_up pm 0 (iv 1)) xl pc rt ra ch ow ou (bX 31 B))) := by
      unfold fX6_spare fX6_spare_j20
      simp (maxSteps := 3000000) (disch := first | assumption | omega | (simp (disch := omega) only [okx_iv', nx_iv, iv_add, L0, L1, L2, L3, L7, L8, L14, L21, L28, L35, L55, L56, *]; try omega)) only [↓pm_0, ↓bvm, ↓gvm, L0, L1, iv_add, no_def, nx_iv, okx_iv', iv_le, iv_lt, iv_eq, iv_no, no_iv, Nat.not_lt_zero, Nat.le_refl, vu_same, vu_ne, vu_up, ↓reduceIte, Nat.reduceEqDiff, Nat.reduceLeDiff, Nat.reduceLT, Nat.one_ne_zero, Nat.zero_ne_one, if_true, if_false, in_eq, has_eq, vow_eq, e0.2, ↓gbn (s_bad0L (vu_same _ _ _)), ↓gbn (s_bad0 (vu_same _ _ _)), ↓gbn (s_bad11L (vu_same _ _ _)), ↓gbn (s_bad1 (k := 1) (r := 1) (vu_same _ _ _) (by decide) (by decide))]
    exact qI_no (k := 1) (by decide) ((w_no zis0 hC).trans rfl) zis3 hM (vu_same _ _ _) (bad11 I)
  have hC : fX1_spare (some (aV c)) (iv w) (zS c td lw rw bf kp st ln rd rl rn ms sc mc fa pm xl pc rt ra ch ow ou B) = some (.inl (mBst (fun q => rw 0 q) w (foldN (bStep (fun s q => rw 0 q ≤ rw 0 s)) nS 0 none)), (zS c td lw rw bf kp st ln rd rl rn ms sc mc fa pm xl pc rt ra ch ow ou B)) := by
    unfold fX1_spare
    simp (maxSteps := 3000000) (disch := first | assumption | omega | (simp (disch := omega) only [okx_iv', nx_iv, iv_add, L0, L1, L2, L3, L7, L8, L14, L21, L28, L35, L55, L56, *]; try omega)) only [↓bvv, ↓gvv, ↓tvv, L0, L1, iv_add, no_def, nx_iv, okx_iv', iv_le, iv_lt, iv_eq, iv_no, no_iv, Nat.not_lt_zero, Nat.le_refl, vu_same, vu_ne, vu_up, ↓reduceIte, Nat.reduceEqDiff, Nat.reduceLeDiff, Nat.reduceLT, Nat.one_ne_zero, Nat.zero_ne_one, if_true, if_false, rngP1 hk0, ↓gtn (c_need1e (rngP1 hk0)), Nat.zero_add, ↓tvv, ↓gtn c_need1]
    exact q_spare_l hT.2.1 hR isC12 hk0 nS 0 gFU none (fun _ h => nomatch h) (by omega) (by omega)
  have hM : fX6_spare (some (aM c)) (iv w) (zS c td lw rw bf kp st ln rd rl rn ms sc mc fa pm xl pc rt ra ch ow (va_up ou 0 (mBst (fun q => rw 0 q) w (foldN (bStep (fun s q => rw 0 q ≤ rw 0 s)) nS 0 none)).toInt64) B) = some (mBst (fun q => rw 0 q) w (foldN (bStep (fun s q => rw 0 q ≤ rw 0 s)) nS 0 none), (zS c td lw rw bf kp st ln rd rl rn ms sc mc fa (va_up pm 0 (iv 0)) xl pc rt ra ch ow (va_up ou 0 (mBst (fun q => rw 0 q) w (foldN (bStep (fun s q => rw 0 q ≤ rw 0 s)) nS 0 none)).toInt64) B)) := by
    unfold fX6_spare fX6_spare_j20
    simp (maxSteps := 3000000) (disch := first | assumption | omega | (simp (disch := omega) only [okx_iv', nx_iv, iv_add, L0, L1, L2, L3, L7, L8, L14, L21, L28, L35, L55, L56, *]; try omega)) only [↓pm_0, ↓bvm, ↓gvm, L0, L1, iv_add, no_def, nx_iv, okx_iv', iv_le, iv_lt, iv_eq, iv_no, no_iv, Nat.not_lt_zero, Nat.le_refl, vu_same, vu_ne, vu_up, ↓reduceIte, Nat.reduceEqDiff, Nat.reduceLeDiff, Nat.reduceLT, Nat.one_ne_zero, Nat.zero_ne_one, if_true, if_false, in_eq, has_eq, vow_eq, rng1 hk0 (by decide), Nat.zero_add, ↓gbn (s_bad0L (vu_same _ _ _)), ↓gbn (s_bad0 (vu_same _ _ _))]
    exact r_spare_l hT.1 hk0 nS 0 gFU none (fun _ h => nomatch h) (by omega) (by omega)
  exact qI_ok (w_ok zis0 hC) zis3 hM (by simp (disch := omega) only [vu_same, vu_ne]) (vu_same _ _ _) (inv_q I (by first | rfl | simp (disch := omega) only [vu_ne]) (fun k hk => by first | rfl | simp (disch := omega) only [vu_ne]) (by first | rfl | simp (disch := omega) only [vu_ne]) (fun k hk => by first | rfl | simp (disch := omega) only [vu_ne]) (by first | exact ⟨hN.2.2.2.2.2.2.1, hN.2.2.2.2.2.2.2⟩ | (simp (disch := omega) only [vu_same, vu_ne, hN.2.2.2.2.2.2.1, hN.2.2.2.2.2.2.2, and_self])) (fun k hk => by first | rfl | simp (disch := omega) only [vu_ne]) (fun x hx => by first | rfl | simp (disch := omega) only [vu_ne]) (by first | exact Or.inl rfl | exact Or.inr ⟨_, rfl⟩))
end s35
