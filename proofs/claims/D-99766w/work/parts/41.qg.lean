-- NAME 41.qg
set_option maxRecDepth 100000
section s41
variable {c : Nat} {td : Nat → Nat → Int32} {lw : Nat → Nat → Int32} {rw : Nat → Nat → Int32} {bf : Nat → Nat → Int32} {kp : Nat → Nat → Int32} {st : Nat → Nat → Int32} {ln : Nat → Nat → Int32} {rd : Nat → Nat → Int32} {rl : Nat → Nat → Int32} {rn : Nat → Nat → Int32} {ms : Nat → Nat → Int32} {sc : Nat → Nat → Int32} {mc : Nat → Nat → Int32} {fa : Nat → Int32} {pm : Nat → Int32} {xl : Nat → Int64} {pc : Nat → Int32} {rt : Nat → Option Nat} {ra : Nat → Nat → Option Nat} {ch : Nat → (Nat → Nat → Int32) × (Nat → Int32)} {ow : Nat → Option (Nat × Nat)} {ou : Nat → Int64} {B : gS}
variable {nS nN nL x k : Nat} {sgA ntA lkA : Nat → Nat} {F : (Nat → Int32) → Int32} {tp wk im lm n : Nat} {ρ : Nat → Int32}
/-- what would be heard were the set hoarse -/
noncomputable def mHd (td : Nat → Nat → Int32) (F : (Nat → Int32) → Int32) (nS nN : Nat) (ρ : Nat → Int32) (q : Nat) : Int32 := (mHymn td F nS nN (mOnly nS (iv (2 ^ nS - 1) &&& (iv q ^^^ NO)) ρ)).2
/-- the book agrees with what was heard -/
def mWh (mc0 : Nat → Int32) (nN : Nat) (hd : Int32) : Prop := ∀ i, i < nN → mc0 i = NO ∨ fX1_has hd (iv i) = mc0 i
theorem mWh_eq {mc' ln' : Nat → Nat → Int32} {m : Nat} (h : bkO mc' ln' nN m) (hN : nN ≤ 20) (hd : Int32) : mWh (mc' 0) nN hd ↔ ∀ j, j < m → fX1_has hd (ln' j 0) = ln' j 1 := by
  obtain ⟨h1, h2, h3⟩ := h
  constructor
  · intro hw j hj
    obtain ⟨i, i1, i2, i3, i4⟩ := h2 j hj
    rw [i2, ← i3]
    refine (hw i i1).resolve_left (fun e => ?_)
    rw [i3] at e
    rcases i4 with i4 | i4 <;> rw [i4] at e <;> exact absurd e (by decide)
  · intro hw i hi
    rcases h3 i (by omega) with h4 | ⟨j, j1, j2⟩
    · exact Or.inl h4
    · obtain ⟨i', i1, i2, i3, i4⟩ := h2 j j1
      have e : i = i' := iv_inj (by omega) (by omega) (j2.symm.trans i2)
      subst e
      refine Or.inr ?_
      rw [i3, ← hw j j1, j2]
theorem c_layHeard_l (h : tO (zV c ow B) rt td nS nN nL sgA ntA lkA) (hl : lwO (zV c ow B) rt F) : ∀ (j s fuel : Nat) (fa : Nat → Int32) (mc : Nat → Nat → Int32) (ch : Nat → (Nat → Nat → Int32) × (Nat → Int32)), CR nS nN (ch 12) ρ → s + j = 2 ^ nS → j < fuel → ∃ fa' b' g, (∀ q, s ≤ q → q < 2 ^ nS → g q = mHd td F nS nN ρ q) ∧ (∀ q, q < s → g q = mc 6 q) ∧ fX1_layHeard_l2 fuel (some (aV c)) (iv s) (zS c td lw rw bf kp st ln rd rl rn ms sc mc fa pm xl pc rt ra ch ow ou B) = some ((), (zS c td lw rw bf kp st ln rd rl rn ms sc (va_up mc 6 g) (fa') pm xl pc rt ra (va_up ch 18 b') ow ou B)) := by
  intro j
  have hS := h.1
  have hNn := h.2.1
  have hp7 := pow7 hS
  have hpw := pw2 nS (by omega)
  have hx := @isC18 ow
  induction j with
  | zero =>
    intro s fuel fa mc ch hr hs hf
    obtain ⟨f, rfl⟩ : ∃ f, fuel = f + 1 := ⟨fuel - 1, by omega⟩
    have hc : 2 ^ nS ≤ s := by omega
    refine ⟨fa, ch 18, mc 6, fun q _ _ => by omega, fun _ _ => rfl, ?_⟩
    simp (maxSteps := 3000000) (disch := first | assumption | omega | (simp (disch := omega) only [okx_iv', nx_iv, iv_add, L0, L1, L2, L3, L7, L8, L14, L21, L28, L35, L55, L56, *]; try omega)) only [fX1_layHeard_l2, fX1_layHeard_i2, ↓gv_6, ↓gv_5, ↓gv_21, ↓ph_5, ↓bvv, ↓gvv, ↓tvv, ↓bvc, ↓gvc, ↓ld_aHe, ↓st_aHe, L0, L1, L31, ↓b_singers h, iv_add, no_def, nx_iv, okx_iv', iv_le, iv_lt, iv_eq, iv_no, no_iv, Nat.not_lt_zero, Nat.le_refl, vu_same, vu_ne, vu_up, ↓reduceIte, hpw, hc, vu_id]
  | succ j ih =>
    intro s fuel fa mc ch hr hs hf
    obtain ⟨f, rfl⟩ : ∃ f, fuel = f + 1 := ⟨fuel - 1, by omega⟩
    have hc : ¬ 2 ^ nS ≤ s := by omega
    have g1 := c_becomes (x := 18) (y := 12) (c := c) (td := td) (lw := lw) (rw := rw) (bf := bf) (kp := kp) (st := st) (ln := ln) (rd := rd) (rl := rl) (rn := rn) (ms := ms) (sc := sc) (mc := mc) (fa := fa) (pm := pm) (xl := xl) (pc := pc) (rt := rt) (ra := ra) (ch := ch) (ow := ow) (ou := ou) (B := B) isC18 isC12 (by decide)
    obtain ⟨fa3, b3, r3, -, g3⟩ := c_hymn (x := 18) (ρ := mOnly nS (iv (2 ^ nS - 1) &&& (iv s ^^^ NO)) ρ) (c := c) (td := td) (lw := lw) (rw := rw) (bf := bf) (kp := kp) (st := st) (ln := ln) (rd := rd) (rl := rl) (rn := rn) (ms := ms) (sc := sc) (mc := mc) (fa := fa) (pm := pm) (xl := xl) (pc := pc) (rt := rt) (ra := ra) (ch := va_up ch 18 (bI (bCp (ch 12) (ch 18)) 5 (iv s))) (ow := ow) (ou := ou) (B := B) h hl isC18 (by
      rw [vu_same]
      exact (bCp_R hS hNn hr).hoarse hS hNn _ (fun j hj => mOnly_ne hS hj) (fun q hq => by rw [mOnly_at hq, set_every nS (by omega) s (by omega) q (by omega) (by omega) hq]))
    rw [vu_up] at g3
    obtain ⟨fa4, b4, g, k1, k2, g4⟩ := ih (s + 1) f fa3 (va_up mc 6 (va_up (mc 6) s (mHd td F nS nN ρ s))) (va_up ch 18 b3) (by rw [vu_ne (by decide)]; exact hr) (by omega) (by omega)
    rw [vu_up, vu_up] at g4
    rw [vu_same] at k2
    refine ⟨fa4, b4, g, fun q q1 q2 => ?_, fun q hq => (k2 q (by omega)).trans (vu_ne (by omega)), Eq.trans ?_ g4⟩
    · by_cases e : q = s
      · subst e; rw [k2 q (by omega), vu_same]
      · exact k1 q (by omega) q2
    · simp (maxSteps := 3000000) (disch := first | assumption | omega | (simp (disch := omega) only [okx_iv', nx_iv, iv_add, L0, L1, L2, L3, L7, L8, L14, L21, L28, L35, L55, L56, *]; try omega)) only [fX1_layHeard_l2, fX1_layHeard_i2, ↓gv_6, ↓gv_5, ↓gv_21, ↓ph_5, ↓bvv, ↓gvv, ↓tvv, ↓bvc, ↓gvc, ↓ld_aHe, ↓st_aHe, L0, L1, L31, ↓b_singers h, iv_add, no_def, nx_iv, okx_iv', iv_le, iv_lt, iv_eq, iv_no, no_iv, Nat.not_lt_zero, Nat.le_refl, vu_same, vu_ne, vu_up, ↓reduceIte, Nat.reduceEqDiff, Nat.reduceLeDiff, Nat.reduceLT, Nat.one_ne_zero, Nat.zero_ne_one, if_true, if_false, hpw, hc, ↓gbn g1]
      refine (gbn g3 _).trans ?_
      simp (maxSteps := 3000000) (disch := first | assumption | omega | (simp (disch := omega) only [okx_iv', nx_iv, iv_add, L0, L1, L2, L3, L7, L8, L14, L21, L28, L35, L55, L56, *]; try omega)) only [↓st_aHe, iv_add, no_def, nx_iv, okx_iv', iv_le, iv_lt, iv_eq, iv_no, no_iv, Nat.not_lt_zero, Nat.le_refl, vu_same, vu_ne, vu_up, ↓reduceIte, Nat.reduceEqDiff, Nat.reduceLeDiff, Nat.reduceLT, Nat.one_ne_zero, Nat.zero_ne_one, if_true, if_false]
      rfl
theorem c_layHeard (h : tO (zV c ow B) rt td nS nN nL sgA ntA lkA) (hl : lwO (zV c ow B) rt F) (hr : CR nS nN (ch 12) ρ) : ∃ fa' b' g, (∀ q, q < 2 ^ nS → g q = mHd td F nS nN ρ q) ∧ fX1_layHeard (some (aV c)) (zS c td lw rw bf kp st ln rd rl rn ms sc mc fa pm xl pc rt ra ch ow ou B) = some ((), (zS c td lw rw bf kp st ln rd rl rn ms sc (va_up mc 6 g) (fa') pm xl pc rt ra (va_up ch 18 b') ow ou B)) := by
  have hp7 := pow7 h.1
  obtain ⟨fa', b', g, h1, -, h2⟩ := c_layHeard_l (c := c) (td := td) (lw := lw) (rw := rw) (bf := bf) (kp := kp) (st := st) (ln := ln) (rd := rd) (rl := rl) (rn := rn) (ms := ms) (sc := sc) (mc := mc) (fa := fa) (pm := pm) (xl := xl) (pc := pc) (rt := rt) (ra := ra) (ch := ch) (ow := ow) (ou := ou) (B := B) h hl (2 ^ nS) 0 gFU hr (by omega) (by unfold gFU; omega)
  exact ⟨fa', b', g, fun q hq => h1 q (by omega) hq, h2⟩
theorem c_isWho (h : tO (zV c ow B) rt td nS nN nL sgA ntA lkA) {q : Nat} (hq : q < 2 ^ nS) : (mWh (mc 0) nN (mc 6 q) → fX1_isWho (some (aV c)) (iv q) (zS c td lw rw bf kp st ln rd rl rn ms sc mc fa pm xl pc rt ra ch ow ou B) = some (iv 1)) ∧ (¬ mWh (mc 0) nN (mc 6 q) → fX1_isWho (some (aV c)) (iv q) (zS c td lw rw bf kp st ln rd rl rn ms sc mc fa pm xl pc rt ra ch ow ou B) = some (iv 0)) := by
  have hS := h.1
  have hNn := h.2.1
  have hp7 := pow7 hS
  have key : ∀ (j s fuel : Nat), s + j = nN → j < fuel → ((∀ i, s ≤ i → i < nN → mc 0 i = NO ∨ fX1_has (mc 6 q) (iv i) = mc 0 i) → fX1_isWho_l2 fuel (some (aV c)) (iv q) (iv s) (zS c td lw rw bf kp st ln rd rl rn ms sc mc fa pm xl pc rt ra ch ow ou B) = some (iv 1)) ∧ (¬ (∀ i, s ≤ i → i < nN → mc 0 i = NO ∨ fX1_has (mc 6 q) (iv i) = mc 0 i) → fX1_isWho_l2 fuel (some (aV c)) (iv q) (iv s) (zS c td lw rw bf kp st ln rd rl rn ms sc mc fa pm xl pc rt ra ch ow ou B) = some (iv 0)) := by
    intro j
    induction j with
    | zero =>
      intro s fuel hs hf
      obtain ⟨f, rfl⟩ : ∃ f, fuel = f + 1 := ⟨fuel - 1, by omega⟩
      have hc : nN ≤ s := by omega
      refine ⟨fun _ => ?_, fun hb => absurd (fun i h1 h2 => by omega) hb⟩
      simp (maxSteps := 3000000) (disch := first | assumption | omega | (simp (disch := omega) only [okx_iv', nx_iv, iv_add, L0, L1, L2, L3, L7, L8, L14, L21, L28, L35, L55, L56, *]; try omega)) only [fX1_isWho_l2, fX1_isWho_i2, ↓gv_3, ↓gv_21, ↓bvv, ↓gvv, ↓tvv, ↓ld_aBk, ↓ld_aHe, L0, L1, L31, ↓b_notes h, iv_add, no_def, nx_iv, okx_iv', iv_le, iv_lt, iv_eq, iv_no, no_iv, Nat.not_lt_zero, Nat.le_refl, vu_same, vu_ne, vu_up, ↓reduceIte, hc]
    | succ j ih =>
      intro s fuel hs hf
      obtain ⟨f, rfl⟩ : ∃ f, fuel = f + 1 := ⟨fuel - 1, by omega⟩
      have hc : ¬ nN ≤ s := by omega
      obtain ⟨k1, k2⟩ := ih (s + 1) f (by omega) (by omega)
      have step : (mc 0 s = NO ∨ fX1_has (mc 6 q) (iv s) = mc 0 s) → fX1_isWho_l2 (f + 1) (some (aV c)) (iv q) (iv s) (zS c td lw rw bf kp st ln rd rl rn ms sc mc fa pm xl pc rt ra ch ow ou B) = fX1_isWho_l2 f (some (aV c)) (iv q) (iv (s + 1)) (zS c td lw rw bf kp st ln rd rl rn ms sc mc fa pm xl pc rt ra ch ow ou B) := by
        intro hd
        by_cases c1 : mc 0 s = NO
        · simp (maxSteps := 3000000) (disch := first | assumption | omega | (simp (disch := omega) only [okx_iv', nx_iv, iv_add, L0, L1, L2, L3, L7, L8, L14, L21, L28, L35, L55, L56, *]; try omega)) only [fX1_isWho_l2, fX1_isWho_i2, ↓gv_3, ↓gv_21, ↓bvv, ↓gvv, ↓tvv, ↓ld_aBk, ↓ld_aHe, L0, L1, L31, ↓b_notes h, iv_add, no_def, nx_iv, okx_iv', iv_le, iv_lt, iv_eq, iv_no, no_iv, Nat.not_lt_zero, Nat.le_refl, vu_same, vu_ne, vu_up, ↓reduceIte, hc, c1]
        · have c2 := hd.resolve_left c1
          simp (maxSteps := 3000000) (disch := first | assumption | omega | (simp (disch := omega) only [okx_iv', nx_iv, iv_add, L0, L1, L2, L3, L7, L8, L14, L21, L28, L35, L55, L56, *]; try omega)) only [fX1_isWho_l2, fX1_isWho_i2, ↓gv_3, ↓gv_21, ↓bvv, ↓gvv, ↓tvv, ↓ld_aBk, ↓ld_aHe, L0, L1, L31, ↓b_notes h, iv_add, no_def, nx_iv, okx_iv', iv_le, iv_lt, iv_eq, iv_no, no_iv, Nat.not_lt_zero, Nat.le_refl, vu_same, vu_ne, vu_up, ↓reduceIte, hc, c1, has_hbit, c2]
      refine ⟨fun hb => ?_, fun hb => ?_⟩
      · rw [step (hb s (by omega) (by omega))]
        exact k1 (fun i i1 i2 => hb i (by omega) i2)
      · by_cases hd : mc 0 s = NO ∨ fX1_has (mc 6 q) (iv s) = mc 0 s
        · rw [step hd]
          refine k2 (fun hb2 => hb (fun i i1 i2 => ?_))
          by_cases e : i = s
          · rw [e]; exact hd
          · exact hb2 i (by omega) i2
        · have c1 : ¬ mc 0 s = NO := fun e => hd (Or.inl e)
          have c2 : ¬ fX1_has (mc 6 q) (iv s) = mc 0 s := fun e => hd (Or.inr e)
          simp (maxSteps := 3000000) (disch := first | assumption | omega | (simp (disch := omega) only [okx_iv', nx_iv, iv_add, L0, L1, L2, L3, L7, L8, L14, L21, L28, L35, L55, L56, *]; try omega)) only [fX1_isWho_l2, fX1_isWho_i2, ↓gv_3, ↓gv_21, ↓bvv, ↓gvv, ↓tvv, ↓ld_aBk, ↓ld_aHe, L0, L1, L31, ↓b_notes h, iv_add, no_def, nx_iv, okx_iv', iv_le, iv_lt, iv_eq, iv_no, no_iv, Nat.not_lt_zero, Nat.le_refl, vu_same, vu_ne, vu_up, ↓reduceIte, hc, c1, has_hbit, c2]
  obtain ⟨k1, k2⟩ := key nN 0 gFU (by omega) (by unfold gFU; omega)
  exact ⟨fun hb => k1 (fun i _ i2 => hb i i2), fun hb => k2 (fun hb2 => hb (fun i i2 => hb2 i (by omega) i2))⟩
theorem s_isHeard {kl : Nat} (hl : lOK lw kl F) (ht : tOK td nS nN nL) (hpm : pm 19 = iv kl) (hm : pm 33 = iv lm) (hb : bkO mc ln nN lm) {q : Nat} (hq : q < 2 ^ nS) (hr : rw 0 = ρ) : ∃ sc' r', (mWh (mc 0) nN (mHd td F nS nN ρ q) → fX6_isHeard (some (aM c)) (iv q) (zS c td lw rw bf kp st ln rd rl rn ms sc mc fa pm xl pc rt ra ch ow ou B) = some (iv 1, (zS c td lw (va_up rw 1 r') bf kp st ln rd rl rn ms (sc') mc fa (va_up pm 38 (mHd td F nS nN ρ q)) xl pc rt ra ch ow ou B))) ∧ (¬ mWh (mc 0) nN (mHd td F nS nN ρ q) → fX6_isHeard (some (aM c)) (iv q) (zS c td lw rw bf kp st ln rd rl rn ms sc mc fa pm xl pc rt ra ch ow ou B) = some (iv 0, (zS c td lw (va_up rw 1 r') bf kp st ln rd rl rn ms (sc') mc fa (va_up pm 38 (mHd td F nS nN ρ q)) xl pc rt ra ch ow ou B))) := by
  have ht' := ht
  obtain ⟨h1, h2, h3, h4, h5, h6⟩ := ht
  have hb1 := hb.1
  have g3 := s_only (c := c) (td := td) (lw := lw) (rw := va_up rw 1 (mCpy (rw 0) (rw 1))) (bf := bf) (kp := kp) (st := st) (ln := ln) (rd := rd) (rl := rl) (rn := rn) (ms := ms) (sc := sc) (mc := mc) (fa := fa) (pm := pm) (xl := xl) (pc := pc) (rt := rt) (ra := ra) (ch := ch) (ow := ow) (ou := ou) (B := B) ht' (set := iv (2 ^ nS - 1) &&& (iv q ^^^ NO))
  rw [vu_same, vu_up] at g3
  obtain ⟨sc4, g4⟩ := s_hymns (c := c) (td := td) (lw := lw) (rw := va_up rw 1 (mOnly nS (iv (2 ^ nS - 1) &&& (iv q ^^^ NO)) (mCpy (rw 0) (rw 1)))) (bf := bf) (kp := kp) (st := st) (ln := ln) (rd := rd) (rl := rl) (rn := rn) (ms := ms) (sc := sc) (mc := mc) (fa := fa) (pm := pm) (xl := xl) (pc := pc) (rt := rt) (ra := ra) (ch := ch) (ow := ow) (ou := ou) (B := B) hl hpm ht' (b := 1) (by decide)
  rw [vu_same, vu_up] at g4
  have e4 : (mHymn td F nS nN (mOnly nS (iv (2 ^ nS - 1) &&& (iv q ^^^ NO)) (mCpy (rw 0) (rw 1)))).2 = mHd td F nS nN ρ q := by
    rw [← hr]
    exact (mHymn_ext (mOnly_ext (mCpy_ext (rw 0) (rw 1))) h4 h5).2
  rw [e4] at g4
  have key : ∀ (pm : Nat → Int32) (rw sc : Nat → Nat → Int32) (j s fuel : Nat), pm 33 = iv lm → s + j = lm → j < fuel → ((∀ i, s ≤ i → i < lm → fX1_has (pm 38) (ln i 0) = ln i 1) → fX6_isHeard_l33 fuel (some (aM c)) (iv s) (zS c td lw rw bf kp st ln rd rl rn ms sc mc fa pm xl pc rt ra ch ow ou B) = some (iv 1, (zS c td lw rw bf kp st ln rd rl rn ms sc mc fa pm xl pc rt ra ch ow ou B))) ∧ (¬ (∀ i, s ≤ i → i < lm → fX1_has (pm 38) (ln i 0) = ln i 1) → fX6_isHeard_l33 fuel (some (aM c)) (iv s) (zS c td lw rw bf kp st ln rd rl rn ms sc mc fa pm xl pc rt ra ch ow ou B) = some (iv 0, (zS c td lw rw bf kp st ln rd rl rn ms sc mc fa pm xl pc rt ra ch ow ou B))) := by
    intro pm rw sc j
    induction j with
    | zero =>
      intro s fuel hm hs hf
      obtain ⟨f, rfl⟩ : ∃ f, fuel = f + 1 := ⟨fuel - 1, by omega⟩
      have hc : lm ≤ s := by omega
      refine ⟨fun _ => ?_, fun hb => absurd (fun i h1 h2 => by omega) hb⟩
      simp (maxSteps := 3000000) (disch := first | assumption | omega | (simp (disch := omega) only [okx_iv', nx_iv, iv_add, L0, L1, L2, L3, L7, L8, L14, L21, L28, L35, L55, L56, *]; try omega)) only [fX6_isHeard_l33, fX6_isHeard_i33, ↓gm_33, ↓gm_38, ↓gm_23, ↓ld_aLns, ↓ld_aLn, L0, L1, L31, hm, iv_add, no_def, nx_iv, okx_iv', iv_le, iv_lt, iv_eq, iv_no, no_iv, Nat.not_lt_zero, Nat.le_refl, vu_same, vu_ne, vu_up, ↓reduceIte, hc]
    | succ j ih =>
      intro s fuel hm hs hf
      obtain ⟨f, rfl⟩ : ∃ f, fuel = f + 1 := ⟨fuel - 1, by omega⟩
      have hc : ¬ lm ≤ s := by omega
      obtain ⟨k1, k2⟩ := ih (s + 1) f hm (by omega) (by omega)
      by_cases c1 : fX1_has (pm 38) (ln s 0) = ln s 1
      · have step : fX6_isHeard_l33 (f + 1) (some (aM c)) (iv s) (zS c td lw rw bf kp st ln rd rl rn ms sc mc fa pm xl pc rt ra ch ow ou B) = fX6_isHeard_l33 f (some (aM c)) (iv (s + 1)) (zS c td lw rw bf kp st ln rd rl rn ms sc mc fa pm xl pc rt ra ch ow ou B) := by
          simp (maxSteps := 3000000) (disch := first | assumption | omega | (simp (disch := omega) only [okx_iv', nx_iv, iv_add, L0, L1, L2, L3, L7, L8, L14, L21, L28, L35, L55, L56, *]; try omega)) only [fX6_isHeard_l33, fX6_isHeard_i33, ↓gm_33, ↓gm_38, ↓gm_23, ↓ld_aLns, ↓ld_aLn, L0, L1, L31, hm, iv_add, no_def, nx_iv, okx_iv', iv_le, iv_lt, iv_eq, iv_no, no_iv, Nat.not_lt_zero, Nat.le_refl, vu_same, vu_ne, vu_up, ↓reduceIte, hc, has_hbit, c1]
        rw [step]
        refine ⟨fun hb => k1 (fun i i1 i2 => hb i (by omega) i2), fun hb => k2 (fun hb2 => hb (fun i i1 i2 => ?_))⟩
        by_cases e : i = s
        · rw [e]; exact c1
        · exact hb2 i (by omega) i2
      · refine ⟨fun hb => absurd (hb s (by omega) (by omega)) c1, fun _ => ?_⟩
        simp (maxSteps := 3000000) (disch := first | assumption | omega | (simp (disch := omega) only [okx_iv', nx_iv, iv_add, L0, L1, L2, L3, L7, L8, L14, L21, L28, L35, L55, L56, *]; try omega)) only [fX6_isHeard_l33, fX6_isHeard_i33, ↓gm_33, ↓gm_38, ↓gm_23, ↓ld_aLns, ↓ld_aLn, L0, L1, L31, hm, iv_add, no_def, nx_iv, okx_iv', iv_le, iv_lt, iv_eq, iv_no, no_iv, Nat.not_lt_zero, Nat.le_refl, vu_same, vu_ne, vu_up, ↓reduceIte, hc, has_hbit, c1]
  obtain ⟨k1, k2⟩ := key (va_up pm 38 (mHd td F nS nN ρ q)) (va_up rw 1 (mHymn td F nS nN (mOnly nS (iv (2 ^ nS - 1) &&& (iv q ^^^ NO)) (mCpy (rw 0) (rw 1)))).1) sc4 lm 0 gFU ((vu_ne (by decide)).trans hm) (by omega) (by unfold gFU; omega)
  rw [vu_same] at k1 k2
  refine ⟨sc4, (mHymn td F nS nN (mOnly nS (iv (2 ^ nS - 1) &&& (iv q ^^^ NO)) (mCpy (rw 0) (rw 1)))).1, fun hw => ?_, fun hw => ?_⟩
  · unfold fX6_isHeard
    simp (maxSteps := 3000000) (disch := first | assumption | omega | (simp (disch := omega) only [okx_iv', nx_iv, iv_add, L0, L1, L2, L3, L7, L8, L14, L21, L28, L35, L55, L56, *]; try omega)) only [↓gm_29, ↓gm_30, ↓bvm, ↓gvm, ↓ld_aRow, L0, L1, iv_add, no_def, nx_iv, okx_iv', iv_le, iv_lt, iv_eq, iv_no, no_iv, Nat.not_lt_zero, Nat.le_refl, vu_same, vu_ne, vu_up, ↓reduceIte, Nat.reduceEqDiff, Nat.reduceLeDiff, Nat.reduceLT, Nat.one_ne_zero, Nat.zero_ne_one, if_true, if_false, ↓gbn s_copies, ↓bnd (s_every ht'), ↓gbn g3, ↓gbn g4]
    exact k1 (fun i _ i2 => (mWh_eq hb h5 _).mp hw i i2)
  · unfold fX6_isHeard
    simp (maxSteps := 3000000) (disch := first | assumption | omega | (simp (disch := omega) only [okx_iv', nx_iv, iv_add, L0, L1, L2, L3, L7, L8, L14, L21, L28, L35, L55, L56, *]; try omega)) only [↓gm_29, ↓gm_30, ↓bvm, ↓gvm, ↓ld_aRow, L0, L1, iv_add, no_def, nx_iv, okx_iv', iv_le, iv_lt, iv_eq, iv_no, no_iv, Nat.not_lt_zero, Nat.le_refl, vu_same, vu_ne, vu_up, ↓reduceIte, Nat.reduceEqDiff, Nat.reduceLeDiff, Nat.reduceLT, Nat.one_ne_zero, Nat.zero_ne_one, if_true, if_false, ↓gbn s_copies, ↓bnd (s_every ht'), ↓gbn g3, ↓gbn g4]
    exact k2 (fun hb2 => hw ((mWh_eq hb h5 _).mpr (fun i i2 => hb2 i (by omega) i2)))
noncomputable def whS (W : Nat → Prop) (q : Nat) (x : Int32 × Option Nat) : Int32 × Option Nat := @ite _ (W q) (Classical.propDecidable _) (x.1 + iv 1, bStep (fun s r => bcN r ≤ bcN s) q x.2) x
theorem whS_lt {W : Nat → Prop} {q : Nat} {x : Int32 × Option Nat} (h : ∀ r, x.2 = some r → r < q) : ∀ r, (whS W q x).2 = some r → r < q + 1 := by
  intro r hr
  unfold whS at hr
  split at hr
  · exact bStep_lt (keep := fun s r => bcN r ≤ bcN s) h r hr
  · have := h r hr; omega
def vWh (w : Nat) (x : Int32 × Option Nat) : Int32 := if w = 0 then x.1 else mOpt x.2
theorem q_who_l (h : tO (zV c ow B) rt td nS nN nL sgA ntA lkA) {w : Nat} (hw : w ≤ 1) {g : Nat → Int32} (hg : ∀ q, q < 2 ^ nS → mc 6 q = g q) : ∀ (j s fuel : Nat) (x : Int32 × Option Nat), (∀ r, x.2 = some r → r < s) → s + j = 2 ^ nS → j < fuel → fX1_who_l19 fuel (some (aV c)) (iv w) x.1 (mOpt x.2) (iv s) (zS c td lw rw bf kp st ln rd rl rn ms sc mc fa pm xl pc rt ra ch ow ou B) = some (.inl (vWh w (foldN (whS (fun q => mWh (mc 0) nN (g q))) j s x)), (zS c td lw rw bf kp st ln rd rl rn ms sc mc fa pm xl pc rt ra ch ow ou B)) := by
  intro j
  have hS := h.1
  have hp7 := pow7 hS
  have hpw := pw2 nS (by omega)
  induction j with
  | zero =>
    intro s fuel x hx hs hf
    obtain ⟨f, rfl⟩ : ∃ f, fuel = f + 1 := ⟨fuel - 1, by omega⟩
    have hc : 2 ^ nS ≤ s := by omega
    by_cases hw0 : w = 0
    · simp (maxSteps := 3000000) (disch := first | assumption | omega | (simp (disch := omega) only [okx_iv', nx_iv, iv_add, L0, L1, L2, L3, L7, L8, L14, L21, L28, L35, L55, L56, *]; try omega)) only [fX1_who_l19, fX1_who_i19, ↓bvv, ↓gvv, ↓tvv, L0, L1, L31, ↓b_singers h, iv_add, no_def, nx_iv, okx_iv', iv_le, iv_lt, iv_eq, iv_no, no_iv, Nat.not_lt_zero, Nat.le_refl, vu_same, vu_ne, vu_up, ↓reduceIte, Nat.reduceEqDiff, Nat.reduceLeDiff, Nat.reduceLT, Nat.one_ne_zero, Nat.zero_ne_one, if_true, if_false, hpw, hc, foldN, vWh, hw0]
    · simp (maxSteps := 3000000) (disch := first | assumption | omega | (simp (disch := omega) only [okx_iv', nx_iv, iv_add, L0, L1, L2, L3, L7, L8, L14, L21, L28, L35, L55, L56, *]; try omega)) only [fX1_who_l19, fX1_who_i19, ↓bvv, ↓gvv, ↓tvv, L0, L1, L31, ↓b_singers h, iv_add, no_def, nx_iv, okx_iv', iv_le, iv_lt, iv_eq, iv_no, no_iv, Nat.not_lt_zero, Nat.le_refl, vu_same, vu_ne, vu_up, ↓reduceIte, Nat.reduceEqDiff, Nat.reduceLeDiff, Nat.reduceLT, Nat.one_ne_zero, Nat.zero_ne_one, if_true, if_false, hpw, hc, foldN, vWh, hw0]
  | succ j ih =>
    intro s fuel x hx hs hf
    obtain ⟨f, rfl⟩ : ∃ f, fuel = f + 1 := ⟨fuel - 1, by omega⟩
    have hc : ¬ 2 ^ nS ≤ s := by omega
    have hsq : s < 2 ^ nS := by omega
    obtain ⟨k1, k2⟩ := c_isWho (c := c) (td := td) (lw := lw) (rw := rw) (bf := bf) (kp := kp) (st := st) (ln := ln) (rd := rd) (rl := rl) (rn := rn) (ms := ms) (sc := sc) (mc := mc) (fa := fa) (pm := pm) (xl := xl) (pc := pc) (rt := rt) (ra := ra) (ch := ch) (ow := ow) (ou := ou) (B := B) h hsq
    rw [hg s hsq] at k1 k2
    refine Eq.trans ?_ (ih (s + 1) f (whS (fun q => mWh (mc 0) nN (g q)) s x) (whS_lt hx) (by omega) (by omega))
    by_cases c1 : mWh (mc 0) nN (g s)
    · have e1 := k1 c1
      rw [show whS (fun q => mWh (mc 0) nN (g q)) s x = (x.1 + iv 1, bStep (fun s r => bcN r ≤ bcN s) s x.2) from if_pos c1]
      obtain ⟨cnt, o⟩ := x
      cases o with
      | none => simp (maxSteps := 3000000) (disch := first | assumption | omega | (simp (disch := omega) only [okx_iv', nx_iv, iv_add, L0, L1, L2, L3, L7, L8, L14, L21, L28, L35, L55, L56, *]; try omega)) only [fX1_who_l19, fX1_who_i19, ↓bvv, ↓gvv, ↓tvv, L0, L1, L31, ↓b_singers h, iv_add, no_def, nx_iv, okx_iv', iv_le, iv_lt, iv_eq, iv_no, no_iv, Nat.not_lt_zero, Nat.le_refl, vu_same, vu_ne, vu_up, ↓reduceIte, Nat.reduceEqDiff, Nat.reduceLeDiff, Nat.reduceLT, Nat.one_ne_zero, Nat.zero_ne_one, if_true, if_false, hpw, hc, ↓bnd e1, mOpt, bStep]
      | some r =>
        have hr : r < s := hx r rfl
        have b1 := bcN128 s (by omega)
        have b2 := bcN128 r (by omega)
        by_cases c2 : bcN r ≤ bcN s
        · simp (maxSteps := 3000000) (disch := first | assumption | omega | (simp (disch := omega) only [okx_iv', nx_iv, iv_add, L0, L1, L2, L3, L7, L8, L14, L21, L28, L35, L55, L56, *]; try omega)) only [fX1_who_l19, fX1_who_i19, ↓bvv, ↓gvv, ↓tvv, L0, L1, L31, ↓b_singers h, iv_add, no_def, nx_iv, okx_iv', iv_le, iv_lt, iv_eq, iv_no, no_iv, Nat.not_lt_zero, Nat.le_refl, vu_same, vu_ne, vu_up, ↓reduceIte, Nat.reduceEqDiff, Nat.reduceLeDiff, Nat.reduceLT, Nat.one_ne_zero, Nat.zero_ne_one, if_true, if_false, hpw, hc, ↓bnd e1, mOpt, bStep, ↓bnd (c_bc (show s < 1048576 by omega) _), ↓bnd (c_bc (show r < 1048576 by omega) _), c2]
        · simp (maxSteps := 3000000) (disch := first | assumption | omega | (simp (disch := omega) only [okx_iv', nx_iv, iv_add, L0, L1, L2, L3, L7, L8, L14, L21, L28, L35, L55, L56, *]; try omega)) only [fX1_who_l19, fX1_who_i19, ↓bvv, ↓gvv, ↓tvv, L0, L1, L31, ↓b_singers h, iv_add, no_def, nx_iv, okx_iv', iv_le, iv_lt, iv_eq, iv_no, no_iv, Nat.not_lt_zero, Nat.le_refl, vu_same, vu_ne, vu_up, ↓reduceIte, Nat.reduceEqDiff, Nat.reduceLeDiff, Nat.reduceLT, Nat.one_ne_zero, Nat.zero_ne_one, if_true, if_false, hpw, hc, ↓bnd e1, mOpt, bStep, ↓bnd (c_bc (show s < 1048576 by omega) _), ↓bnd (c_bc (show r < 1048576 by omega) _), c2]
    · have e1 := k2 c1
      rw [show whS (fun q => mWh (mc 0) nN (g q)) s x = x from if_neg c1]
      simp (maxSteps := 3000000) (disch := first | assumption | omega | (simp (disch := omega) only [okx_iv', nx_iv, iv_add, L0, L1, L2, L3, L7, L8, L14, L21, L28, L35, L55, L56, *]; try omega)) only [fX1_who_l19, fX1_who_i19, ↓bvv, ↓gvv, ↓tvv, L0, L1, L31, ↓b_singers h, iv_add, no_def, nx_iv, okx_iv', iv_le, iv_lt, iv_eq, iv_no, no_iv, Nat.not_lt_zero, Nat.le_refl, vu_same, vu_ne, vu_up, ↓reduceIte, Nat.reduceEqDiff, Nat.reduceLeDiff, Nat.reduceLT, Nat.one_ne_zero, Nat.zero_ne_one, if_true, if_false, hpw, hc, ↓bnd e1]
theorem r_who_l {kl : Nat} (hl : lOK lw kl F) (ht : tOK td nS nN nL) (hb : bkO mc ln nN lm) {w : Nat} (hw : w ≤ 1) : ∀ (j s fuel : Nat) (rw sc : Nat → Nat → Int32) (pm : Nat → Int32) (x : Int32 × Option Nat), pm 19 = iv kl → pm 33 = iv lm → rw 0 = ρ → (∀ r, x.2 = some r → r < s) → s + j = 2 ^ nS → j < fuel → ∃ sc' r' y, fX6_who_l37 fuel (some (aM c)) (iv w) x.1 (mOpt x.2) (iv s) (zS c td lw rw bf kp st ln rd rl rn ms sc mc fa pm xl pc rt ra ch ow ou B) = some (vWh w (foldN (whS (fun q => mWh (mc 0) nN (mHd td F nS nN ρ q))) j s x), (zS c td lw (va_up rw 1 r') bf kp st ln rd rl rn ms (sc') mc fa (va_up pm 38 y) xl pc rt ra ch ow ou B)) := by
  intro j
  have ht' := ht
  obtain ⟨h1, h2, h3, h4, h5, h6⟩ := ht
  have hp7 := pow7 h4
  have hp0 := Nat.two_pow_pos nS
  induction j with
  | zero =>
    intro s fuel rw sc pm x hpm hm hr hx hs hf
    obtain ⟨f, rfl⟩ : ∃ f, fuel = f + 1 := ⟨fuel - 1, by omega⟩
    have hc : 2 ^ nS - 1 < s := by omega
    refine ⟨sc, rw 1, pm 38, ?_⟩
    by_cases hw0 : w = 0
    · simp (maxSteps := 3000000) (disch := first | assumption | omega | (simp (disch := omega) only [okx_iv', nx_iv, iv_add, L0, L1, L2, L3, L7, L8, L14, L21, L28, L35, L55, L56, *]; try omega)) only [fX6_who_l37, fX6_who_i37, ↓bvm, ↓gvm, L0, L1, ↓bnd (s_every ht'), iv_add, no_def, nx_iv, okx_iv', iv_le, iv_lt, iv_eq, iv_no, no_iv, Nat.not_lt_zero, Nat.le_refl, vu_same, vu_ne, vu_up, ↓reduceIte, Nat.reduceEqDiff, Nat.reduceLeDiff, Nat.reduceLT, Nat.one_ne_zero, Nat.zero_ne_one, if_true, if_false, hc, foldN, vWh, hw0, vu_id]
    · simp (maxSteps := 3000000) (disch := first | assumption | omega | (simp (disch := omega) only [okx_iv', nx_iv, iv_add, L0, L1, L2, L3, L7, L8, L14, L21, L28, L35, L55, L56, *]; try omega)) only [fX6_who_l37, fX6_who_i37, ↓bvm, ↓gvm, L0, L1, ↓bnd (s_every ht'), iv_add, no_def, nx_iv, okx_iv', iv_le, iv_lt, iv_eq, iv_no, no_iv, Nat.not_lt_zero, Nat.le_refl, vu_same, vu_ne, vu_up, ↓reduceIte, Nat.reduceEqDiff, Nat.reduceLeDiff, Nat.reduceLT, Nat.one_ne_zero, Nat.zero_ne_one, if_true, if_false, hc, foldN, vWh, hw0, vu_id]
  | succ j ih =>
    intro s fuel rw sc pm x hpm hm hr hx hs hf
    obtain ⟨f, rfl⟩ : ∃ f, fuel = f + 1 := ⟨fuel - 1, by omega⟩
    have hc : ¬ 2 ^ nS - 1 < s := by omega
    have hsq : s < 2 ^ nS := by omega
    obtain ⟨sc1, r1, k1, k2⟩ := s_isHeard (c := c) (td := td) (lw := lw) (rw := rw) (bf := bf) (kp := kp) (st := st) (ln := ln) (rd := rd) (rl := rl) (rn := rn) (ms := ms) (sc := sc) (mc := mc) (fa := fa) (pm := pm) (xl := xl) (pc := pc) (rt := rt) (ra := ra) (ch := ch) (ow := ow) (ou := ou) (B := B) hl ht' hpm hm hb hsq hr
    obtain ⟨sc2, r2, y2, g2⟩ := ih (s + 1) f (va_up rw 1 r1) sc1 (va_up pm 38 (mHd td F nS nN ρ s)) (whS (fun q => mWh (mc 0) nN (mHd td F nS nN ρ q)) s x) ((vu_ne (by decide)).trans hpm) ((vu_ne (by decide)).trans hm) ((vu_ne (by decide)).trans hr) (whS_lt hx) (by omega) (by omega)
    rw [vu_up, vu_up] at g2
    refine ⟨sc2, r2, y2, Eq.trans ?_ g2⟩
    by_cases c1 : mWh (mc 0) nN (mHd td F nS nN ρ s)
    · have e1 := k1 c1
      rw [show whS (fun q => mWh (mc 0) nN (mHd td F nS nN ρ q)) s x = (x.1 + iv 1, bStep (fun s r => bcN r ≤ bcN s) s x.2) from if_pos c1]
      obtain ⟨cnt, o⟩ := x
      cases o with
      | none => simp (maxSteps := 3000000) (disch := first | assumption | omega | (simp (disch := omega) only [okx_iv', nx_iv, iv_add, L0, L1, L2, L3, L7, L8, L14, L21, L28, L35, L55, L56, *]; try omega)) only [fX6_who_l37, fX6_who_i37, ↓bvm, ↓gvm, L0, L1, ↓bnd (s_every ht'), iv_add, no_def, nx_iv, okx_iv', iv_le, iv_lt, iv_eq, iv_no, no_iv, Nat.not_lt_zero, Nat.le_refl, vu_same, vu_ne, vu_up, ↓reduceIte, Nat.reduceEqDiff, Nat.reduceLeDiff, Nat.reduceLT, Nat.one_ne_zero, Nat.zero_ne_one, if_true, if_false, hc, ↓gbn e1, mOpt, bStep]
      | some r =>
        have hr2 : r < s := hx r rfl
        have b1 := bcN128 s (by omega)
        have b2 := bcN128 r (by omega)
        by_cases c2 : bcN r ≤ bcN s
        · simp (maxSteps := 3000000) (disch := first | assumption | omega | (simp (disch := omega) only [okx_iv', nx_iv, iv_add, L0, L1, L2, L3, L7, L8, L14, L21, L28, L35, L55, L56, *]; try omega)) only [fX6_who_l37, fX6_who_i37, ↓bvm, ↓gvm, L0, L1, ↓bnd (s_every ht'), iv_add, no_def, nx_iv, okx_iv', iv_le, iv_lt, iv_eq, iv_no, no_iv, Nat.not_lt_zero, Nat.le_refl, vu_same, vu_ne, vu_up, ↓reduceIte, Nat.reduceEqDiff, Nat.reduceLeDiff, Nat.reduceLT, Nat.one_ne_zero, Nat.zero_ne_one, if_true, if_false, hc, ↓gbn e1, mOpt, bStep, ↓bnd (s_ones (show s < 128 by omega)), ↓bnd (s_ones (show r < 128 by omega)), c2]
        · simp (maxSteps := 3000000) (disch := first | assumption | omega | (simp (disch := omega) only [okx_iv', nx_iv, iv_add, L0, L1, L2, L3, L7, L8, L14, L21, L28, L35, L55, L56, *]; try omega)) only [fX6_who_l37, fX6_who_i37, ↓bvm, ↓gvm, L0, L1, ↓bnd (s_every ht'), iv_add, no_def, nx_iv, okx_iv', iv_le, iv_lt, iv_eq, iv_no, no_iv, Nat.not_lt_zero, Nat.le_refl, vu_same, vu_ne, vu_up, ↓reduceIte, Nat.reduceEqDiff, Nat.reduceLeDiff, Nat.reduceLT, Nat.one_ne_zero, Nat.zero_ne_one, if_true, if_false, hc, ↓gbn e1, mOpt, bStep, ↓bnd (s_ones (show s < 128 by omega)), ↓bnd (s_ones (show r < 128 by omega)), c2]
    · have e1 := k2 c1
      rw [show whS (fun q => mWh (mc 0) nN (mHd td F nS nN ρ q)) s x = x from if_neg c1]
      simp (maxSteps := 3000000) (disch := first | assumption | omega | (simp (disch := omega) only [okx_iv', nx_iv, iv_add, L0, L1, L2, L3, L7, L8, L14, L21, L28, L35, L55, L56, *]; try omega)) only [fX6_who_l37, fX6_who_i37, ↓bvm, ↓gvm, L0, L1, ↓bnd (s_every ht'), iv_add, no_def, nx_iv, okx_iv', iv_le, iv_lt, iv_eq, iv_no, no_iv, Nat.not_lt_zero, Nat.le_refl, vu_same, vu_ne, vu_up, ↓reduceIte, Nat.reduceEqDiff, Nat.reduceLeDiff, Nat.reduceLT, Nat.one_ne_zero, Nat.zero_ne_one, if_true, if_false, hc, ↓gbn e1]
theorem Q_who (I : invA c td lw rw bf kp st ln rd rl rn ms sc mc fa pm xl pc rt ra ch ow ou B nS nN nL sgA ntA lkA F tp wk im lm n) (hn : n < 64) (p : Int32) : qI c n (fX0_who (some (aV c)) p (some (aOu c)) (zS c td lw rw bf kp st ln rd rl rn ms sc mc fa pm xl pc rt ra ch ow ou B)) (fun S => fX6_who (some (aM c)) p S) := by
  have hN := I.2.2.1
  have hT := I.1
  have hC0 := I.2.2.2.1
  have hR := hC0.1
  have hB := I.2.2.2.2.2.2.2.2
  have hS := hT.2.1.1
  have hNn := hT.2.1.2.1
  have hLn := hT.2.1.2.2.1
  have hf : 1000 < gFU := by unfold gFU; omega
  obtain ⟨kl, hl1, hl2⟩ := I.2.1.1
  have hl3 := I.2.1.2
  rcases rngP p with ⟨w, hk0, rfl⟩ | e0
  rotate_left
  · have hC : fX1_who (some (aV c)) p (zS c td lw rw bf kp st ln rd rl rn ms sc mc fa pm xl pc rt ra ch ow ou B) = some (.inr (31, B.2.1), (zS c td lw rw bf kp st ln rd rl rn ms sc (va_up mc 1 (va_up (mc 1) 1 (mc 1 1 + iv 1))) fa pm xl pc rt ra ch ow ou (bX 31 B))) := by
      unfold fX1_who
      simp (maxSteps := 3000000) (disch := first | assumption | omega | (simp (disch := omega) only [okx_iv', nx_iv, iv_add, L0, L1, L2, L3, L7, L8, L14, L21, L28, L35, L55, L56, *]; try omega)) only [↓bvv, ↓gvv, ↓tvv, L0, L1, iv_add, no_def, nx_iv, okx_iv', iv_le, iv_lt, iv_eq, iv_no, no_iv, Nat.not_lt_zero, Nat.le_refl, vu_same, vu_ne, vu_up, ↓reduceIte, Nat.reduceEqDiff, Nat.reduceLeDiff, Nat.reduceLT, Nat.one_ne_zero, Nat.zero_ne_one, if_true, if_false, e0.1, ↓gtx (c_need0e hB.1 (hB.rm hn (by decide) (by decide)) e0.1), or_true, ↓tvv, ↓gtn c_need1, ↓gtx (c_need0 hB.1 (hB.rm hn (by decide) (by decide)))]
    have hM : fX6_who (some (aM c)) p (zS c td lw rw bf kp st ln rd rl rn ms sc (va_up mc 1 (va_up (mc 1) 1 (mc 1 1 + iv 1))) fa pm xl pc rt ra ch ow ou (bX 31 B)) = some (iv 0, (zS c td lw rw bf kp st ln rd rl rn (va_up ms 1 (va_up (ms 1) 1 (ms 1 1 + iv 1))) sc (va_up mc 1 (va_up (mc 1) 1 (mc 1 1 + iv 1))) fa (va_up pm 0 (iv 1)) xl pc rt ra ch ow ou (bX 31 B))) := by
      unfold fX6_who fX6_who_j20
      simp (maxSteps := 3000000) (disch := first | assumption | omega | (simp (disch := omega) only [okx_iv', nx_iv, iv_add, L0, L1, L2, L3, L7, L8, L14, L21, L28, L35, L55, L56, *]; try omega)) only [↓pm_0, ↓bvm, ↓gvm, L0, L1, iv_add, no_def, nx_iv, okx_iv', iv_le, iv_lt, iv_eq, iv_no, no_iv, Nat.not_lt_zero, Nat.le_refl, vu_same, vu_ne, vu_up, ↓reduceIte, Nat.reduceEqDiff, Nat.reduceLeDiff, Nat.reduceLT, Nat.one_ne_zero, Nat.zero_ne_one, if_true, if_false, in_eq, has_eq, vow_eq, e0.2, ↓gbn (s_bad0L (vu_same _ _ _)), ↓gbn (s_bad0 (vu_same _ _ _)), ↓gbn (s_bad11L (vu_same _ _ _)), ↓gbn (s_bad1 (k := 1) (r := 1) (vu_same _ _ _) (by decide) (by decide))]
    exact qI_no (k := 1) (by decide) ((w_no zis0 hC).trans rfl) zis3 hM (vu_same _ _ _) (bad11 I)
  have hb := I.2.2.2.2.1
  have hp7 := pow7 hS
  obtain ⟨fa1, b1, g, g1, g2⟩ := c_layHeard (c := c) (td := td) (lw := lw) (rw := rw) (bf := bf) (kp := kp) (st := st) (ln := ln) (rd := rd) (rl := rl) (rn := rn) (ms := ms) (sc := sc) (mc := mc) (fa := fa) (pm := pm) (xl := xl) (pc := pc) (rt := rt) (ra := ra) (ch := ch) (ow := ow) (ou := ou) (B := B) hT.2.1 hl3 hR
  obtain ⟨V, hV⟩ : ∃ V, V = vWh w (foldN (whS (fun q => mWh (mc 0) nN (mHd td F nS nN (rw 0) q))) (2 ^ nS) 0 (iv 0, none)) := ⟨_, rfl⟩
  have g3 := q_who_l (g := mHd td F nS nN (rw 0)) (c := c) (td := td) (lw := lw) (rw := rw) (bf := bf) (kp := kp) (st := st) (ln := ln) (rd := rd) (rl := rl) (rn := rn) (ms := ms) (sc := sc) (mc := va_up mc 6 g) (fa := fa1) (pm := pm) (xl := xl) (pc := pc) (rt := rt) (ra := ra) (ch := va_up ch 18 b1) (ow := ow) (ou := ou) (B := B) hT.2.1 hk0 (fun q hq => by rw [vu_same]; exact g1 q hq) (2 ^ nS) 0 gFU (iv 0, none) (fun _ h => nomatch h) (by omega) (by omega)
  rw [vu_ne (by decide), ← hV] at g3
  obtain ⟨sc1, r1, y1, g4⟩ := r_who_l (ρ := rw 0) (c := c) (td := td) (lw := lw) (rw := rw) (bf := bf) (kp := kp) (st := st) (ln := ln) (rd := rd) (rl := rl) (rn := rn) (ms := ms) (sc := sc) (mc := va_up mc 6 g) (fa := fa1) (pm := va_up pm 0 (iv 0)) (xl := xl) (pc := pc) (rt := rt) (ra := ra) (ch := va_up ch 18 b1) (ow := ow) (ou := va_up ou 0 V.toInt64) (B := B) hl1 hT.1 (by unfold bkO; rw [vu_ne (by decide)]; exact hb) hk0 (2 ^ nS) 0 gFU (iv 0, none) ((vu_ne (by decide)).trans hl2) ((vu_ne (by decide)).trans hN.2.2.2.2.2.1.1) rfl (fun _ h => nomatch h) (by omega) (by omega)
  rw [vu_ne (by decide), ← hV] at g4
  have hC : fX1_who (some (aV c)) (iv w) (zS c td lw rw bf kp st ln rd rl rn ms sc mc fa pm xl pc rt ra ch ow ou B) = some (.inl (V), (zS c td lw rw bf kp st ln rd rl rn ms sc (va_up mc 6 g) (fa1) pm xl pc rt ra (va_up ch 18 b1) ow ou B)) := by
    unfold fX1_who
    simp (maxSteps := 3000000) (disch := first | assumption | omega | (simp (disch := omega) only [okx_iv', nx_iv, iv_add, L0, L1, L2, L3, L7, L8, L14, L21, L28, L35, L55, L56, *]; try omega)) only [↓bvv, ↓gvv, ↓tvv, L0, L1, iv_add, no_def, nx_iv, okx_iv', iv_le, iv_lt, iv_eq, iv_no, no_iv, Nat.not_lt_zero, Nat.le_refl, vu_same, vu_ne, vu_up, ↓reduceIte, Nat.reduceEqDiff, Nat.reduceLeDiff, Nat.reduceLT, Nat.one_ne_zero, Nat.zero_ne_one, if_true, if_false, rngP1 hk0, ↓gtn (c_need1e (rngP1 hk0)), Nat.zero_add, ↓tvv, ↓gtn c_need1, ↓gbn g2]
    exact g3
  have hM : fX6_who (some (aM c)) (iv w) (zS c td lw rw bf kp st ln rd rl rn ms sc (va_up mc 6 g) (fa1) pm xl pc rt ra (va_up ch 18 b1) ow (va_up ou 0 (V).toInt64) B) = some (V, (zS c td lw (va_up rw 1 r1) bf kp st ln rd rl rn ms (sc1) (va_up mc 6 g) (fa1) (va_up (va_up pm 0 (iv 0)) 38 y1) xl pc rt ra (va_up ch 18 b1) ow (va_up ou 0 (V).toInt64) B)) := by
    unfold fX6_who fX6_who_j20
    simp (maxSteps := 3000000) (disch := first | assumption | omega | (simp (disch := omega) only [okx_iv', nx_iv, iv_add, L0, L1, L2, L3, L7, L8, L14, L21, L28, L35, L55, L56, *]; try omega)) only [↓pm_0, ↓bvm, ↓gvm, L0, L1, iv_add, no_def, nx_iv, okx_iv', iv_le, iv_lt, iv_eq, iv_no, no_iv, Nat.not_lt_zero, Nat.le_refl, vu_same, vu_ne, vu_up, ↓reduceIte, Nat.reduceEqDiff, Nat.reduceLeDiff, Nat.reduceLT, Nat.one_ne_zero, Nat.zero_ne_one, if_true, if_false, in_eq, has_eq, vow_eq, rng1 hk0 (by decide), Nat.zero_add, ↓gbn (s_bad0L (vu_same _ _ _)), ↓gbn (s_bad0 (vu_same _ _ _))]
    exact g4
  exact qI_ok (w_ok zis0 hC) zis3 hM (by simp (disch := omega) only [vu_same, vu_ne]) (vu_same _ _ _) (inv_q I (by first | rfl | simp (disch := omega) only [vu_ne]) (fun k hk => by first | rfl | simp (disch := omega) only [vu_ne]) (by first | rfl | simp (disch := omega) only [vu_ne]) (fun k hk => by first | rfl | simp (disch := omega) only [vu_ne]) (by first | exact ⟨hN.2.2.2.2.2.2.1, hN.2.2.2.2.2.2.2⟩ | (simp (disch := omega) only [vu_same, vu_ne, hN.2.2.2.2.2.2.1, hN.2.2.2.2.2.2.2, and_self])) (fun k hk => by first | rfl | simp (disch := omega) only [vu_ne]) (fun x hx => by first | rfl | simp (disch := omega) only [vu_ne]) (by first | exact Or.inl rfl | exact Or.inr ⟨_, rfl⟩))
/-! listen -/
noncomputable def wtS (W : Nat → Prop) (hd : Nat → Int32) (i q : Nat) (x : Int32 × Int32) : Int32 × Int32 := @ite _ (W q) (Classical.propDecidable _) (x.1 + fX1_has (hd q) (iv i), x.2 + iv 1) x
noncomputable def mWt (W : Nat → Prop) (hd : Nat → Int32) (m i : Nat) : Int32 := (fun x : Int32 × Int32 => fX6_more x.1 (x.2 - x.1)) (foldN (wtS W hd i) m 0 (iv 0, iv 0))
theorem c_worst_l (h : tO (zV c ow B) rt td nS nN nL sgA ntA lkA) {g : Nat → Int32} (hg : ∀ q, q < 2 ^ nS → mc 6 q = g q) {i : Nat} (hi : i < nN) : ∀ (j s fuel : Nat) (x : Int32 × Int32), s + j = 2 ^ nS → j < fuel → fX1_worstBy_l7 fuel (some (aV c)) (iv i) x.1 x.2 (iv s) (zS c td lw rw bf kp st ln rd rl rn ms sc mc fa pm xl pc rt ra ch ow ou B) = some ((fun x : Int32 × Int32 => fX6_more x.1 (x.2 - x.1)) (foldN (wtS (fun q => mWh (mc 0) nN (g q)) g i) j s x)) := by
  intro j
  have hS := h.1
  have hp7 := pow7 hS
  have hpw := pw2 nS (by omega)
  induction j with
  | zero =>
    intro s fuel x hs hf
    obtain ⟨f, rfl⟩ : ∃ f, fuel = f + 1 := ⟨fuel - 1, by omega⟩
    have hc : 2 ^ nS ≤ s := by omega
    simp (maxSteps := 3000000) (disch := first | assumption | omega | (simp (disch := omega) only [okx_iv', nx_iv, iv_add, L0, L1, L2, L3, L7, L8, L14, L21, L28, L35, L55, L56, *]; try omega)) only [fX1_worstBy_l7, fX1_worstBy_i7, ↓gv_21, ↓bvv, ↓gvv, ↓tvv, ↓ld_aHe, L0, L1, L31, ↓b_singers h, iv_add, no_def, nx_iv, okx_iv', iv_le, iv_lt, iv_eq, iv_no, no_iv, Nat.not_lt_zero, Nat.le_refl, vu_same, vu_ne, vu_up, ↓reduceIte, Nat.reduceEqDiff, Nat.reduceLeDiff, Nat.reduceLT, Nat.one_ne_zero, Nat.zero_ne_one, if_true, if_false, hpw, hc, foldN, more_eq]
  | succ j ih =>
    intro s fuel x hs hf
    obtain ⟨f, rfl⟩ : ∃ f, fuel = f + 1 := ⟨fuel - 1, by omega⟩
    have hc : ¬ 2 ^ nS ≤ s := by omega
    have hsq : s < 2 ^ nS := by omega
    obtain ⟨k1, k2⟩ := c_isWho (c := c) (td := td) (lw := lw) (rw := rw) (bf := bf) (kp := kp) (st := st) (ln := ln) (rd := rd) (rl := rl) (rn := rn) (ms := ms) (sc := sc) (mc := mc) (fa := fa) (pm := pm) (xl := xl) (pc := pc) (rt := rt) (ra := ra) (ch := ch) (ow := ow) (ou := ou) (B := B) h hsq
    rw [hg s hsq] at k1 k2
    refine Eq.trans ?_ (ih (s + 1) f (wtS (fun q => mWh (mc 0) nN (g q)) g i s x) (by omega) (by omega))
    by_cases c1 : mWh (mc 0) nN (g s)
    · have e1 := k1 c1
      rw [show wtS (fun q => mWh (mc 0) nN (g q)) g i s x = (x.1 + fX1_has (g s) (iv i), x.2 + iv 1) from if_pos c1]
      simp (maxSteps := 3000000) (disch := first | assumption | omega | (simp (disch := omega) only [okx_iv', nx_iv, iv_add, L0, L1, L2, L3, L7, L8, L14, L21, L28, L35, L55, L56, *]; try omega)) only [fX1_worstBy_l7, fX1_worstBy_i7, ↓gv_21, ↓bvv, ↓gvv, ↓tvv, ↓ld_aHe, L0, L1, L31, ↓b_singers h, iv_add, no_def, nx_iv, okx_iv', iv_le, iv_lt, iv_eq, iv_no, no_iv, Nat.not_lt_zero, Nat.le_refl, vu_same, vu_ne, vu_up, ↓reduceIte, Nat.reduceEqDiff, Nat.reduceLeDiff, Nat.reduceLT, Nat.one_ne_zero, Nat.zero_ne_one, if_true, if_false, hpw, hc, ↓bnd e1, has_hbit, hg s hsq]
    · have e1 := k2 c1
      rw [show wtS (fun q => mWh (mc 0) nN (g q)) g i s x = x from if_neg c1]
      simp (maxSteps := 3000000) (disch := first | assumption | omega | (simp (disch := omega) only [okx_iv', nx_iv, iv_add, L0, L1, L2, L3, L7, L8, L14, L21, L28, L35, L55, L56, *]; try omega)) only [fX1_worstBy_l7, fX1_worstBy_i7, ↓gv_21, ↓bvv, ↓gvv, ↓tvv, ↓ld_aHe, L0, L1, L31, ↓b_singers h, iv_add, no_def, nx_iv, okx_iv', iv_le, iv_lt, iv_eq, iv_no, no_iv, Nat.not_lt_zero, Nat.le_refl, vu_same, vu_ne, vu_up, ↓reduceIte, Nat.reduceEqDiff, Nat.reduceLeDiff, Nat.reduceLT, Nat.one_ne_zero, Nat.zero_ne_one, if_true, if_false, hpw, hc, ↓bnd e1]
theorem r_worst_l {kl : Nat} (hl : lOK lw kl F) (ht : tOK td nS nN nL) (hb : bkO mc ln nN lm) {i : Nat} (hi : i < nN) : ∀ (j s fuel : Nat) (rw sc : Nat → Nat → Int32) (pm : Nat → Int32) (x : Int32 × Int32), pm 19 = iv kl → pm 33 = iv lm → rw 0 = ρ → s + j = 2 ^ nS → j < fuel → ∃ sc' r' y, fX6_worstOf_l7 fuel (some (aM c)) (iv i) x.1 x.2 (iv s) (zS c td lw rw bf kp st ln rd rl rn ms sc mc fa pm xl pc rt ra ch ow ou B) = some ((fun x : Int32 × Int32 => fX6_more x.1 (x.2 - x.1)) (foldN (wtS (fun q => mWh (mc 0) nN (mHd td F nS nN ρ q)) (mHd td F nS nN ρ) i) j s x), (zS c td lw (va_up rw 1 r') bf kp st ln rd rl rn ms (sc') mc fa (va_up pm 38 y) xl pc rt ra ch ow ou B)) := by
  intro j
  have ht' := ht
  obtain ⟨h1, h2, h3, h4, h5, h6⟩ := ht
  have hp7 := pow7 h4
  have hp0 := Nat.two_pow_pos nS
  induction j with
  | zero =>
    intro s fuel rw sc pm x hpm hm hr hs hf
    obtain ⟨f, rfl⟩ : ∃ f, fuel = f + 1 := ⟨fuel - 1, by omega⟩
    have hc : 2 ^ nS - 1 < s := by omega
    refine ⟨sc, rw 1, pm 38, ?_⟩
    simp (maxSteps := 3000000) (disch := first | assumption | omega | (simp (disch := omega) only [okx_iv', nx_iv, iv_add, L0, L1, L2, L3, L7, L8, L14, L21, L28, L35, L55, L56, *]; try omega)) only [fX6_worstOf_l7, fX6_worstOf_i7, ↓gm_38, ↓bvm, ↓gvm, L0, L1, L31, ↓bnd (s_every ht'), iv_add, no_def, nx_iv, okx_iv', iv_le, iv_lt, iv_eq, iv_no, no_iv, Nat.not_lt_zero, Nat.le_refl, vu_same, vu_ne, vu_up, ↓reduceIte, Nat.reduceEqDiff, Nat.reduceLeDiff, Nat.reduceLT, Nat.one_ne_zero, Nat.zero_ne_one, if_true, if_false, hc, foldN, vu_id]
  | succ j ih =>
    intro s fuel rw sc pm x hpm hm hr hs hf
    obtain ⟨f, rfl⟩ : ∃ f, fuel = f + 1 := ⟨fuel - 1, by omega⟩
    have hc : ¬ 2 ^ nS - 1 < s := by omega
    have hsq : s < 2 ^ nS := by omega
    obtain ⟨sc1, r1, k1, k2⟩ := s_isHeard (c := c) (td := td) (lw := lw) (rw := rw) (bf := bf) (kp := kp) (st := st) (ln := ln) (rd := rd) (rl := rl) (rn := rn) (ms := ms) (sc := sc) (mc := mc) (fa := fa) (pm := pm) (xl := xl) (pc := pc) (rt := rt) (ra := ra) (ch := ch) (ow := ow) (ou := ou) (B := B) hl ht' hpm hm hb hsq hr
    obtain ⟨sc2, r2, y2, g2⟩ := ih (s + 1) f (va_up rw 1 r1) sc1 (va_up pm 38 (mHd td F nS nN ρ s)) (wtS (fun q => mWh (mc 0) nN (mHd td F nS nN ρ q)) (mHd td F nS nN ρ) i s x) ((vu_ne (by decide)).trans hpm) ((vu_ne (by decide)).trans hm) ((vu_ne (by decide)).trans hr) (by omega) (by omega)
    rw [vu_up, vu_up] at g2
    refine ⟨sc2, r2, y2, Eq.trans ?_ g2⟩
    by_cases c1 : mWh (mc 0) nN (mHd td F nS nN ρ s)
    · have e1 := k1 c1
      rw [show wtS (fun q => mWh (mc 0) nN (mHd td F nS nN ρ q)) (mHd td F nS nN ρ) i s x = (x.1 + fX1_has (mHd td F nS nN ρ s) (iv i), x.2 + iv 1) from if_pos c1]
      simp (maxSteps := 3000000) (disch := first | assumption | omega | (simp (disch := omega) only [okx_iv', nx_iv, iv_add, L0, L1, L2, L3, L7, L8, L14, L21, L28, L35, L55, L56, *]; try omega)) only [fX6_worstOf_l7, fX6_worstOf_i7, ↓gm_38, ↓bvm, ↓gvm, L0, L1, L31, ↓bnd (s_every ht'), iv_add, no_def, nx_iv, okx_iv', iv_le, iv_lt, iv_eq, iv_no, no_iv, Nat.not_lt_zero, Nat.le_refl, vu_same, vu_ne, vu_up, ↓reduceIte, Nat.reduceEqDiff, Nat.reduceLeDiff, Nat.reduceLT, Nat.one_ne_zero, Nat.zero_ne_one, if_true, if_false, hc, ↓gbn e1, has_hbit]
    · have e1 := k2 c1
      rw [show wtS (fun q => mWh (mc 0) nN (mHd td F nS nN ρ q)) (mHd td F nS nN ρ) i s x = x from if_neg c1]
      simp (maxSteps := 3000000) (disch := first | assumption | omega | (simp (disch := omega) only [okx_iv', nx_iv, iv_add, L0, L1, L2, L3, L7, L8, L14, L21, L28, L35, L55, L56, *]; try omega)) only [fX6_worstOf_l7, fX6_worstOf_i7, ↓gm_38, ↓bvm, ↓gvm, L0, L1, L31, ↓bnd (s_every ht'), iv_add, no_def, nx_iv, okx_iv', iv_le, iv_lt, iv_eq, iv_no, no_iv, Nat.not_lt_zero, Nat.le_refl, vu_same, vu_ne, vu_up, ↓reduceIte, Nat.reduceEqDiff, Nat.reduceLeDiff, Nat.reduceLT, Nat.one_ne_zero, Nat.zero_ne_one, if_true, if_false, hc, ↓gbn e1]
noncomputable def liS (bk : Nat → Int32) (wt : Nat → Int32) (i : Nat) (x : Option Nat × Int32) : Option Nat × Int32 := if bk i = NO then (match x.1 with | none => (some i, wt i) | some r => if wt i < x.2 then (some i, wt i) else (some r, x.2)) else x
theorem liS_lt {bk wt : Nat → Int32} {q : Nat} {x : Option Nat × Int32} (h : ∀ r, x.1 = some r → r < q) : ∀ r, (liS bk wt q x).1 = some r → r < q + 1 := by
  intro r hr
  obtain ⟨o, l⟩ := x
  unfold liS at hr
  split at hr
  · cases o with
    | none => cases hr; omega
    | some p =>
      have := h p rfl
      simp only at hr
      split at hr <;> (cases hr; omega)
  · have := h r hr; omega
def vLi (w : Nat) (x : Option Nat × Int32) : Int32 := if w = 0 then mOpt x.1 else x.2
theorem q_listen_l (h : tO (zV c ow B) rt td nS nN nL sgA ntA lkA) {w : Nat} (hw : w ≤ 1) {g : Nat → Int32} (hg : ∀ q, q < 2 ^ nS → mc 6 q = g q) : ∀ (j s fuel : Nat) (x : Option Nat × Int32), (∀ r, x.1 = some r → r < s) → s + j = nN → j < fuel → fX1_listen_l19 fuel (some (aV c)) (iv w) (mOpt x.1) x.2 (iv s) (zS c td lw rw bf kp st ln rd rl rn ms sc mc fa pm xl pc rt ra ch ow ou B) = some (.inl (vLi w (foldN (liS (mc 0) (mWt (fun q => mWh (mc 0) nN (g q)) g (2 ^ nS))) j s x)), (zS c td lw rw bf kp st ln rd rl rn ms sc mc fa pm xl pc rt ra ch ow ou B)) := by
  intro j
  have hS := h.1
  have hNn := h.2.1
  have hp7 := pow7 hS
  induction j with
  | zero =>
    intro s fuel x hx hs hf
    obtain ⟨f, rfl⟩ : ∃ f, fuel = f + 1 := ⟨fuel - 1, by omega⟩
    have hc : nN ≤ s := by omega
    by_cases hw0 : w = 0
    · simp (maxSteps := 3000000) (disch := first | assumption | omega | (simp (disch := omega) only [okx_iv', nx_iv, iv_add, L0, L1, L2, L3, L7, L8, L14, L21, L28, L35, L55, L56, *]; try omega)) only [fX1_listen_l19, fX1_listen_i19, ↓gv_3, ↓bvv, ↓gvv, ↓tvv, ↓ld_aBk, L0, L1, ↓b_notes h, iv_add, no_def, nx_iv, okx_iv', iv_le, iv_lt, iv_eq, iv_no, no_iv, Nat.not_lt_zero, Nat.le_refl, vu_same, vu_ne, vu_up, ↓reduceIte, Nat.reduceEqDiff, Nat.reduceLeDiff, Nat.reduceLT, Nat.one_ne_zero, Nat.zero_ne_one, if_true, if_false, hc, foldN, vLi, hw0]
    · simp (maxSteps := 3000000) (disch := first | assumption | omega | (simp (disch := omega) only [okx_iv', nx_iv, iv_add, L0, L1, L2, L3, L7, L8, L14, L21, L28, L35, L55, L56, *]; try omega)) only [fX1_listen_l19, fX1_listen_i19, ↓gv_3, ↓bvv, ↓gvv, ↓tvv, ↓ld_aBk, L0, L1, ↓b_notes h, iv_add, no_def, nx_iv, okx_iv', iv_le, iv_lt, iv_eq, iv_no, no_iv, Nat.not_lt_zero, Nat.le_refl, vu_same, vu_ne, vu_up, ↓reduceIte, Nat.reduceEqDiff, Nat.reduceLeDiff, Nat.reduceLT, Nat.one_ne_zero, Nat.zero_ne_one, if_true, if_false, hc, foldN, vLi, hw0]
  | succ j ih =>
    intro s fuel x hx hs hf
    obtain ⟨f, rfl⟩ : ∃ f, fuel = f + 1 := ⟨fuel - 1, by omega⟩
    have hc : ¬ nN ≤ s := by omega
    have e1 : fX1_worstBy (some (aV c)) (iv s) (zS c td lw rw bf kp st ln rd rl rn ms sc mc fa pm xl pc rt ra ch ow ou B) = some (mWt (fun q => mWh (mc 0) nN (g q)) g (2 ^ nS) s) := c_worst_l h hg (i := s) (by omega) (2 ^ nS) 0 gFU (iv 0, iv 0) (by omega) (by unfold gFU; omega)
    refine Eq.trans ?_ (ih (s + 1) f (liS (mc 0) (mWt (fun q => mWh (mc 0) nN (g q)) g (2 ^ nS)) s x) (liS_lt hx) (by omega) (by omega))
    obtain ⟨o, l⟩ := x
    by_cases c1 : mc 0 s = NO
    · cases o with
      | none => simp (maxSteps := 3000000) (disch := first | assumption | omega | (simp (disch := omega) only [okx_iv', nx_iv, iv_add, L0, L1, L2, L3, L7, L8, L14, L21, L28, L35, L55, L56, *]; try omega)) only [fX1_listen_l19, fX1_listen_i19, ↓gv_3, ↓bvv, ↓gvv, ↓tvv, ↓ld_aBk, L0, L1, ↓b_notes h, iv_add, no_def, nx_iv, okx_iv', iv_le, iv_lt, iv_eq, iv_no, no_iv, Nat.not_lt_zero, Nat.le_refl, vu_same, vu_ne, vu_up, ↓reduceIte, Nat.reduceEqDiff, Nat.reduceLeDiff, Nat.reduceLT, Nat.one_ne_zero, Nat.zero_ne_one, if_true, if_false, hc, c1, ↓bnd e1, mOpt, liS]
      | some r =>
        have hr2 : r < s := hx r rfl
        by_cases c2 : mWt (fun q => mWh (mc 0) nN (g q)) g (2 ^ nS) s < l
        · simp (maxSteps := 3000000) (disch := first | assumption | omega | (simp (disch := omega) only [okx_iv', nx_iv, iv_add, L0, L1, L2, L3, L7, L8, L14, L21, L28, L35, L55, L56, *]; try omega)) only [fX1_listen_l19, fX1_listen_i19, ↓gv_3, ↓bvv, ↓gvv, ↓tvv, ↓ld_aBk, L0, L1, ↓b_notes h, iv_add, no_def, nx_iv, okx_iv', iv_le, iv_lt, iv_eq, iv_no, no_iv, Nat.not_lt_zero, Nat.le_refl, vu_same, vu_ne, vu_up, ↓reduceIte, Nat.reduceEqDiff, Nat.reduceLeDiff, Nat.reduceLT, Nat.one_ne_zero, Nat.zero_ne_one, if_true, if_false, hc, c1, ↓bnd e1, mOpt, liS, c2]
        · simp (maxSteps := 3000000) (disch := first | assumption | omega | (simp (disch := omega) only [okx_iv', nx_iv, iv_add, L0, L1, L2, L3, L7, L8, L14, L21, L28, L35, L55, L56, *]; try omega)) only [fX1_listen_l19, fX1_listen_i19, ↓gv_3, ↓bvv, ↓gvv, ↓tvv, ↓ld_aBk, L0, L1, ↓b_notes h, iv_add, no_def, nx_iv, okx_iv', iv_le, iv_lt, iv_eq, iv_no, no_iv, Nat.not_lt_zero, Nat.le_refl, vu_same, vu_ne, vu_up, ↓reduceIte, Nat.reduceEqDiff, Nat.reduceLeDiff, Nat.reduceLT, Nat.one_ne_zero, Nat.zero_ne_one, if_true, if_false, hc, c1, ↓bnd e1, mOpt, liS, c2]
    · simp (maxSteps := 3000000) (disch := first | assumption | omega | (simp (disch := omega) only [okx_iv', nx_iv, iv_add, L0, L1, L2, L3, L7, L8, L14, L21, L28, L35, L55, L56, *]; try omega)) only [fX1_listen_l19, fX1_listen_i19, ↓gv_3, ↓bvv, ↓gvv, ↓tvv, ↓ld_aBk, L0, L1, ↓b_notes h, iv_add, no_def, nx_iv, okx_iv', iv_le, iv_lt, iv_eq, iv_no, no_iv, Nat.not_lt_zero, Nat.le_refl, vu_same, vu_ne, vu_up, ↓reduceIte, Nat.reduceEqDiff, Nat.reduceLeDiff, Nat.reduceLT, Nat.one_ne_zero, Nat.zero_ne_one, if_true, if_false, hc, c1, liS]
theorem s_isTold (hm : pm 33 = iv lm) (hb : bkO mc ln nN lm) {i : Nat} (hi : i < nN) (hN : nN ≤ 20) : fX6_isTold (some (aM c)) (iv i) (zS c td lw rw bf kp st ln rd rl rn ms sc mc fa pm xl pc rt ra ch ow ou B) = some (if mc 0 i = NO then iv 0 else iv 1) := by
  have hb1 := hb.1
  have key : ∀ (j s fuel : Nat), s + j = lm → j < fuel → ((∀ q, s ≤ q → q < lm → ln q 0 ≠ iv i) → fX6_isTold_l2 fuel (some (aM c)) (iv i) (iv s) (zS c td lw rw bf kp st ln rd rl rn ms sc mc fa pm xl pc rt ra ch ow ou B) = some (iv 0)) ∧ (¬ (∀ q, s ≤ q → q < lm → ln q 0 ≠ iv i) → fX6_isTold_l2 fuel (some (aM c)) (iv i) (iv s) (zS c td lw rw bf kp st ln rd rl rn ms sc mc fa pm xl pc rt ra ch ow ou B) = some (iv 1)) := by
    intro j
    induction j with
    | zero =>
      intro s fuel hs hf
      obtain ⟨f, rfl⟩ : ∃ f, fuel = f + 1 := ⟨fuel - 1, by omega⟩
      have hc : lm ≤ s := by omega
      refine ⟨fun _ => ?_, fun hb => absurd (fun i h1 h2 => by omega) hb⟩
      simp (maxSteps := 3000000) (disch := first | assumption | omega | (simp (disch := omega) only [okx_iv', nx_iv, iv_add, L0, L1, L2, L3, L7, L8, L14, L21, L28, L35, L55, L56, *]; try omega)) only [fX6_isTold_l2, fX6_isTold_i2, ↓gm_33, ↓gm_23, ↓ld_aLns, ↓ld_aLn, L0, L1, hm, iv_add, no_def, nx_iv, okx_iv', iv_le, iv_lt, iv_eq, iv_no, no_iv, Nat.not_lt_zero, Nat.le_refl, vu_same, vu_ne, vu_up, ↓reduceIte, hc]
    | succ j ih =>
      intro s fuel hs hf
      obtain ⟨f, rfl⟩ : ∃ f, fuel = f + 1 := ⟨fuel - 1, by omega⟩
      have hc : ¬ lm ≤ s := by omega
      obtain ⟨k1, k2⟩ := ih (s + 1) f (by omega) (by omega)
      by_cases c1 : ln s 0 = iv i
      · refine ⟨fun hb => absurd c1 (hb s (by omega) (by omega)), fun _ => ?_⟩
        simp (maxSteps := 3000000) (disch := first | assumption | omega | (simp (disch := omega) only [okx_iv', nx_iv, iv_add, L0, L1, L2, L3, L7, L8, L14, L21, L28, L35, L55, L56, *]; try omega)) only [fX6_isTold_l2, fX6_isTold_i2, ↓gm_33, ↓gm_23, ↓ld_aLns, ↓ld_aLn, L0, L1, hm, iv_add, no_def, nx_iv, okx_iv', iv_le, iv_lt, iv_eq, iv_no, no_iv, Nat.not_lt_zero, Nat.le_refl, vu_same, vu_ne, vu_up, ↓reduceIte, hc, c1]
      · have step : fX6_isTold_l2 (f + 1) (some (aM c)) (iv i) (iv s) (zS c td lw rw bf kp st ln rd rl rn ms sc mc fa pm xl pc rt ra ch ow ou B) = fX6_isTold_l2 f (some (aM c)) (iv i) (iv (s + 1)) (zS c td lw rw bf kp st ln rd rl rn ms sc mc fa pm xl pc rt ra ch ow ou B) := by
          simp (maxSteps := 3000000) (disch := first | assumption | omega | (simp (disch := omega) only [okx_iv', nx_iv, iv_add, L0, L1, L2, L3, L7, L8, L14, L21, L28, L35, L55, L56, *]; try omega)) only [fX6_isTold_l2, fX6_isTold_i2, ↓gm_33, ↓gm_23, ↓ld_aLns, ↓ld_aLn, L0, L1, hm, iv_add, no_def, nx_iv, okx_iv', iv_le, iv_lt, iv_eq, iv_no, no_iv, Nat.not_lt_zero, Nat.le_refl, vu_same, vu_ne, vu_up, ↓reduceIte, hc, c1]
        rw [step]
        refine ⟨fun hb => k1 (fun i i1 i2 => hb i (by omega) i2), fun hb => k2 (fun hb2 => hb (fun q i1 i2 => ?_))⟩
        by_cases e : q = s
        · rw [e]; exact c1
        · exact hb2 q (by omega) i2
  obtain ⟨k1, k2⟩ := key lm 0 gFU (by omega) (by unfold gFU; omega)
  by_cases c1 : mc 0 i = NO
  · rw [if_pos c1]
    refine k1 (fun q _ hq e => ?_)
    obtain ⟨i', i1, i2, i3, i4⟩ := hb.2.1 q hq
    have e2 : i = i' := iv_inj (by omega) (by omega) (e.symm.trans i2)
    subst e2
    rw [i3] at c1
    rcases i4 with i4 | i4 <;> rw [i4] at c1 <;> exact absurd c1 (by decide)
  · rw [if_neg c1]
    refine k2 (fun hq => ?_)
    obtain ⟨q, q1, q2⟩ := (hb.2.2 i (by omega)).resolve_left c1
    exact hq q (by omega) q1 q2
theorem r_listen_l {kl : Nat} (hl : lOK lw kl F) (ht : tOK td nS nN nL) (hb : bkO mc ln nN lm) {w : Nat} (hw : w ≤ 1) : ∀ (j s fuel : Nat) (rw sc : Nat → Nat → Int32) (pm : Nat → Int32) (x : Option Nat × Int32), pm 19 = iv kl → pm 33 = iv lm → rw 0 = ρ → (∀ r, x.1 = some r → r < s) → s + j = nN → j < fuel → ∃ sc' r' y, fX6_listen_l37 fuel (some (aM c)) (iv w) (mOpt x.1) x.2 (iv s) (zS c td lw rw bf kp st ln rd rl rn ms sc mc fa pm xl pc rt ra ch ow ou B) = some (vLi w (foldN (liS (mc 0) (mWt (fun q => mWh (mc 0) nN (mHd td F nS nN ρ q)) (mHd td F nS nN ρ) (2 ^ nS))) j s x), (zS c td lw (va_up rw 1 r') bf kp st ln rd rl rn ms (sc') mc fa (va_up pm 38 y) xl pc rt ra ch ow ou B)) := by
  intro j
  have ht' := ht
  obtain ⟨h1, h2, h3, h4, h5, h6⟩ := ht
  have hp7 := pow7 h4
  induction j with
  | zero =>
    intro s fuel rw sc pm x hpm hm hr hx hs hf
    obtain ⟨f, rfl⟩ : ∃ f, fuel = f + 1 := ⟨fuel - 1, by omega⟩
    have hc : nN ≤ s := by omega
    refine ⟨sc, rw 1, pm 38, ?_⟩
    by_cases hw0 : w = 0
    · simp (maxSteps := 3000000) (disch := first | assumption | omega | (simp (disch := omega) only [okx_iv', nx_iv, iv_add, L0, L1, L2, L3, L7, L8, L14, L21, L28, L35, L55, L56, *]; try omega)) only [fX6_listen_l37, fX6_listen_i37, ↓gm_12, ↓bvm, ↓gvm, ↓ld_aTo, L0, L1, h2, iv_add, no_def, nx_iv, okx_iv', iv_le, iv_lt, iv_eq, iv_no, no_iv, Nat.not_lt_zero, Nat.le_refl, vu_same, vu_ne, vu_up, ↓reduceIte, Nat.reduceEqDiff, Nat.reduceLeDiff, Nat.reduceLT, Nat.one_ne_zero, Nat.zero_ne_one, if_true, if_false, hc, foldN, vLi, hw0, vu_id]
    · simp (maxSteps := 3000000) (disch := first | assumption | omega | (simp (disch := omega) only [okx_iv', nx_iv, iv_add, L0, L1, L2, L3, L7, L8, L14, L21, L28, L35, L55, L56, *]; try omega)) only [fX6_listen_l37, fX6_listen_i37, ↓gm_12, ↓bvm, ↓gvm, ↓ld_aTo, L0, L1, h2, iv_add, no_def, nx_iv, okx_iv', iv_le, iv_lt, iv_eq, iv_no, no_iv, Nat.not_lt_zero, Nat.le_refl, vu_same, vu_ne, vu_up, ↓reduceIte, Nat.reduceEqDiff, Nat.reduceLeDiff, Nat.reduceLT, Nat.one_ne_zero, Nat.zero_ne_one, if_true, if_false, hc, foldN, vLi, hw0, vu_id]
  | succ j ih =>
    intro s fuel rw sc pm x hpm hm hr hx hs hf
    obtain ⟨f, rfl⟩ : ∃ f, fuel = f + 1 := ⟨fuel - 1, by omega⟩
    have hc : ¬ nN ≤ s := by omega
    have e0 := s_isTold (c := c) (td := td) (lw := lw) (rw := rw) (bf := bf) (kp := kp) (st := st) (ln := ln) (rd := rd) (rl := rl) (rn := rn) (ms := ms) (sc := sc) (mc := mc) (fa := fa) (pm := pm) (xl := xl) (pc := pc) (rt := rt) (ra := ra) (ch := ch) (ow := ow) (ou := ou) (B := B) hm hb (i := s) (by omega) h5
    by_cases c1 : mc 0 s = NO
    · rw [if_pos c1] at e0
      obtain ⟨sc1, r1, y1, g1⟩ := r_worst_l (ρ := ρ) (c := c) (td := td) (lw := lw) (rw := rw) (bf := bf) (kp := kp) (st := st) (ln := ln) (rd := rd) (rl := rl) (rn := rn) (ms := ms) (sc := sc) (mc := mc) (fa := fa) (pm := pm) (xl := xl) (pc := pc) (rt := rt) (ra := ra) (ch := ch) (ow := ow) (ou := ou) (B := B) hl ht' hb (i := s) (by omega) (2 ^ nS) 0 gFU (iv 0, iv 0) hpm hm hr (by omega) (by unfold gFU; omega)
      have g1' : fX6_worstOf (some (aM c)) (iv s) (zS c td lw rw bf kp st ln rd rl rn ms sc mc fa pm xl pc rt ra ch ow ou B) = some (mWt (fun q => mWh (mc 0) nN (mHd td F nS nN ρ q)) (mHd td F nS nN ρ) (2 ^ nS) s, (zS c td lw (va_up rw 1 r1) bf kp st ln rd rl rn ms (sc1) mc fa (va_up pm 38 y1) xl pc rt ra ch ow ou B)) := g1
      obtain ⟨sc2, r2, y2, g2⟩ := ih (s + 1) f (va_up rw 1 r1) sc1 (va_up pm 38 y1) (liS (mc 0) (mWt (fun q => mWh (mc 0) nN (mHd td F nS nN ρ q)) (mHd td F nS nN ρ) (2 ^ nS)) s x) ((vu_ne (by decide)).trans hpm) ((vu_ne (by decide)).trans hm) ((vu_ne (by decide)).trans hr) (liS_lt hx) (by omega) (by omega)
      rw [vu_up, vu_up] at g2
      refine ⟨sc2, r2, y2, Eq.trans ?_ g2⟩
      obtain ⟨o, l⟩ := x
      cases o with
      | none => simp (maxSteps := 3000000) (disch := first | assumption | omega | (simp (disch := omega) only [okx_iv', nx_iv, iv_add, L0, L1, L2, L3, L7, L8, L14, L21, L28, L35, L55, L56, *]; try omega)) only [fX6_listen_l37, fX6_listen_i37, ↓gm_12, ↓bvm, ↓gvm, ↓ld_aTo, L0, L1, h2, iv_add, no_def, nx_iv, okx_iv', iv_le, iv_lt, iv_eq, iv_no, no_iv, Nat.not_lt_zero, Nat.le_refl, vu_same, vu_ne, vu_up, ↓reduceIte, Nat.reduceEqDiff, Nat.reduceLeDiff, Nat.reduceLT, Nat.one_ne_zero, Nat.zero_ne_one, if_true, if_false, hc, c1, ↓bnd e0, ↓gbn g1', mOpt, liS]
      | some r =>
        have hr2 : r < s := hx r rfl
        by_cases c2 : mWt (fun q => mWh (mc 0) nN (mHd td F nS nN ρ q)) (mHd td F nS nN ρ) (2 ^ nS) s < l
        · simp (maxSteps := 3000000) (disch := first | assumption | omega | (simp (disch := omega) only [okx_iv', nx_iv, iv_add, L0, L1, L2, L3, L7, L8, L14, L21, L28, L35, L55, L56, *]; try omega)) only [fX6_listen_l37, fX6_listen_i37, ↓gm_12, ↓bvm, ↓gvm, ↓ld_aTo, L0, L1, h2, iv_add, no_def, nx_iv, okx_iv', iv_le, iv_lt, iv_eq, iv_no, no_iv, Nat.not_lt_zero, Nat.le_refl, vu_same, vu_ne, vu_up, ↓reduceIte, Nat.reduceEqDiff, Nat.reduceLeDiff, Nat.reduceLT, Nat.one_ne_zero, Nat.zero_ne_one, if_true, if_false, hc, c1, ↓bnd e0, ↓gbn g1', mOpt, liS, c2]
        · simp (maxSteps := 3000000) (disch := first | assumption | omega | (simp (disch := omega) only [okx_iv', nx_iv, iv_add, L0, L1, L2, L3, L7, L8, L14, L21, L28, L35, L55, L56, *]; try omega)) only [fX6_listen_l37, fX6_listen_i37, ↓gm_12, ↓bvm, ↓gvm, ↓ld_aTo, L0, L1, h2, iv_add, no_def, nx_iv, okx_iv', iv_le, iv_lt, iv_eq, iv_no, no_iv, Nat.not_lt_zero, Nat.le_refl, vu_same, vu_ne, vu_up, ↓reduceIte, Nat.reduceEqDiff, Nat.reduceLeDiff, Nat.reduceLT, Nat.one_ne_zero, Nat.zero_ne_one, if_true, if_false, hc, c1, ↓bnd e0, ↓gbn g1', mOpt, liS, c2]
    · rw [if_neg c1] at e0
      obtain ⟨sc2, r2, y2, g2⟩ := ih (s + 1) f rw sc pm x hpm hm hr (fun r hr => by have := hx r hr; omega) (by omega) (by omega)
      refine ⟨sc2, r2, y2, Eq.trans ?_ (g2.trans ?_)⟩
      · simp (maxSteps := 3000000) (disch := first | assumption | omega | (simp (disch := omega) only [okx_iv', nx_iv, iv_add, L0, L1, L2, L3, L7, L8, L14, L21, L28, L35, L55, L56, *]; try omega)) only [fX6_listen_l37, fX6_listen_i37, ↓gm_12, ↓bvm, ↓gvm, ↓ld_aTo, L0, L1, h2, iv_add, no_def, nx_iv, okx_iv', iv_le, iv_lt, iv_eq, iv_no, no_iv, Nat.not_lt_zero, Nat.le_refl, vu_same, vu_ne, vu_up, ↓reduceIte, Nat.reduceEqDiff, Nat.reduceLeDiff, Nat.reduceLT, Nat.one_ne_zero, Nat.zero_ne_one, if_true, if_false, hc, ↓bnd e0]
      · show _ = some (vLi w (foldN (liS (mc 0) (mWt (fun q => mWh (mc 0) nN (mHd td F nS nN ρ q)) (mHd td F nS nN ρ) (2 ^ nS))) j (s + 1) (liS (mc 0) (mWt (fun q => mWh (mc 0) nN (mHd td F nS nN ρ q)) (mHd td F nS nN ρ) (2 ^ nS)) s x)), _)
        rw [show liS (mc 0) (mWt (fun q => mWh (mc 0) nN (mHd td F nS nN ρ q)) (mHd td F nS nN ρ) (2 ^ nS)) s x = x from if_neg c1]
theorem Q_listen (I : invA c td lw rw bf kp st ln rd rl rn ms sc mc fa pm xl pc rt ra ch ow ou B nS nN nL sgA ntA lkA F tp wk im lm n) (hn : n < 64) (p : Int32) : qI c n (fX0_listen (some (aV c)) p (some (aOu c)) (zS c td lw rw bf kp st ln rd rl rn ms sc mc fa pm xl pc rt ra ch ow ou B)) (fun S => fX6_listen (some (aM c)) p S) := by
  have hN := I.2.2.1
  have hT := I.1
  have hC0 := I.2.2.2.1
  have hR := hC0.1
  have hB := I.2.2.2.2.2.2.2.2
  have hS := hT.2.1.1
  have hNn := hT.2.1.2.1
  have hLn := hT.2.1.2.2.1
  have hf : 1000 < gFU := by unfold gFU; omega
  obtain ⟨kl, hl1, hl2⟩ := I.2.1.1
  have hl3 := I.2.1.2
  rcases rngP p with ⟨w, hk0, rfl⟩ | e0
  rotate_left
  · have hC : fX1_listen (some (aV c)) p (zS c td lw rw bf kp st ln rd rl rn ms sc mc fa pm xl pc rt ra ch ow ou B) = some (.inr (31, B.2.1), (zS c td lw rw bf kp st ln rd rl rn ms sc (va_up mc 1 (va_up (mc 1) 1 (mc 1 1 + iv 1))) fa pm xl pc rt ra ch ow ou (bX 31 B))) := by
      unfold fX1_listen
      simp (maxSteps := 3000000) (disch := first | assumption | omega | (simp (disch := omega) only [okx_iv', nx_iv, iv_add, L0, L1, L2, L3, L7, L8, L14, L21, L28, L35, L55, L56, *]; try omega)) only [↓bvv, ↓gvv, ↓tvv, L0, L1, iv_add, no_def, nx_iv, okx_iv', iv_le, iv_lt, iv_eq, iv_no, no_iv, Nat.not_lt_zero, Nat.le_refl, vu_same, vu_ne, vu_up, ↓reduceIte, Nat.reduceEqDiff, Nat.reduceLeDiff, Nat.reduceLT, Nat.one_ne_zero, Nat.zero_ne_one, if_true, if_false, e0.1, ↓gtx (c_need0e hB.1 (hB.rm hn (by decide) (by decide)) e0.1), or_true, ↓tvv, ↓gtn c_need1, ↓gtx (c_need0 hB.1 (hB.rm hn (by decide) (by decide)))]
    have hM : fX6_listen (some (aM c)) p (zS c td lw rw bf kp st ln rd rl rn ms sc (va_up mc 1 (va_up (mc 1) 1 (mc 1 1 + iv 1))) fa pm xl pc rt ra ch ow ou (bX 31 B)) = some (iv 0, (zS c td lw rw bf kp st ln rd rl rn (va_up ms 1 (va_up (ms 1) 1 (ms 1 1 + iv 1))) sc (va_up mc 1 (va_up (mc 1) 1 (mc 1 1 + iv 1))) fa (va_up pm 0 (iv 1)) xl pc rt ra ch ow ou (bX 31 B))) := by
      unfold fX6_listen fX6_listen_j20
      simp (maxSteps := 3000000) (disch := first | assumption | omega | (simp (disch := omega) only [okx_iv', nx_iv, iv_add, L0, L1, L2, L3, L7, L8, L14, L21, L28, L35, L55, L56, *]; try omega)) only [↓pm_0, ↓bvm, ↓gvm, L0, L1, iv_add, no_def, nx_iv, okx_iv', iv_le, iv_lt, iv_eq, iv_no, no_iv, Nat.not_lt_zero, Nat.le_refl, vu_same, vu_ne, vu_up, ↓reduceIte, Nat.reduceEqDiff, Nat.reduceLeDiff, Nat.reduceLT, Nat.one_ne_zero, Nat.zero_ne_one, if_true, if_false, in_eq, has_eq, vow_eq, e0.2, ↓gbn (s_bad0L (vu_same _ _ _)), ↓gbn (s_bad0 (vu_same _ _ _)), ↓gbn (s_bad11L (vu_same _ _ _)), ↓gbn (s_bad1 (k := 1) (r := 1) (vu_same _ _ _) (by decide) (by decide))]
    exact qI_no (k := 1) (by decide) ((w_no zis0 hC).trans rfl) zis3 hM (vu_same _ _ _) (bad11 I)
  have hb := I.2.2.2.2.1
  have hp7 := pow7 hS
  obtain ⟨fa1, b1, g, g1, g2⟩ := c_layHeard (c := c) (td := td) (lw := lw) (rw := rw) (bf := bf) (kp := kp) (st := st) (ln := ln) (rd := rd) (rl := rl) (rn := rn) (ms := ms) (sc := sc) (mc := mc) (fa := fa) (pm := pm) (xl := xl) (pc := pc) (rt := rt) (ra := ra) (ch := ch) (ow := ow) (ou := ou) (B := B) hT.2.1 hl3 hR
  obtain ⟨V, hV⟩ : ∃ V, V = vLi w (foldN (liS (mc 0) (mWt (fun q => mWh (mc 0) nN (mHd td F nS nN (rw 0) q)) (mHd td F nS nN (rw 0)) (2 ^ nS))) nN 0 (none, NO)) := ⟨_, rfl⟩
  have g3 := q_listen_l (g := mHd td F nS nN (rw 0)) (c := c) (td := td) (lw := lw) (rw := rw) (bf := bf) (kp := kp) (st := st) (ln := ln) (rd := rd) (rl := rl) (rn := rn) (ms := ms) (sc := sc) (mc := va_up mc 6 g) (fa := fa1) (pm := pm) (xl := xl) (pc := pc) (rt := rt) (ra := ra) (ch := va_up ch 18 b1) (ow := ow) (ou := ou) (B := B) hT.2.1 hk0 (fun q hq => by rw [vu_same]; exact g1 q hq) nN 0 gFU (none, NO) (fun _ h => nomatch h) (by omega) (by omega)
  rw [vu_ne (by decide), ← hV] at g3
  obtain ⟨sc1, r1, y1, g4⟩ := r_listen_l (ρ := rw 0) (c := c) (td := td) (lw := lw) (rw := rw) (bf := bf) (kp := kp) (st := st) (ln := ln) (rd := rd) (rl := rl) (rn := rn) (ms := ms) (sc := sc) (mc := va_up mc 6 g) (fa := fa1) (pm := va_up pm 0 (iv 0)) (xl := xl) (pc := pc) (rt := rt) (ra := ra) (ch := va_up ch 18 b1) (ow := ow) (ou := va_up ou 0 V.toInt64) (B := B) hl1 hT.1 (by unfold bkO; rw [vu_ne (by decide)]; exact hb) hk0 nN 0 gFU (none, NO) ((vu_ne (by decide)).trans hl2) ((vu_ne (by decide)).trans hN.2.2.2.2.2.1.1) rfl (fun _ h => nomatch h) (by omega) (by omega)
  rw [vu_ne (by decide), ← hV] at g4
  have hC : fX1_listen (some (aV c)) (iv w) (zS c td lw rw bf kp st ln rd rl rn ms sc mc fa pm xl pc rt ra ch ow ou B) = some (.inl (V), (zS c td lw rw bf kp st ln rd rl rn ms sc (va_up mc 6 g) (fa1) pm xl pc rt ra (va_up ch 18 b1) ow ou B)) := by
    unfold fX1_listen
    simp (maxSteps := 3000000) (disch := first | assumption | omega | (simp (disch := omega) only [okx_iv', nx_iv, iv_add, L0, L1, L2, L3, L7, L8, L14, L21, L28, L35, L55, L56, *]; try omega)) only [↓bvv, ↓gvv, ↓tvv, L0, L1, iv_add, no_def, nx_iv, okx_iv', iv_le, iv_lt, iv_eq, iv_no, no_iv, Nat.not_lt_zero, Nat.le_refl, vu_same, vu_ne, vu_up, ↓reduceIte, Nat.reduceEqDiff, Nat.reduceLeDiff, Nat.reduceLT, Nat.one_ne_zero, Nat.zero_ne_one, if_true, if_false, rngP1 hk0, ↓gtn (c_need1e (rngP1 hk0)), Nat.zero_add, ↓tvv, ↓gtn c_need1, ↓gbn g2]
    exact g3
  have hM : fX6_listen (some (aM c)) (iv w) (zS c td lw rw bf kp st ln rd rl rn ms sc (va_up mc 6 g) (fa1) pm xl pc rt ra (va_up ch 18 b1) ow (va_up ou 0 (V).toInt64) B) = some (V, (zS c td lw (va_up rw 1 r1) bf kp st ln rd rl rn ms (sc1) (va_up mc 6 g) (fa1) (va_up (va_up pm 0 (iv 0)) 38 y1) xl pc rt ra (va_up ch 18 b1) ow (va_up ou 0 (V).toInt64) B)) := by
    unfold fX6_listen fX6_listen_j20
    simp (maxSteps := 3000000) (disch := first | assumption | omega | (simp (disch := omega) only [okx_iv', nx_iv, iv_add, L0, L1, L2, L3, L7, L8, L14, L21, L28, L35, L55, L56, *]; try omega)) only [↓pm_0, ↓bvm, ↓gvm, L0, L1, iv_add, no_def, nx_iv, okx_iv', iv_le, iv_lt, iv_eq, iv_no, no_iv, Nat.not_lt_zero, Nat.le_refl, vu_same, vu_ne, vu_up, ↓reduceIte, Nat.reduceEqDiff, Nat.reduceLeDiff, Nat.reduceLT, Nat.one_ne_zero, Nat.zero_ne_one, if_true, if_false, in_eq, has_eq, vow_eq, rng1 hk0 (by decide), Nat.zero_add, ↓gbn (s_bad0L (vu_same _ _ _)), ↓gbn (s_bad0 (vu_same _ _ _))]
    exact g4
  exact qI_ok (w_ok zis0 hC) zis3 hM (by simp (disch := omega) only [vu_same, vu_ne]) (vu_same _ _ _) (inv_q I (by first | rfl | simp (disch := omega) only [vu_ne]) (fun k hk => by first | rfl | simp (disch := omega) only [vu_ne]) (by first | rfl | simp (disch := omega) only [vu_ne]) (fun k hk => by first | rfl | simp (disch := omega) only [vu_ne]) (by first | exact ⟨hN.2.2.2.2.2.2.1, hN.2.2.2.2.2.2.2⟩ | (simp (disch := omega) only [vu_same, vu_ne, hN.2.2.2.2.2.2.1, hN.2.2.2.2.2.2.2, and_self])) (fun k hk => by first | rfl | simp (disch := omega) only [vu_ne]) (fun x hx => by first | rfl | simp (disch := omega) only [vu_ne]) (by first | exact Or.inl rfl | exact Or.inr ⟨_, rfl⟩))
end s41
