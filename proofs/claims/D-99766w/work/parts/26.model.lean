set_option maxRecDepth 100000
theorem add_iv0 (x : Int32) : x + iv 0 = x := Int32.add_zero x
theorem or_iv0 (x : Int32) : x ||| iv 0 = x := Int32.or_zero
section s26
variable {c : Nat} {td : Nat → Nat → Int32} {lw : Nat → Nat → Int32} {rw : Nat → Nat → Int32} {bf : Nat → Nat → Int32} {kp : Nat → Nat → Int32} {st : Nat → Nat → Int32} {ln : Nat → Nat → Int32} {rd : Nat → Nat → Int32} {rl : Nat → Nat → Int32} {rn : Nat → Nat → Int32} {ms : Nat → Nat → Int32} {sc : Nat → Nat → Int32} {mc : Nat → Nat → Int32} {fa : Nat → Int32} {pm : Nat → Int32} {xl : Nat → Int64} {pc : Nat → Int32} {rt : Nat → Option Nat} {ra : Nat → Nat → Option Nat} {ch : Nat → (Nat → Nat → Int32) × (Nat → Int32)} {ow : Nat → Option (Nat × Nat)} {ou : Nat → Int64} {B : gS}
theorem s_sungBy {k nS nN nL : Nat} {F : (Nat → Int32) → Int32} (h : lOK lw k F) (hm : pm 19 = iv k) (ht : tOK td nS nN nL) {b n : Nat} (hb : b < 2) (hn : n < nN) : ∃ sc', fX6_sungBy (some (aM c)) (some (aRow c b)) (iv n) (zS c td lw rw bf kp st ln rd rl rn ms sc mc fa pm xl pc rt ra ch ow ou B) = some (mOpt (mSb td F (rw b) n nS 0), (zS c td lw rw bf kp st ln rd rl rn ms (sc') mc fa pm xl pc rt ra ch ow ou B)) := by
  have h5 := ht.2.2.2.1
  exact s_sungBy_l h hm ht hb hn nS 0 gFU sc (by omega) (by unfold gFU; omega)
theorem mSb_lt {td : Nat → Nat → Int32} {F : (Nat → Int32) → Int32} {ρ : Nat → Int32} {n : Nat} : ∀ {j s q : Nat}, mSb td F ρ n j s = some q → q < s + j ∧ s ≤ q := by
  intro j
  induction j with
  | zero => intro s q h; cases h
  | succ j ih =>
    intro s q h
    unfold mSb at h
    split at h
    · cases h; omega
    · have := ih h; omega
theorem mSb_can {td : Nat → Nat → Int32} {F : (Nat → Int32) → Int32} {ρ : Nat → Int32} {n : Nat} : ∀ {j s q : Nat}, mSb td F ρ n j s = some q → mCan td F ρ n q := by
  intro j
  induction j with
  | zero => intro s q h; cases h
  | succ j ih =>
    intro s q h
    unfold mSb at h
    split at h
    · next hc => cases h; exact hc
    · exact ih h
theorem s_sings {k nS nN nL : Nat} {F : (Nat → Int32) → Int32} (h : lOK lw k F) (hm : pm 19 = iv k) (ht : tOK td nS nN nL) {b n : Nat} (hb : b < 2) (hn : n < nN) : ∃ sc', fX6_sings (some (aM c)) (some (aRow c b)) (iv n) (zS c td lw rw bf kp st ln rd rl rn ms sc mc fa pm xl pc rt ra ch ow ou B) = some ((if (mSb td F (rw b) n nS 0).isSome then iv 1 else iv 0), (zS c td lw (va_up rw b (mSings td F nS (rw b) n)) bf kp st ln rd rl rn ms (sc') mc fa pm xl pc rt ra ch ow ou B)) := by
  obtain ⟨sc1, h1⟩ := s_sungBy (c := c) (td := td) (lw := lw) (rw := rw) (bf := bf) (kp := kp) (st := st) (ln := ln) (rd := rd) (rl := rl) (rn := rn) (ms := ms) (sc := sc) (mc := mc) (fa := fa) (pm := pm) (xl := xl) (pc := pc) (rt := rt) (ra := ra) (ch := ch) (ow := ow) (ou := ou) (B := B) h hm ht hb hn
  unfold fX6_sings mSings
  cases hq : mSb td F (rw b) n nS 0 with
  | none =>
    rw [hq] at h1
    refine ⟨sc1, ?_⟩
    simp (disch := first | assumption | omega | (simp (disch := omega) only [okx_iv', nx_iv, iv_add, L0, L1, L2, L3, L7, L8, L14, L21, L28, L35, L55, L56, *]; try omega)) only [↓gvm, ↓gbn h1, L0, L1, iv_add, no_def, nx_iv, okx_iv', iv_le, iv_lt, iv_eq, iv_no, no_iv, vu_same, vu_ne, vu_up, ↓reduceIte, mOpt, vu_id]
    rfl
  | some s =>
    rw [hq] at h1
    have hs := (mSb_lt hq).1
    have h6 := ht.2.2.2
    obtain ⟨sc2, h2⟩ := s_breathOf (c := c) (td := td) (lw := lw) (rw := rw) (bf := bf) (kp := kp) (st := st) (ln := ln) (rd := rd) (rl := rl) (rn := rn) (ms := ms) (sc := sc1) (mc := mc) (fa := fa) (pm := pm) (xl := xl) (pc := pc) (rt := rt) (ra := ra) (ch := ch) (ow := ow) (ou := ou) (B := B) h hm ht hb hn (s := s) (by omega)
    refine ⟨sc2, ?_⟩
    simp (disch := first | assumption | omega | (simp (disch := omega) only [okx_iv', nx_iv, iv_add, L0, L1, L2, L3, L7, L8, L14, L21, L28, L35, L55, L56, *]; try omega)) only [↓bvm, ↓gvm, ↓ld_aRow, ↓st_aRow, L0, L1, L14, L28, ↓gbn h1, ↓gbn h2, iv_add, no_def, nx_iv, okx_iv', iv_le, iv_lt, iv_eq, iv_no, no_iv, vu_same, vu_ne, vu_up, ↓reduceIte, mOpt, Nat.zero_add]
    rfl
theorem s_hymns_l {k nS nN nL : Nat} {F : (Nat → Int32) → Int32} (h : lOK lw k F) (ht : tOK td nS nN nL) {b : Nat} (hb : b < 2) : ∀ (j n fuel : Nat) (rw sc : Nat → Nat → Int32) (pm : Nat → Int32), pm 19 = iv k → n + j = nN → j < fuel → ∃ sc', fX6_hymns_l7 fuel (some (aM c)) (some (aRow c b)) (iv n) (zS c td lw rw bf kp st ln rd rl rn ms sc mc fa pm xl pc rt ra ch ow ou B) = some ((), (zS c td lw (va_up rw b (foldN (mHstep td F nS) j n (rw b, pm 38)).1) bf kp st ln rd rl rn ms (sc') mc fa (va_up pm 38 (foldN (mHstep td F nS) j n (rw b, pm 38)).2) xl pc rt ra ch ow ou B)) := by
  intro j
  have ht' := ht
  obtain ⟨h1, h2, h3, h4, h5, h6⟩ := ht
  induction j with
  | zero =>
    intro n fuel rw sc pm hm hs hf
    obtain ⟨f, rfl⟩ : ∃ f, fuel = f + 1 := ⟨fuel - 1, by omega⟩
    have hc : nN ≤ n := by omega
    refine ⟨sc, ?_⟩
    simp (disch := first | assumption | omega | (simp (disch := omega) only [okx_iv', nx_iv, iv_add, L0, L1, L2, L3, L7, L8, L14, L21, L28, L35, L55, L56, *]; try omega)) only [fX6_hymns_l7, fX6_hymns_i7, ↓gm_12, ↓bvm, ↓gvm, ↓ld_aTo, ↓ld_aRow, L0, L1, L55, iv_add, no_def, nx_iv, okx_iv', iv_le, iv_lt, iv_eq, iv_no, no_iv, vu_same, vu_ne, vu_up, ↓reduceIte, h2, hc, foldN, vu_id]
  | succ j ih =>
    intro n fuel rw sc pm hm hs hf
    obtain ⟨f, rfl⟩ : ∃ f, fuel = f + 1 := ⟨fuel - 1, by omega⟩
    have hc : ¬ nN ≤ n := by omega
    obtain ⟨sc1, h7⟩ := s_sings (c := c) (td := td) (lw := lw) (rw := rw) (bf := bf) (kp := kp) (st := st) (ln := ln) (rd := rd) (rl := rl) (rn := rn) (ms := ms) (sc := sc) (mc := mc) (fa := fa) (pm := pm) (xl := xl) (pc := pc) (rt := rt) (ra := ra) (ch := ch) (ow := ow) (ou := ou) (B := B) h hm ht' hb (n := n) (by omega)
    have hq : ∃ q, mHstep td F nS n (rw b, pm 38) = q := ⟨_, rfl⟩
    obtain ⟨q, hq⟩ := hq
    obtain ⟨sc2, h8⟩ := ih (n + 1) f (va_up rw b q.1) sc1 (va_up pm 38 q.2) ((vu_ne (by decide)).trans hm) (by omega) (by omega)
    rw [vu_same, vu_same, vu_up, vu_up, show (q.1, q.2) = q from rfl] at h8
    refine ⟨sc2, ?_⟩
    show fX6_hymns_l7 (f + 1) (some (aM c)) (some (aRow c b)) (iv n) (zS c td lw rw bf kp st ln rd rl rn ms sc mc fa pm xl pc rt ra ch ow ou B) = some ((), (zS c td lw (va_up rw b (foldN (mHstep td F nS) j (n + 1) (mHstep td F nS n (rw b, pm 38))).1) bf kp st ln rd rl rn ms (sc2) mc fa (va_up pm 38 (foldN (mHstep td F nS) j (n + 1) (mHstep td F nS n (rw b, pm 38))).2) xl pc rt ra ch ow ou B))
    rw [hq, ← h8]
    unfold mHstep at hq
    cases hz : mSb td F (rw b) n nS 0 with
    | none =>
      rw [hz] at h7
      simp only [hz] at hq
      subst hq
      simp (disch := first | assumption | omega | (simp (disch := omega) only [okx_iv', nx_iv, iv_add, L0, L1, L2, L3, L7, L8, L14, L21, L28, L35, L55, L56, *]; try omega)) only [fX6_hymns_l7, fX6_hymns_i7, fX6_hymns_j38, ↓gm_12, ↓bvm, ↓gvm, ↓gm_38, ↓pm_38, ↓ld_aTo, ↓st_aTo, ↓ld_aRow, ↓st_aRow, L0, L1, L31, L55, ↓gbn h7, iv_add, no_def, nx_iv, okx_iv', iv_le, iv_lt, iv_eq, iv_no, no_iv, vu_same, vu_ne, vu_up, ↓reduceIte, h2, hc, or_iv0, mSings, hz, vu_id, Option.isSome]
      rfl
    | some s =>
      rw [hz] at h7
      simp only [hz] at hq
      subst hq
      simp (disch := first | assumption | omega | (simp (disch := omega) only [okx_iv', nx_iv, iv_add, L0, L1, L2, L3, L7, L8, L14, L21, L28, L35, L55, L56, *]; try omega)) only [fX6_hymns_l7, fX6_hymns_i7, fX6_hymns_j38, ↓gm_12, ↓bvm, ↓gvm, ↓gm_38, ↓pm_38, ↓ld_aTo, ↓st_aTo, ↓ld_aRow, ↓st_aRow, L0, L1, L31, L55, ↓gbn h7, iv_add, no_def, nx_iv, okx_iv', iv_le, iv_lt, iv_eq, iv_no, no_iv, vu_same, vu_ne, vu_up, ↓reduceIte, h2, hc, or_iv0, add_iv0, vu_id, Option.isSome, mBit]
      rfl
theorem s_hymns {k nS nN nL : Nat} {F : (Nat → Int32) → Int32} (h : lOK lw k F) (hm : pm 19 = iv k) (ht : tOK td nS nN nL) {b : Nat} (hb : b < 2) : ∃ sc', fX6_hymns (some (aM c)) (some (aRow c b)) (zS c td lw rw bf kp st ln rd rl rn ms sc mc fa pm xl pc rt ra ch ow ou B) = some ((), (zS c td lw (va_up rw b (mHymn td F nS nN (rw b)).1) bf kp st ln rd rl rn ms (sc') mc fa (va_up pm 38 (mHymn td F nS nN (rw b)).2) xl pc rt ra ch ow ou B)) := by
  have h5 := ht.2.2.2
  obtain ⟨sc1, h1⟩ := s_hymns_l (c := c) (td := td) (lw := lw) (bf := bf) (kp := kp) (st := st) (ln := ln) (rd := rd) (rl := rl) (rn := rn) (ms := ms) (mc := mc) (fa := fa) (xl := xl) (pc := pc) (rt := rt) (ra := ra) (ch := ch) (ow := ow) (ou := ou) (B := B) h ht hb nN 0 gFU rw sc (va_up pm 38 (iv 0)) ((vu_ne (by decide)).trans hm) (by omega) (by unfold gFU; omega)
  rw [vu_same, vu_up] at h1
  refine ⟨sc1, ?_⟩
  unfold fX6_hymns
  simp (disch := first | assumption | omega | (simp (disch := omega) only [okx_iv', nx_iv, iv_add, L0, L1, L2, L3, L7, L8, L14, L21, L28, L35, L55, L56, *]; try omega)) only [↓pm_38, L0, iv_add, no_def, nx_iv, okx_iv', iv_le, iv_lt, iv_eq, iv_no, no_iv, vu_same, vu_ne, vu_up, ↓reduceIte]
  exact h1
theorem s_rests_l {nS nN nL : Nat} (ht : tOK td nS nN nL) {b : Nat} (hb : b < 2) : ∀ (j s fuel : Nat) (rw : Nat → Nat → Int32) (x : Int32), (x = iv 0 ∨ x = iv 1) → s + j = nS → j < fuel → fX6_rests_l4 fuel (some (aM c)) (some (aRow c b)) x (iv s) (zS c td lw rw bf kp st ln rd rl rn ms sc mc fa pm xl pc rt ra ch ow ou B) = some ((foldN (mRstep td) j s (rw b, x)).2, (zS c td lw (va_up rw b (foldN (mRstep td) j s (rw b, x)).1) bf kp st ln rd rl rn ms sc mc fa pm xl pc rt ra ch ow ou B)) := by
  intro j
  obtain ⟨h1, h2, h3, h4, h5, h6⟩ := ht
  induction j with
  | zero =>
    intro s fuel rw x hx hs hf
    obtain ⟨f, rfl⟩ : ∃ f, fuel = f + 1 := ⟨fuel - 1, by omega⟩
    have hc : nS ≤ s := by omega
    have hx' : (x = iv 0 ∨ x = iv 1) = True := eq_true hx
    simp (disch := first | assumption | omega | (simp (disch := omega) only [okx_iv', nx_iv, iv_add, L0, L1, L2, L3, L7, L8, L14, L21, L28, L35, L55, L56, *]; try omega)) only [fX6_rests_l4, fX6_rests_i4, ↓gm_12, ↓gm_14, ↓ld_aTo, ↓ld_aSgs, ↓ld_aSg, ↓ld_aRow, L0, L1, L2, L1, iv_add, no_def, nx_iv, okx_iv', iv_le, iv_lt, iv_eq, iv_no, no_iv, vu_same, vu_ne, vu_up, ↓reduceIte, h1, hc, foldN, vu_id, hx']
  | succ j ih =>
    intro s fuel rw x hx hs hf
    obtain ⟨f, rfl⟩ : ∃ f, fuel = f + 1 := ⟨fuel - 1, by omega⟩
    have hc : ¬ nS ≤ s := by omega
    have h9 := ih (s + 1) f (va_up rw b (va_up (rw b) s (fX6_less (td (1 + s) 2) (rw b s + td 0 3)))) (x ||| (if td (1 + s) 2 ≤ rw b s then iv 0 else iv 1)) (by rcases hx with rfl | rfl <;> split <;> decide) (by omega) (by omega)
    rw [vu_same, vu_up] at h9
    refine Eq.trans ?_ h9
    by_cases c1 : td (1 + s) 2 ≤ rw b s
    · simp (disch := first | assumption | omega | (simp (disch := omega) only [okx_iv', nx_iv, iv_add, L0, L1, L2, L3, L7, L8, L14, L21, L28, L35, L55, L56, *]; try omega)) only [fX6_rests_l4, fX6_rests_i4, fX6_rests_j36, ↓gm_12, ↓gm_14, ↓ld_aTo, ↓st_aTo, ↓ld_aSgs, ↓ld_aSg, ↓st_aSg, ↓ld_aRow, ↓st_aRow, L0, L1, L2, L3, iv_add, no_def, nx_iv, okx_iv', iv_le, iv_lt, iv_eq, iv_no, no_iv, vu_same, vu_ne, vu_up, ↓reduceIte, Nat.zero_add, h1, hc, c1]
    · simp (disch := first | assumption | omega | (simp (disch := omega) only [okx_iv', nx_iv, iv_add, L0, L1, L2, L3, L7, L8, L14, L21, L28, L35, L55, L56, *]; try omega)) only [fX6_rests_l4, fX6_rests_i4, fX6_rests_j36, ↓gm_12, ↓gm_14, ↓ld_aTo, ↓st_aTo, ↓ld_aSgs, ↓ld_aSg, ↓st_aSg, ↓ld_aRow, ↓st_aRow, L0, L1, L2, L3, iv_add, no_def, nx_iv, okx_iv', iv_le, iv_lt, iv_eq, iv_no, no_iv, vu_same, vu_ne, vu_up, ↓reduceIte, Nat.zero_add, h1, hc, c1]
theorem s_rests {nS nN nL : Nat} (ht : tOK td nS nN nL) {b : Nat} (hb : b < 2) : fX6_rests (some (aM c)) (some (aRow c b)) (zS c td lw rw bf kp st ln rd rl rn ms sc mc fa pm xl pc rt ra ch ow ou B) = some ((mRests td nS (rw b)).2, (zS c td lw (va_up rw b (mRests td nS (rw b)).1) bf kp st ln rd rl rn ms sc mc fa pm xl pc rt ra ch ow ou B)) :=
  s_rests_l ht hb nS 0 gFU rw (iv 0) (Or.inl rfl) (by omega) (by have := ht.2.2.2.1; unfold gFU; omega)
theorem s_breathes_l {nS nN nL : Nat} (ht : tOK td nS nN nL) {b : Nat} (hb : b < 2) : ∀ (j s fuel : Nat) (rw : Nat → Nat → Int32), s + j = nS → j < fuel → fX6_breathes_l2 fuel (some (aM c)) (some (aRow c b)) (iv s) (zS c td lw rw bf kp st ln rd rl rn ms sc mc fa pm xl pc rt ra ch ow ou B) = some ((), (zS c td lw (va_up rw b (foldN (fun s r => va_up r s (td (1 + s) 2)) j s (rw b))) bf kp st ln rd rl rn ms sc mc fa pm xl pc rt ra ch ow ou B)) := by
  intro j
  obtain ⟨h1, h2, h3, h4, h5, h6⟩ := ht
  induction j with
  | zero =>
    intro s fuel rw hs hf
    obtain ⟨f, rfl⟩ : ∃ f, fuel = f + 1 := ⟨fuel - 1, by omega⟩
    have hc : nS ≤ s := by omega
    simp (disch := first | assumption | omega | (simp (disch := omega) only [okx_iv', nx_iv, iv_add, L0, L1, L2, L3, L7, L8, L14, L21, L28, L35, L55, L56, *]; try omega)) only [fX6_breathes_l2, fX6_breathes_i2, ↓gm_12, ↓gm_14, ↓ld_aTo, ↓st_aTo, ↓ld_aSgs, ↓ld_aSg, ↓st_aSg, ↓ld_aRow, ↓st_aRow, L0, L1, L2, iv_add, no_def, nx_iv, okx_iv', iv_le, iv_lt, iv_eq, iv_no, no_iv, vu_same, vu_ne, vu_up, ↓reduceIte, h1, hc, foldN, vu_id]
  | succ j ih =>
    intro s fuel rw hs hf
    obtain ⟨f, rfl⟩ : ∃ f, fuel = f + 1 := ⟨fuel - 1, by omega⟩
    have hc : ¬ nS ≤ s := by omega
    have h9 := ih (s + 1) f (va_up rw b (va_up (rw b) s (td (1 + s) 2))) (by omega) (by omega)
    rw [vu_same, vu_up] at h9
    refine Eq.trans ?_ h9
    simp (disch := first | assumption | omega | (simp (disch := omega) only [okx_iv', nx_iv, iv_add, L0, L1, L2, L3, L7, L8, L14, L21, L28, L35, L55, L56, *]; try omega)) only [fX6_breathes_l2, fX6_breathes_i2, ↓gm_12, ↓gm_14, ↓ld_aTo, ↓st_aTo, ↓ld_aSgs, ↓ld_aSg, ↓st_aSg, ↓ld_aRow, ↓st_aRow, L0, L1, L2, iv_add, no_def, nx_iv, okx_iv', iv_le, iv_lt, iv_eq, iv_no, no_iv, vu_same, vu_ne, vu_up, ↓reduceIte, Nat.zero_add, h1, hc]
theorem s_breathes {nS nN nL : Nat} (ht : tOK td nS nN nL) {b : Nat} (hb : b < 2) : fX6_breathes (some (aM c)) (some (aRow c b)) (zS c td lw rw bf kp st ln rd rl rn ms sc mc fa pm xl pc rt ra ch ow ou B) = some ((), (zS c td lw (va_up rw b (mBrth td nS (rw b))) bf kp st ln rd rl rn ms sc mc fa pm xl pc rt ra ch ow ou B)) :=
  s_breathes_l ht hb nS 0 gFU rw (by omega) (by have := ht.2.2.2.1; unfold gFU; omega)
theorem s_dayEnds_l {nS nN nL : Nat} (ht : tOK td nS nN nL) {b : Nat} (hb : b < 2) : ∀ (j s fuel : Nat) (rw : Nat → Nat → Int32), s + j = nS → j < fuel → fX6_dayEnds_l7 fuel (some (aM c)) (some (aRow c b)) (iv s) (zS c td lw rw bf kp st ln rd rl rn ms sc mc fa pm xl pc rt ra ch ow ou B) = some ((), (zS c td lw (va_up rw b ((fun r => va_up r 56 (r 56 + iv 1)) (foldN (mDstep td) j s (rw b)))) bf kp st ln rd rl rn ms sc mc fa pm xl pc rt ra ch ow ou B)) := by
  intro j
  obtain ⟨h1, h2, h3, h4, h5, h6⟩ := ht
  induction j with
  | zero =>
    intro s fuel rw hs hf
    obtain ⟨f, rfl⟩ : ∃ f, fuel = f + 1 := ⟨fuel - 1, by omega⟩
    have hc : nS ≤ s := by omega
    simp (disch := first | assumption | omega | (simp (disch := omega) only [okx_iv', nx_iv, iv_add, L0, L1, L2, L3, L7, L8, L14, L21, L28, L35, L55, L56, *]; try omega)) only [fX6_dayEnds_l7, fX6_dayEnds_i7, ↓gm_12, ↓gm_14, ↓ld_aTo, ↓st_aTo, ↓ld_aSgs, ↓ld_aSg, ↓st_aSg, ↓ld_aRow, ↓st_aRow, L0, L1, L21, L28, L56, L9999, iv_add, no_def, nx_iv, okx_iv', iv_le, iv_lt, iv_eq, iv_no, no_iv, vu_same, vu_ne, vu_up, ↓reduceIte, h1, hc, foldN]
  | succ j ih =>
    intro s fuel rw hs hf
    obtain ⟨f, rfl⟩ : ∃ f, fuel = f + 1 := ⟨fuel - 1, by omega⟩
    have hc : ¬ nS ≤ s := by omega
    have h9 := ih (s + 1) f (va_up rw b (mDstep td s (rw b))) (by omega) (by omega)
    rw [vu_same, vu_up] at h9
    refine Eq.trans ?_ h9
    unfold mDstep
    by_cases c1 : rw b (28 + s) = iv 0
    · simp (disch := first | assumption | omega | (simp (disch := omega) only [okx_iv', nx_iv, iv_add, L0, L1, L2, L3, L7, L8, L14, L21, L28, L35, L55, L56, *]; try omega)) only [fX6_dayEnds_l7, fX6_dayEnds_i7, fX6_dayEnds_j61, ↓gm_12, ↓gm_14, ↓ld_aTo, ↓st_aTo, ↓ld_aSgs, ↓ld_aSg, ↓st_aSg, ↓ld_aRow, ↓st_aRow, L0, L1, L21, L28, L56, L9999, iv_add, no_def, nx_iv, okx_iv', iv_le, iv_lt, iv_eq, iv_no, no_iv, vu_same, vu_ne, vu_up, ↓reduceIte, h1, hc, c1]
    · simp (disch := first | assumption | omega | (simp (disch := omega) only [okx_iv', nx_iv, iv_add, L0, L1, L2, L3, L7, L8, L14, L21, L28, L35, L55, L56, *]; try omega)) only [fX6_dayEnds_l7, fX6_dayEnds_i7, fX6_dayEnds_j61, ↓gm_12, ↓gm_14, ↓ld_aTo, ↓st_aTo, ↓ld_aSgs, ↓ld_aSg, ↓st_aSg, ↓ld_aRow, ↓st_aRow, L0, L1, L21, L28, L56, L9999, iv_add, no_def, nx_iv, okx_iv', iv_le, iv_lt, iv_eq, iv_no, no_iv, vu_same, vu_ne, vu_up, ↓reduceIte, h1, hc, c1]
theorem s_dayEnds {nS nN nL : Nat} (ht : tOK td nS nN nL) {b : Nat} (hb : b < 2) : fX6_dayEnds (some (aM c)) (some (aRow c b)) (zS c td lw rw bf kp st ln rd rl rn ms sc mc fa pm xl pc rt ra ch ow ou B) = some ((), (zS c td lw (va_up rw b (mDay td nS (rw b))) bf kp st ln rd rl rn ms sc mc fa pm xl pc rt ra ch ow ou B)) := by
  have h5 := ht.2.2.2.1
  have h1 := s_breathes (c := c) (td := td) (lw := lw) (rw := rw) (bf := bf) (kp := kp) (st := st) (ln := ln) (rd := rd) (rl := rl) (rn := rn) (ms := ms) (sc := sc) (mc := mc) (fa := fa) (pm := pm) (xl := xl) (pc := pc) (rt := rt) (ra := ra) (ch := ch) (ow := ow) (ou := ou) (B := B) ht hb
  have h2 := s_dayEnds_l (c := c) (td := td) (lw := lw) (rw := va_up rw b (mBrth td nS (rw b))) (bf := bf) (kp := kp) (st := st) (ln := ln) (rd := rd) (rl := rl) (rn := rn) (ms := ms) (sc := sc) (mc := mc) (fa := fa) (pm := pm) (xl := xl) (pc := pc) (rt := rt) (ra := ra) (ch := ch) (ow := ow) (ou := ou) (B := B) ht hb nS 0 gFU (by omega) (by unfold gFU; omega)
  rw [vu_same, vu_up] at h2
  unfold fX6_dayEnds
  simp only [↓gvm, ↓gbn h1, L0]
  exact h2
end s26
