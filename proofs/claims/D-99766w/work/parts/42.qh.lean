-- NAME 42.qh
set_option maxRecDepth 100000
def lcg (x : Int32) : Int32 := x * iv 1103515245 + iv 12345
def dr (x : Int32) (m : Nat) : Int32 := ((x >>> (iv 16 &&& iv 31)) &&& iv 32767) - ((x >>> (iv 16 &&& iv 31)) &&& iv 32767) / iv m * iv m
theorem mask15 (z : Int32) : ∃ e, e < 32768 ∧ z &&& iv 32767 = iv e := by
  refine ⟨(z &&& iv 32767).toBitVec.toNat, ?_, ?_⟩
  · rw [Int32.toBitVec_and, BitVec.toNat_and]
    exact Nat.lt_of_le_of_lt Nat.and_le_right (by decide)
  · apply Int32.toBitVec_inj.1
    show _ = BitVec.ofNat 32 _
    rw [BitVec.ofNat_toNat, BitVec.setWidth_eq]
theorem dr_lt (x : Int32) {m : Nat} (h1 : 0 < m) (h2 : m ≤ 16) : ∃ d, d < m ∧ dr x m = iv d := by
  obtain ⟨e, e1, e2⟩ := mask15 (x >>> (iv 16 &&& iv 31))
  refine ⟨e % m, Nat.mod_lt _ h1, ?_⟩
  unfold dr
  rw [e2, show iv e / iv m = iv (e / m) from (Int32.ofNat_div (by omega) (by omega)).symm, iv_mul, iv_sub (Nat.div_mul_le_self e m)]
  congr 1
  have := Nat.div_add_mod e m
  rw [Nat.mul_comm] at this
  omega
section s42m
variable {td : Nat → Nat → Int32} {F : (Nat → Int32) → Int32} {nS nN : Nat} {ρ : Nat → Int32}
def tdy (nS m : Nat) (ρ : Nat → Int32) : Prop := ∀ s, s < nS → ∃ a, a ≤ m ∧ ρ (28 + s) = iv a
theorem tdy.nn {m : Nat} (h : tdy nS m ρ) (hm : m < 2147483648) : ∀ i, i < nS → iv 0 ≤ ρ (28 + i) := by
  intro i hi
  obtain ⟨a, a1, a2⟩ := h i hi
  rw [a2, iv_le (by decide) (by omega)]
  omega
theorem mSings_tdy {m n : Nat} (hS : nS ≤ 7) (h : tdy nS m ρ) : tdy nS (m + 1) (mSings td F nS ρ n) := by
  intro s hs
  obtain ⟨a, a1, a2⟩ := h s hs
  unfold mSings
  cases hq : mSb td F ρ n nS 0 with
  | none => exact ⟨a, by omega, a2⟩
  | some q =>
    have := (mSb_lt hq).1
    simp only
    by_cases e : s = q
    · subst e
      exact ⟨a + 1, by omega, by rw [vu_same, a2, iv_add]⟩
    · exact ⟨a, by omega, by rw [vu_ne (by omega), vu_ne (by omega), vu_ne (by omega)]; exact a2⟩
theorem mHymn_tdy {m : Nat} (hS : nS ≤ 7) (hN : nN ≤ 20) (h : tdy nS m ρ) : tdy nS (m + 20) (mHymn td F nS nN ρ).1 := by
  have h9 := foldN_inv (g := mHstep td F nS) (fun k q => tdy nS (m + k) q.1) nN 0 (ρ, iv 0) h (fun k q h1 h2 h3 => by
    unfold mHstep
    cases hq : mSb td F q.1 k nS 0 with
    | none =>
      intro s hs
      obtain ⟨a, a1, a2⟩ := h3 s hs
      exact ⟨a, by omega, by simp only; rw [vu_ne (by omega)]; exact a2⟩
    | some r => exact mSings_tdy hS h3)
  intro s hs
  obtain ⟨a, a1, a2⟩ := h9 s hs
  exact ⟨a, by omega, a2⟩
theorem mRests_ne {j : Nat} (hS : nS ≤ 7) (hj : 7 ≤ j) : (mRests td nS ρ).1 j = ρ j := by
  refine foldN_inv (g := mRstep td) (fun k q => q.1 j = ρ j) nS 0 (ρ, iv 0) rfl (fun k r h1 h2 h3 => ?_)
  exact (vu_ne (by omega)).trans h3
theorem mDay_tdy (hS : nS ≤ 7) : tdy nS 0 (mDay td nS ρ) := by
  have h9 := foldN_inv (g := mDstep td) (fun k r => ∀ s, s < k → r (28 + s) = iv 0) nS 0 (mBrth td nS ρ) (fun s hs => absurd hs (Nat.not_lt_zero s)) (fun k r h1 h2 h3 s hs => by
    unfold mDstep
    by_cases e : s = k
    · subst e; exact vu_same _ _ _
    · rw [vu_ne (by omega), vu_ne (by omega)]
      exact h3 s (by omega))
  intro s hs
  refine ⟨0, Nat.le_refl _, ?_⟩
  unfold mDay
  exact (vu_ne (by omega)).trans (h9 s (by omega))
noncomputable def sdH (td : Nat → Nat → Int32) (F : (Nat → Int32) → Int32) (nS nN : Nat) (ρ : Nat → Int32) : Nat → Int32 := (mHymn td F nS nN ρ).1
/-- one of the days: the row, the seed -/
noncomputable def sdS (td : Nat → Nat → Int32) (F : (Nat → Int32) → Int32) (nS nN : Nat) (q : Int32) (x : (Nat → Int32) × Int32) : (Nat → Int32) × Int32 :=
  if nS = 0 then (mDay td nS (sdH td F nS nN (va_up x.1 7 (iv 0))), x.2)
  else if q ≤ dr (lcg (lcg x.2)) 16 then (mDay td nS (sdH td F nS nN (va_up x.1 (7 + nx (dr (lcg x.2) nS)) (iv 1 - x.1 (7 + nx (dr (lcg x.2) nS))))), lcg (lcg x.2))
  else (mDay td nS (sdH td F nS nN (mRests td nS (sdH td F nS nN (va_up x.1 (7 + nx (dr (lcg x.2) nS)) (iv 1 - x.1 (7 + nx (dr (lcg x.2) nS)))))).1), lcg (lcg x.2))
end s42m
theorem xor7a : ∀ q, q < 128 → ∀ s, s < 8 → iv q ^^^ mBit s = iv (q ^^^ (2 ^ s)) := by decide +kernel
theorem xor7b : ∀ m, m < 8 → ∀ q, q < 128 → ∀ s, s < 8 → q < 2 ^ m → s < m → (q ^^^ (2 ^ s)) < 2 ^ m := by decide +kernel
theorem xor7 (m : Nat) (hm : m < 8) (q : Nat) (hq : q < 128) (s : Nat) (hs : s < 8) (h1 : q < 2 ^ m) (h2 : s < m) : iv q ^^^ mBit s = iv (q ^^^ (2 ^ s)) ∧ (q ^^^ (2 ^ s)) < 2 ^ m := ⟨xor7a q hq s hs, xor7b m hm q hq s hs h1 h2⟩
def hbO (nS : Nat) (b : (Nat → Nat → Int32) × (Nat → Int32)) : Prop := ∃ q, q < 2 ^ nS ∧ b.2 5 = iv q
theorem hrs_eq' {nS nN : Nat} {b : (Nat → Nat → Int32) × (Nat → Int32)} {ρ : Nat → Int32} (hS : nS ≤ 7) (hr : CR nS nN b ρ) (hb : hbO nS b) : b.2 5 = mHrs nS ρ := by
  obtain ⟨q, h1, h2⟩ := hb
  have h3 : q < 128 := Nat.lt_of_lt_of_le h1 (pow7 hS)
  rw [h2, ← hrs0 nS (by omega) q h3 h1]
  unfold mHrs
  refine foldN_eq nS 0 (iv 0) (fun i x _ hi => ?_)
  rw [← hr.2.2.1 i (by omega), h2]
section s42
variable {c : Nat} {td : Nat → Nat → Int32} {lw : Nat → Nat → Int32} {rw : Nat → Nat → Int32} {bf : Nat → Nat → Int32} {kp : Nat → Nat → Int32} {st : Nat → Nat → Int32} {ln : Nat → Nat → Int32} {rd : Nat → Nat → Int32} {rl : Nat → Nat → Int32} {rn : Nat → Nat → Int32} {ms : Nat → Nat → Int32} {sc : Nat → Nat → Int32} {mc : Nat → Nat → Int32} {fa : Nat → Int32} {pm : Nat → Int32} {xl : Nat → Int64} {pc : Nat → Int32} {rt : Nat → Option Nat} {ra : Nat → Nat → Option Nat} {ch : Nat → (Nat → Nat → Int32) × (Nat → Int32)} {ow : Nat → Option (Nat × Nat)} {ou : Nat → Int64} {B : gS}
variable {nS nN nL x k : Nat} {sgA ntA lkA : Nat → Nat} {F : (Nat → Int32) → Int32} {tp wk im lm n : Nat} {ρ : Nat → Int32}
theorem c_draw {m : Nat} (h1 : 0 < m) (h2 : m ≤ 16) : fX1_draw (some (aV c)) (iv m) (zS c td lw rw bf kp st ln rd rl rn ms sc mc fa pm xl pc rt ra ch ow ou B) = some (dr (lcg (pc 14)) m, (zS c td lw rw bf kp st ln rd rl rn ms sc mc fa pm xl (va_up pc 14 (lcg (pc 14))) rt ra ch ow ou B)) := by
  have h0 : ¬ m = 0 := by omega
  unfold fX1_draw
  simp (maxSteps := 3000000) (disch := first | assumption | omega | (simp (disch := omega) only [okx_iv', nx_iv, iv_add, L0, L1, L2, L3, L7, L8, L14, L21, L28, L35, L55, L56, *]; try omega)) only [↓gv_14, ↓pv_14, L0, L16, L31, L12345, L32767, L1103515245, iv_add, no_def, nx_iv, okx_iv', iv_le, iv_lt, iv_eq, iv_no, no_iv, Nat.not_lt_zero, Nat.le_refl, vu_same, vu_ne, vu_up, ↓reduceIte, Nat.reduceEqDiff, Nat.reduceLeDiff, Nat.reduceLT, Nat.one_ne_zero, Nat.zero_ne_one, if_true, if_false, h0, L1103515245, L12345, L32767]
  rfl
theorem s_draw {m : Nat} (h1 : 0 < m) (h2 : m ≤ 16) : fX6_draw (some (aM c)) (iv m) (zS c td lw rw bf kp st ln rd rl rn ms sc mc fa pm xl pc rt ra ch ow ou B) = some (dr (lcg (pm 45)) m, (zS c td lw rw bf kp st ln rd rl rn ms sc mc fa (va_up pm 45 (lcg (pm 45))) xl pc rt ra ch ow ou B)) := by
  have h0 : ¬ m = 0 := by omega
  unfold fX6_draw
  simp (maxSteps := 3000000) (disch := first | assumption | omega | (simp (disch := omega) only [okx_iv', nx_iv, iv_add, L0, L1, L2, L3, L7, L8, L14, L21, L28, L35, L55, L56, *]; try omega)) only [↓gm_45, ↓pm_45, L0, L16, L31, L12345, L32767, L1103515245, iv_add, no_def, nx_iv, okx_iv', iv_le, iv_lt, iv_eq, iv_no, no_iv, Nat.not_lt_zero, Nat.le_refl, vu_same, vu_ne, vu_up, ↓reduceIte, Nat.reduceEqDiff, Nat.reduceLeDiff, Nat.reduceLT, Nat.one_ne_zero, Nat.zero_ne_one, if_true, if_false, h0, L1103515245, L12345, L32767]
  rfl
/-- the draw turns one singer -/
theorem c_turnd {b : (Nat → Nat → Int32) × (Nat → Int32)} {d : Nat} (hS : nS ≤ 7) (hN : nN ≤ 20) (hr : CR nS nN b ρ) (hb : hbO nS b) (hd : d < nS) : CR nS nN (bI b 5 (b.2 5 ^^^ mBit d)) (va_up ρ (7 + d) (iv 1 - ρ (7 + d))) ∧ hbO nS (bI b 5 (b.2 5 ^^^ mBit d)) := by
  refine ⟨hr.hoarse hS hN _ (fun j hj => vu_ne (by omega)) (fun q hq => ?_), ?_⟩
  · rw [has_bxor _ (by omega) (by omega)]
    have q3 := hr.2.2.1
    by_cases e : q = d
    · subst e
      rw [if_pos rfl, vu_same, ← q3 q hq]
      rcases has_01 (b.2 5) (iv q) with e | e <;> rw [e] <;> decide
    · rw [if_neg e, vu_ne (by omega)]
      exact q3 q hq
  · obtain ⟨q, q1, q2⟩ := hb
    have h7 := pow7 hS
    obtain ⟨x1, x2⟩ := xor7 nS (by omega) q (by omega) d (by omega) q1 hd
    exact ⟨_, x2, by rw [← x1, ← q2]; exact vu_same b.2 5 _⟩
theorem CF.hb {b b' : (Nat → Nat → Int32) × (Nat → Int32)} (h : CF b b') (hb : hbO nS b) : hbO nS b' := by
  obtain ⟨q, q1, q2⟩ := hb
  exact ⟨q, q1, (h 5 (by decide) (by decide)).trans q2⟩
theorem c_sunday_l (h : tO (zV c ow B) rt td nS nN nL sgA ntA lkA) (hl : lwO (zV c ow B) rt F) {q m : Nat} (hq : q ≤ 16) (hm : m ≤ 48) : ∀ (j s fuel v : Nat) (fa pc : Nat → Int32) (ch : Nat → (Nat → Nat → Int32) × (Nat → Int32)) (ρ : Nat → Int32), CR nS nN (ch 18) ρ → hbO nS (ch 18) → tdy nS v ρ → v ≤ 1000000 → s + j = m → j < fuel → ∃ fa' b', CR nS nN b' (foldN (fun _ => sdS td F nS nN (iv q)) j s (ρ, pc 14)).1 ∧ hbO nS b' ∧ fX1_sundayBy_l21 fuel (some (aV c)) (iv m) (iv q) (some (aCh c 18)) (iv s) (zS c td lw rw bf kp st ln rd rl rn ms sc mc fa pm xl pc rt ra ch ow ou B) = some (some (aCh c 18), (zS c td lw rw bf kp st ln rd rl rn ms sc mc (fa') pm xl (va_up pc 14 (foldN (fun _ => sdS td F nS nN (iv q)) j s (ρ, pc 14)).2) rt ra (va_up ch 18 b') ow ou B)) := by
  intro j
  have hS := h.1
  have hNn := h.2.1
  have hx := @isC18 ow
  induction j with
  | zero =>
    intro s fuel v fa pc ch ρ hr hb ht hv hs hf
    obtain ⟨f, rfl⟩ : ∃ f, fuel = f + 1 := ⟨fuel - 1, by omega⟩
    have hc : m ≤ s := by omega
    refine ⟨fa, ch 18, hr, hb, ?_⟩
    simp (maxSteps := 3000000) (disch := first | assumption | omega | (simp (disch := omega) only [okx_iv', nx_iv, iv_add, L0, L1, L2, L3, L7, L8, L14, L21, L28, L35, L55, L56, *]; try omega)) only [fX1_sundayBy_l21, fX1_sundayBy_i21, ↓gh_5, ↓ph_5, ↓bvv, ↓gvv, ↓tvv, L0, L1, L31, iv_add, no_def, nx_iv, okx_iv', iv_le, iv_lt, iv_eq, iv_no, no_iv, Nat.not_lt_zero, Nat.le_refl, vu_same, vu_ne, vu_up, ↓reduceIte, Nat.reduceEqDiff, Nat.reduceLeDiff, Nat.reduceLT, Nat.one_ne_zero, Nat.zero_ne_one, if_true, if_false, hc, foldN, vu_id]
  | succ j ih =>
    intro s fuel v fa pc ch ρ hr hb ht hv hs hf
    obtain ⟨f, rfl⟩ : ∃ f, fuel = f + 1 := ⟨fuel - 1, by omega⟩
    have hc : ¬ m ≤ s := by omega
    show ∃ fa' b', CR nS nN b' (foldN (fun _ => sdS td F nS nN (iv q)) j (s + 1) (sdS td F nS nN (iv q) (ρ, pc 14))).1 ∧ hbO nS b' ∧ _ = some (some (aCh c 18), (zS c td lw rw bf kp st ln rd rl rn ms sc mc (fa') pm xl (va_up pc 14 (foldN (fun _ => sdS td F nS nN (iv q)) j (s + 1) (sdS td F nS nN (iv q) (ρ, pc 14))).2) rt ra (va_up ch 18 b') ow ou B))
    by_cases h0 : nS = 0
    · subst h0
      have hr1 : CR 0 nN (ch 18) (va_up ρ 7 (iv 0)) := by
        obtain ⟨r1, r2, r3, r4, r5⟩ := hr
        exact ⟨fun s hs => absurd hs (Nat.not_lt_zero s), fun i hi => by rw [vu_ne (by omega)]; exact r2 i hi, fun s hs => absurd hs (Nat.not_lt_zero s), by rw [vu_ne (by omega)]; exact r4, by rw [vu_ne (by omega)]; exact r5⟩
      obtain ⟨fa1, b1, r1, f1, g1⟩ := c_hymn (x := 18) (c := c) (td := td) (lw := lw) (rw := rw) (bf := bf) (kp := kp) (st := st) (ln := ln) (rd := rd) (rl := rl) (rn := rn) (ms := ms) (sc := sc) (mc := mc) (fa := fa) (pm := pm) (xl := xl) (pc := pc) (rt := rt) (ra := ra) (ch := ch) (ow := ow) (ou := ou) (B := B) h hl hx hr1
      obtain ⟨b2, r2, f2, g2⟩ := c_passes (x := 18) (c := c) (td := td) (lw := lw) (rw := rw) (bf := bf) (kp := kp) (st := st) (ln := ln) (rd := rd) (rl := rl) (rn := rn) (ms := ms) (sc := sc) (mc := mc) (fa := fa1) (pm := pm) (xl := xl) (pc := pc) (rt := rt) (ra := ra) (ch := va_up ch 18 b1) (ow := ow) (ou := ou) (B := B) h hx (by rw [vu_same]; exact r1) (fun i hi => absurd hi (Nat.not_lt_zero i))
      rw [vu_same] at f2
      rw [vu_up] at g2
      obtain ⟨fa3, b3, r3, hb3, g3⟩ := ih (s + 1) f 0 fa1 pc (va_up ch 18 b2) (sdS td F 0 nN (iv q) (ρ, pc 14)).1 (by rw [vu_same]; exact r2) (by rw [vu_same]; exact f2.hb (f1.hb hb)) (fun s hs => absurd hs (Nat.not_lt_zero s)) (by omega) (by omega) (by omega)
      rw [vu_up] at g3
      refine ⟨fa3, b3, r3, hb3, Eq.trans ?_ g3⟩
      simp (maxSteps := 3000000) (disch := first | assumption | omega | (simp (disch := omega) only [okx_iv', nx_iv, iv_add, L0, L1, L2, L3, L7, L8, L14, L21, L28, L35, L55, L56, *]; try omega)) only [fX1_sundayBy_l21, fX1_sundayBy_i21, fX1_sundayBy_j54, ↓gh_5, ↓ph_5, ↓bvv, ↓gvv, ↓tvv, ↓bvc, ↓gvc, L0, L1, L16, L31, ↓b_singers h, iv_add, no_def, nx_iv, okx_iv', iv_le, iv_lt, iv_eq, iv_no, no_iv, Nat.not_lt_zero, Nat.le_refl, vu_same, vu_ne, vu_up, ↓reduceIte, Nat.reduceEqDiff, Nat.reduceLeDiff, Nat.reduceLT, Nat.one_ne_zero, Nat.zero_ne_one, if_true, if_false, hc, ↓gbn g1, ↓gbn g2]
    · have hS0 : ¬ nS ≤ 0 := by omega
      obtain ⟨d, d1, d2⟩ := dr_lt (lcg (pc 14)) (m := nS) (by omega) (by omega)
      obtain ⟨e, e1, e2⟩ := dr_lt (lcg (lcg (pc 14))) (m := 16) (by omega) (by omega)
      have g0 := c_draw (m := nS) (c := c) (td := td) (lw := lw) (rw := rw) (bf := bf) (kp := kp) (st := st) (ln := ln) (rd := rd) (rl := rl) (rn := rn) (ms := ms) (sc := sc) (mc := mc) (fa := fa) (pm := pm) (xl := xl) (pc := pc) (rt := rt) (ra := ra) (ch := ch) (ow := ow) (ou := ou) (B := B) (by omega) (by omega)
      rw [d2] at g0
      obtain ⟨t1, t2⟩ := c_turnd (d := d) hS hNn hr hb d1
      obtain ⟨fa1, b1, r1, f1, g1⟩ := c_hymn (x := 18) (c := c) (td := td) (lw := lw) (rw := rw) (bf := bf) (kp := kp) (st := st) (ln := ln) (rd := rd) (rl := rl) (rn := rn) (ms := ms) (sc := sc) (mc := mc) (fa := fa) (pm := pm) (xl := xl) (pc := va_up pc 14 (lcg (pc 14))) (rt := rt) (ra := ra) (ch := va_up ch 18 (bI (ch 18) 5 ((ch 18).2 5 ^^^ mBit d))) (ow := ow) (ou := ou) (B := B) h hl hx (by rw [vu_same]; exact t1)
      rw [vu_same] at f1
      rw [vu_up] at g1
      have g2 := c_draw (m := 16) (c := c) (td := td) (lw := lw) (rw := rw) (bf := bf) (kp := kp) (st := st) (ln := ln) (rd := rd) (rl := rl) (rn := rn) (ms := ms) (sc := sc) (mc := mc) (fa := fa1) (pm := pm) (xl := xl) (pc := va_up pc 14 (lcg (pc 14))) (rt := rt) (ra := ra) (ch := va_up ch 18 b1) (ow := ow) (ou := ou) (B := B) (by omega) (by omega)
      rw [vu_same, vu_up, e2] at g2
      have k1 : tdy nS v (va_up ρ (7 + d) (iv 1 - ρ (7 + d))) := fun s hs => by rw [vu_ne (by omega)]; exact ht s hs
      have k2 := mHymn_tdy (td := td) (F := F) hS hNn k1
      by_cases c1 : q ≤ e
      · have es : sdS td F nS nN (iv q) (ρ, pc 14) = (mDay td nS (mHymn td F nS nN (va_up ρ (7 + d) (iv 1 - ρ (7 + d)))).1, lcg (lcg (pc 14))) := by
          unfold sdS sdH
          rw [if_neg h0, if_pos (by rw [e2, iv_le (by omega) (by omega)]; exact c1), d2, nx_iv (by omega)]
        obtain ⟨b2, r2, f2, g3⟩ := c_passes (x := 18) (c := c) (td := td) (lw := lw) (rw := rw) (bf := bf) (kp := kp) (st := st) (ln := ln) (rd := rd) (rl := rl) (rn := rn) (ms := ms) (sc := sc) (mc := mc) (fa := fa1) (pm := pm) (xl := xl) (pc := va_up pc 14 (lcg (lcg (pc 14)))) (rt := rt) (ra := ra) (ch := va_up ch 18 b1) (ow := ow) (ou := ou) (B := B) h hx (by rw [vu_same]; exact r1) (k2.nn (by omega))
        rw [vu_same] at f2
        rw [vu_up] at g3
        obtain ⟨fa4, b4, r4, hb4, g4⟩ := ih (s + 1) f 0 fa1 (va_up pc 14 (lcg (lcg (pc 14)))) (va_up ch 18 b2) _ (by rw [vu_same]; exact r2) (by rw [vu_same]; exact f2.hb (f1.hb t2)) (mDay_tdy hS) (by omega) (by omega) (by omega)
        rw [vu_up, vu_same, vu_up] at g4
        rw [vu_same] at r4
        rw [es]
        refine ⟨fa4, b4, r4, hb4, Eq.trans ?_ g4⟩
        simp (maxSteps := 3000000) (disch := first | assumption | omega | (simp (disch := omega) only [okx_iv', nx_iv, iv_add, L0, L1, L2, L3, L7, L8, L14, L21, L28, L35, L55, L56, *]; try omega)) only [fX1_sundayBy_l21, fX1_sundayBy_i21, fX1_sundayBy_j54, ↓gh_5, ↓ph_5, ↓bvv, ↓gvv, ↓tvv, ↓bvc, ↓gvc, L0, L1, L16, L31, ↓b_singers h, iv_add, no_def, nx_iv, okx_iv', iv_le, iv_lt, iv_eq, iv_no, no_iv, Nat.not_lt_zero, Nat.le_refl, vu_same, vu_ne, vu_up, ↓reduceIte, Nat.reduceEqDiff, Nat.reduceLeDiff, Nat.reduceLT, Nat.one_ne_zero, Nat.zero_ne_one, if_true, if_false, hc, hS0, ↓gbn g0]
        refine (gbn g1 _).trans ?_
        simp (maxSteps := 3000000) (disch := first | assumption | omega | (simp (disch := omega) only [okx_iv', nx_iv, iv_add, L0, L1, L2, L3, L7, L8, L14, L21, L28, L35, L55, L56, *]; try omega)) only [↓bvv, ↓gvv, ↓tvv, ↓bvc, ↓gvc, L0, L1, L16, ↓b_singers h, iv_add, no_def, nx_iv, okx_iv', iv_le, iv_lt, iv_eq, iv_no, no_iv, Nat.not_lt_zero, Nat.le_refl, vu_same, vu_ne, vu_up, ↓reduceIte, Nat.reduceEqDiff, Nat.reduceLeDiff, Nat.reduceLT, Nat.one_ne_zero, Nat.zero_ne_one, if_true, if_false, hS0, ↓gbn g2, c1, ↓gbn g3]
      · have es : sdS td F nS nN (iv q) (ρ, pc 14) = (mDay td nS (mHymn td F nS nN (mRests td nS (mHymn td F nS nN (va_up ρ (7 + d) (iv 1 - ρ (7 + d)))).1).1).1, lcg (lcg (pc 14))) := by
          unfold sdS sdH
          rw [if_neg h0, if_neg (by rw [e2, iv_le (by omega) (by omega)]; exact c1), d2, nx_iv (by omega)]
        obtain ⟨b2, r2, f2, g3⟩ := c_rests (x := 18) (c := c) (td := td) (lw := lw) (rw := rw) (bf := bf) (kp := kp) (st := st) (ln := ln) (rd := rd) (rl := rl) (rn := rn) (ms := ms) (sc := sc) (mc := mc) (fa := fa1) (pm := pm) (xl := xl) (pc := va_up pc 14 (lcg (lcg (pc 14)))) (rt := rt) (ra := ra) (ch := va_up ch 18 b1) (ow := ow) (ou := ou) (B := B) h hx (by rw [vu_same]; exact r1)
        rw [vu_same] at f2
        rw [vu_up] at g3
        obtain ⟨fa3, b3, r3, f3, g4⟩ := c_hymn (x := 18) (c := c) (td := td) (lw := lw) (rw := rw) (bf := bf) (kp := kp) (st := st) (ln := ln) (rd := rd) (rl := rl) (rn := rn) (ms := ms) (sc := sc) (mc := mc) (fa := fa1) (pm := pm) (xl := xl) (pc := va_up pc 14 (lcg (lcg (pc 14)))) (rt := rt) (ra := ra) (ch := va_up ch 18 b2) (ow := ow) (ou := ou) (B := B) h hl hx (by rw [vu_same]; exact r2)
        rw [vu_same] at f3
        rw [vu_up] at g4
        have k3 : tdy nS (v + 20) (mRests td nS (mHymn td F nS nN (va_up ρ (7 + d) (iv 1 - ρ (7 + d)))).1).1 := fun s hs => by rw [mRests_ne hS (by omega)]; exact k2 s hs
        have k4 := mHymn_tdy (td := td) (F := F) hS hNn k3
        obtain ⟨b4, r4, f4, g5⟩ := c_passes (x := 18) (c := c) (td := td) (lw := lw) (rw := rw) (bf := bf) (kp := kp) (st := st) (ln := ln) (rd := rd) (rl := rl) (rn := rn) (ms := ms) (sc := sc) (mc := mc) (fa := fa3) (pm := pm) (xl := xl) (pc := va_up pc 14 (lcg (lcg (pc 14)))) (rt := rt) (ra := ra) (ch := va_up ch 18 b3) (ow := ow) (ou := ou) (B := B) h hx (by rw [vu_same]; exact r3) (k4.nn (by omega))
        rw [vu_same] at f4
        rw [vu_up] at g5
        have hb2 : hbO nS b2 := by
          obtain ⟨y, y1, y2⟩ := f1.hb t2
          exact ⟨y, y1, by rw [f2]; exact y2⟩
        obtain ⟨fa5, b5, r5, hb5, g6⟩ := ih (s + 1) f 0 fa3 (va_up pc 14 (lcg (lcg (pc 14)))) (va_up ch 18 b4) _ (by rw [vu_same]; exact r4) (by rw [vu_same]; exact f4.hb (f3.hb hb2)) (mDay_tdy hS) (by omega) (by omega) (by omega)
        rw [vu_up, vu_same, vu_up] at g6
        rw [vu_same] at r5
        rw [es]
        refine ⟨fa5, b5, r5, hb5, Eq.trans ?_ g6⟩
        simp (maxSteps := 3000000) (disch := first | assumption | omega | (simp (disch := omega) only [okx_iv', nx_iv, iv_add, L0, L1, L2, L3, L7, L8, L14, L21, L28, L35, L55, L56, *]; try omega)) only [fX1_sundayBy_l21, fX1_sundayBy_i21, fX1_sundayBy_j54, ↓gh_5, ↓ph_5, ↓bvv, ↓gvv, ↓tvv, ↓bvc, ↓gvc, L0, L1, L16, L31, ↓b_singers h, iv_add, no_def, nx_iv, okx_iv', iv_le, iv_lt, iv_eq, iv_no, no_iv, Nat.not_lt_zero, Nat.le_refl, vu_same, vu_ne, vu_up, ↓reduceIte, Nat.reduceEqDiff, Nat.reduceLeDiff, Nat.reduceLT, Nat.one_ne_zero, Nat.zero_ne_one, if_true, if_false, hc, hS0, ↓gbn g0]
        refine (gbn g1 _).trans ?_
        simp (maxSteps := 3000000) (disch := first | assumption | omega | (simp (disch := omega) only [okx_iv', nx_iv, iv_add, L0, L1, L2, L3, L7, L8, L14, L21, L28, L35, L55, L56, *]; try omega)) only [↓bvv, ↓gvv, ↓tvv, ↓bvc, ↓gvc, L0, L1, L16, ↓b_singers h, iv_add, no_def, nx_iv, okx_iv', iv_le, iv_lt, iv_eq, iv_no, no_iv, Nat.not_lt_zero, Nat.le_refl, vu_same, vu_ne, vu_up, ↓reduceIte, Nat.reduceEqDiff, Nat.reduceLeDiff, Nat.reduceLT, Nat.one_ne_zero, Nat.zero_ne_one, if_true, if_false, hS0, ↓gbn g2, c1, ↓gbn g3, ↓gbn g4, ↓gbn g5]
theorem c_sundayBy (h : tO (zV c ow B) rt td nS nN nL sgA ntA lkA) (hl : lwO (zV c ow B) rt F) {q m v : Nat} (hq : q ≤ 16) (hm : m ≤ 48) (sd : Int32) (hr : CR nS nN (ch 12) ρ) (hb : hbO nS (ch 12)) (ht : tdy nS v ρ) (hv : v ≤ 1000000) : ∃ fa' b', CR nS nN b' (foldN (fun _ => sdS td F nS nN (iv q)) m 0 (ρ, sd)).1 ∧ hbO nS b' ∧ fX1_sundayBy (some (aV c)) sd (iv m) (iv q) (zS c td lw rw bf kp st ln rd rl rn ms sc mc fa pm xl pc rt ra ch ow ou B) = some (some (aCh c 18), (zS c td lw rw bf kp st ln rd rl rn ms sc mc (fa') pm xl (va_up pc 14 (foldN (fun _ => sdS td F nS nN (iv q)) m 0 (ρ, sd)).2) rt ra (va_up ch 18 b') ow ou B)) := by
  have g1 := c_becomes (x := 18) (y := 12) (c := c) (td := td) (lw := lw) (rw := rw) (bf := bf) (kp := kp) (st := st) (ln := ln) (rd := rd) (rl := rl) (rn := rn) (ms := ms) (sc := sc) (mc := mc) (fa := fa) (pm := pm) (xl := xl) (pc := pc) (rt := rt) (ra := ra) (ch := ch) (ow := ow) (ou := ou) (B := B) isC18 isC12 (by decide)
  have hS := h.1
  have hNn := h.2.1
  have hx := @isC18 ow
  obtain ⟨fa1, b1, r1, hb1, g2⟩ := c_sunday_l (c := c) (td := td) (lw := lw) (rw := rw) (bf := bf) (kp := kp) (st := st) (ln := ln) (rd := rd) (rl := rl) (rn := rn) (ms := ms) (sc := sc) (mc := mc) (fa := fa) (pm := pm) (xl := xl) (pc := va_up pc 14 sd) (rt := rt) (ra := ra) (ch := va_up ch 18 (bCp (ch 12) (ch 18))) (ow := ow) (ou := ou) (B := B) h hl hq hm m 0 gFU v ρ (by rw [vu_same]; exact bCp_R hS hNn hr) (by rw [vu_same]; exact hb) ht hv (by omega) (by unfold gFU; omega)
  rw [vu_up, vu_same, vu_up] at g2
  rw [vu_same] at r1
  refine ⟨fa1, b1, r1, hb1, ?_⟩
  unfold fX1_sundayBy
  simp (maxSteps := 3000000) (disch := first | assumption | omega | (simp (disch := omega) only [okx_iv', nx_iv, iv_add, L0, L1, L2, L3, L7, L8, L14, L21, L28, L35, L55, L56, *]; try omega)) only [↓gv_6, ↓gv_5, ↓pv_14, ↓bvc, ↓gvc, L0, iv_add, no_def, nx_iv, okx_iv', iv_le, iv_lt, iv_eq, iv_no, no_iv, Nat.not_lt_zero, Nat.le_refl, vu_same, vu_ne, vu_up, ↓reduceIte, Nat.reduceEqDiff, Nat.reduceLeDiff, Nat.reduceLT, Nat.one_ne_zero, Nat.zero_ne_one, if_true, if_false, ↓gbn g1]
  exact g2
theorem s_sunday_l {kl : Nat} (hl : lOK lw kl F) (ht : tOK td nS nN nL) {q m : Nat} (hq : q ≤ 16) (hm : m ≤ 48) : ∀ (j s fuel : Nat) (rw sc : Nat → Nat → Int32) (pm : Nat → Int32), pm 19 = iv kl → s + j = m → j < fuel → ∃ sc' y, fX6_sundayBy_l19 fuel (some (aM c)) (iv m) (iv q) (iv s) (zS c td lw rw bf kp st ln rd rl rn ms sc mc fa pm xl pc rt ra ch ow ou B) = some ((), (zS c td lw (va_up rw 1 (foldN (fun _ => sdS td F nS nN (iv q)) j s (rw 1, pm 45)).1) bf kp st ln rd rl rn ms (sc') mc fa (va_up (va_up pm 38 y) 45 (foldN (fun _ => sdS td F nS nN (iv q)) j s (rw 1, pm 45)).2) xl pc rt ra ch ow ou B)) := by
  intro j
  have ht' := ht
  obtain ⟨h1, h2, h3, h4, h5, h6⟩ := ht
  induction j with
  | zero =>
    intro s fuel rw sc pm hp hs hf
    obtain ⟨f, rfl⟩ : ∃ f, fuel = f + 1 := ⟨fuel - 1, by omega⟩
    have hc : m ≤ s := by omega
    refine ⟨sc, pm 38, ?_⟩
    simp (maxSteps := 3000000) (disch := first | assumption | omega | (simp (disch := omega) only [okx_iv', nx_iv, iv_add, L0, L1, L2, L3, L7, L8, L14, L21, L28, L35, L55, L56, *]; try omega)) only [fX6_sundayBy_l19, fX6_sundayBy_i19, ↓gm_12, ↓bvm, ↓gvm, ↓ld_aTo, L0, iv_add, no_def, nx_iv, okx_iv', iv_le, iv_lt, iv_eq, iv_no, no_iv, Nat.not_lt_zero, Nat.le_refl, vu_same, vu_ne, vu_up, ↓reduceIte, Nat.reduceEqDiff, Nat.reduceLeDiff, Nat.reduceLT, Nat.one_ne_zero, Nat.zero_ne_one, if_true, if_false, hc, foldN, vu_id]
  | succ j ih =>
    intro s fuel rw sc pm hp hs hf
    obtain ⟨f, rfl⟩ : ∃ f, fuel = f + 1 := ⟨fuel - 1, by omega⟩
    have hc : ¬ m ≤ s := by omega
    show ∃ sc' y, _ = some ((), (zS c td lw (va_up rw 1 (foldN (fun _ => sdS td F nS nN (iv q)) j (s + 1) (sdS td F nS nN (iv q) (rw 1, pm 45))).1) bf kp st ln rd rl rn ms (sc') mc fa (va_up (va_up pm 38 y) 45 (foldN (fun _ => sdS td F nS nN (iv q)) j (s + 1) (sdS td F nS nN (iv q) (rw 1, pm 45))).2) xl pc rt ra ch ow ou B))
    by_cases h0 : nS = 0
    · subst h0
      obtain ⟨sc1, g1⟩ := s_hymns (c := c) (td := td) (lw := lw) (rw := va_up rw 1 (va_up (rw 1) 7 (iv 0))) (bf := bf) (kp := kp) (st := st) (ln := ln) (rd := rd) (rl := rl) (rn := rn) (ms := ms) (sc := sc) (mc := mc) (fa := fa) (pm := pm) (xl := xl) (pc := pc) (rt := rt) (ra := ra) (ch := ch) (ow := ow) (ou := ou) (B := B) hl hp ht' (b := 1) (by decide)
      rw [vu_same, vu_up] at g1
      have g2 := s_dayEnds (c := c) (td := td) (lw := lw) (rw := va_up rw 1 (mHymn td F 0 nN (va_up (rw 1) 7 (iv 0))).1) (bf := bf) (kp := kp) (st := st) (ln := ln) (rd := rd) (rl := rl) (rn := rn) (ms := ms) (sc := sc1) (mc := mc) (fa := fa) (pm := va_up pm 38 (mHymn td F 0 nN (va_up (rw 1) 7 (iv 0))).2) (xl := xl) (pc := pc) (rt := rt) (ra := ra) (ch := ch) (ow := ow) (ou := ou) (B := B) ht' (b := 1) (by decide)
      rw [vu_same, vu_up] at g2
      obtain ⟨sc3, y3, g3⟩ := ih (s + 1) f (va_up rw 1 (mDay td 0 (mHymn td F 0 nN (va_up (rw 1) 7 (iv 0))).1)) sc1 (va_up pm 38 (mHymn td F 0 nN (va_up (rw 1) 7 (iv 0))).2) ((vu_ne (by decide)).trans hp) (by omega) (by omega)
      rw [vu_up, vu_same, vu_up, vu_ne (by decide)] at g3
      refine ⟨sc3, y3, Eq.trans ?_ g3⟩
      simp (maxSteps := 3000000) (disch := first | assumption | omega | (simp (disch := omega) only [okx_iv', nx_iv, iv_add, L0, L1, L2, L3, L7, L8, L14, L21, L28, L35, L55, L56, *]; try omega)) only [fX6_sundayBy_l19, fX6_sundayBy_i19, fX6_sundayBy_j48, fX6_sundayBy_j84, ↓gm_12, ↓bvm, ↓gvm, ↓gm_30, ↓ld_aTo, ↓st_aTo, ↓ld_aRow, ↓st_aRow, L0, L1, L7, L16, ↓st_aRow, h1, iv_add, no_def, nx_iv, okx_iv', iv_le, iv_lt, iv_eq, iv_no, no_iv, Nat.not_lt_zero, Nat.le_refl, vu_same, vu_ne, vu_up, ↓reduceIte, Nat.reduceEqDiff, Nat.reduceLeDiff, Nat.reduceLT, Nat.one_ne_zero, Nat.zero_ne_one, if_true, if_false, hc, ↓gbn g1, ↓gbn g2]
    · have hS0 : ¬ nS ≤ 0 := by omega
      obtain ⟨d, d1, d2⟩ := dr_lt (lcg (pm 45)) (m := nS) (by omega) (by omega)
      obtain ⟨e, e1, e2⟩ := dr_lt (lcg (lcg (pm 45))) (m := 16) (by omega) (by omega)
      have g0 := s_draw (m := nS) (c := c) (td := td) (lw := lw) (rw := rw) (bf := bf) (kp := kp) (st := st) (ln := ln) (rd := rd) (rl := rl) (rn := rn) (ms := ms) (sc := sc) (mc := mc) (fa := fa) (pm := pm) (xl := xl) (pc := pc) (rt := rt) (ra := ra) (ch := ch) (ow := ow) (ou := ou) (B := B) (by omega) (by omega)
      rw [d2] at g0
      obtain ⟨ρ1, hρ1⟩ : ∃ ρ1, ρ1 = va_up (rw 1) (7 + d) (iv 1 - rw 1 (7 + d)) := ⟨_, rfl⟩
      obtain ⟨sc1, g1⟩ := s_hymns (c := c) (td := td) (lw := lw) (rw := va_up rw 1 ρ1) (bf := bf) (kp := kp) (st := st) (ln := ln) (rd := rd) (rl := rl) (rn := rn) (ms := ms) (sc := sc) (mc := mc) (fa := fa) (pm := va_up pm 45 (lcg (pm 45))) (xl := xl) (pc := pc) (rt := rt) (ra := ra) (ch := ch) (ow := ow) (ou := ou) (B := B) hl ((vu_ne (by decide)).trans hp) ht' (b := 1) (by decide)
      rw [vu_same, vu_up] at g1
      have g2 := s_draw (m := 16) (c := c) (td := td) (lw := lw) (rw := va_up rw 1 (mHymn td F nS nN ρ1).1) (bf := bf) (kp := kp) (st := st) (ln := ln) (rd := rd) (rl := rl) (rn := rn) (ms := ms) (sc := sc1) (mc := mc) (fa := fa) (pm := va_up (va_up pm 45 (lcg (pm 45))) 38 (mHymn td F nS nN ρ1).2) (xl := xl) (pc := pc) (rt := rt) (ra := ra) (ch := ch) (ow := ow) (ou := ou) (B := B) (by omega) (by omega)
      rw [vu_ne (by decide), vu_same, e2] at g2
      by_cases c1 : q ≤ e
      · have es : sdS td F nS nN (iv q) (rw 1, pm 45) = (mDay td nS (mHymn td F nS nN ρ1).1, lcg (lcg (pm 45))) := by
          unfold sdS sdH
          rw [if_neg h0, if_pos (by rw [e2, iv_le (by omega) (by omega)]; exact c1), d2, nx_iv (by omega), hρ1]
        have g3 := s_dayEnds (c := c) (td := td) (lw := lw) (rw := va_up rw 1 (mHymn td F nS nN ρ1).1) (bf := bf) (kp := kp) (st := st) (ln := ln) (rd := rd) (rl := rl) (rn := rn) (ms := ms) (sc := sc1) (mc := mc) (fa := fa) (pm := va_up (va_up (va_up pm 45 (lcg (pm 45))) 38 (mHymn td F nS nN ρ1).2) 45 (lcg (lcg (pm 45)))) (xl := xl) (pc := pc) (rt := rt) (ra := ra) (ch := ch) (ow := ow) (ou := ou) (B := B) ht' (b := 1) (by decide)
        rw [vu_same, vu_up] at g3
        obtain ⟨sc4, y4, g4⟩ := ih (s + 1) f (va_up rw 1 (mDay td nS (mHymn td F nS nN ρ1).1)) sc1 (va_up (va_up (va_up pm 45 (lcg (pm 45))) 38 (mHymn td F nS nN ρ1).2) 45 (lcg (lcg (pm 45)))) (by simp (disch := omega) only [vu_ne]; exact hp) (by omega) (by omega)
        rw [vu_up, vu_same, vu_same] at g4
        rw [es]
        refine ⟨sc4, y4, Eq.trans ?_ (g4.trans ?_)⟩
        · rw [hρ1] at g1 g2 g3 ⊢
          simp (maxSteps := 3000000) (disch := first | assumption | omega | (simp (disch := omega) only [okx_iv', nx_iv, iv_add, L0, L1, L2, L3, L7, L8, L14, L21, L28, L35, L55, L56, *]; try omega)) only [fX6_sundayBy_l19, fX6_sundayBy_i19, fX6_sundayBy_j48, fX6_sundayBy_j84, ↓gm_12, ↓bvm, ↓gvm, ↓gm_30, ↓ld_aTo, ↓st_aTo, ↓ld_aRow, ↓st_aRow, L0, L1, L7, L16, ↓st_aRow, ↓ld_aRow, h1, iv_add, no_def, nx_iv, okx_iv', iv_le, iv_lt, iv_eq, iv_no, no_iv, Nat.not_lt_zero, Nat.le_refl, vu_same, vu_ne, vu_up, ↓reduceIte, Nat.reduceEqDiff, Nat.reduceLeDiff, Nat.reduceLT, Nat.one_ne_zero, Nat.zero_ne_one, if_true, if_false, hc, hS0, ↓gbn g0, ↓gbn g1, ↓gbn g2, c1, ↓gbn g3]
        · congr 3
          funext z
          by_cases h45 : z = 45 <;> by_cases h38 : z = 38 <;> simp [va_up, h45, h38]
      · have es : sdS td F nS nN (iv q) (rw 1, pm 45) = (mDay td nS (mHymn td F nS nN (mRests td nS (mHymn td F nS nN ρ1).1).1).1, lcg (lcg (pm 45))) := by
          unfold sdS sdH
          rw [if_neg h0, if_neg (by rw [e2, iv_le (by omega) (by omega)]; exact c1), d2, nx_iv (by omega), hρ1]
        have g3 := s_rests (c := c) (td := td) (lw := lw) (rw := va_up rw 1 (mHymn td F nS nN ρ1).1) (bf := bf) (kp := kp) (st := st) (ln := ln) (rd := rd) (rl := rl) (rn := rn) (ms := ms) (sc := sc1) (mc := mc) (fa := fa) (pm := va_up (va_up (va_up pm 45 (lcg (pm 45))) 38 (mHymn td F nS nN ρ1).2) 45 (lcg (lcg (pm 45)))) (xl := xl) (pc := pc) (rt := rt) (ra := ra) (ch := ch) (ow := ow) (ou := ou) (B := B) ht' (b := 1) (by decide)
        rw [vu_same, vu_up] at g3
        obtain ⟨sc4, g4⟩ := s_hymns (c := c) (td := td) (lw := lw) (rw := va_up rw 1 (mRests td nS (mHymn td F nS nN ρ1).1).1) (bf := bf) (kp := kp) (st := st) (ln := ln) (rd := rd) (rl := rl) (rn := rn) (ms := ms) (sc := sc1) (mc := mc) (fa := fa) (pm := va_up (va_up (va_up pm 45 (lcg (pm 45))) 38 (mHymn td F nS nN ρ1).2) 45 (lcg (lcg (pm 45)))) (xl := xl) (pc := pc) (rt := rt) (ra := ra) (ch := ch) (ow := ow) (ou := ou) (B := B) hl (by simp (disch := omega) only [vu_ne]; exact hp) ht' (b := 1) (by decide)
        rw [vu_same, vu_up] at g4
        obtain ⟨y0, hy0⟩ : ∃ y0, y0 = (mHymn td F nS nN (mRests td nS (mHymn td F nS nN ρ1).1).1).2 := ⟨_, rfl⟩
        rw [← hy0] at g4
        have g5 := s_dayEnds (c := c) (td := td) (lw := lw) (rw := va_up rw 1 (mHymn td F nS nN (mRests td nS (mHymn td F nS nN ρ1).1).1).1) (bf := bf) (kp := kp) (st := st) (ln := ln) (rd := rd) (rl := rl) (rn := rn) (ms := ms) (sc := sc4) (mc := mc) (fa := fa) (pm := va_up (va_up (va_up (va_up pm 45 (lcg (pm 45))) 38 (mHymn td F nS nN ρ1).2) 45 (lcg (lcg (pm 45)))) 38 y0) (xl := xl) (pc := pc) (rt := rt) (ra := ra) (ch := ch) (ow := ow) (ou := ou) (B := B) ht' (b := 1) (by decide)
        rw [vu_same, vu_up] at g5
        obtain ⟨sc6, y6, g6⟩ := ih (s + 1) f (va_up rw 1 (mDay td nS (mHymn td F nS nN (mRests td nS (mHymn td F nS nN ρ1).1).1).1)) sc4 (va_up (va_up (va_up (va_up pm 45 (lcg (pm 45))) 38 (mHymn td F nS nN ρ1).2) 45 (lcg (lcg (pm 45)))) 38 y0) (by simp (disch := omega) only [vu_ne]; exact hp) (by omega) (by omega)
        rw [vu_up, vu_same, vu_ne (by decide), vu_same, vu_up] at g6
        rw [es]
        refine ⟨sc6, y6, Eq.trans ?_ (g6.trans ?_)⟩
        · rw [hρ1] at g1 g2 g3 g4 g5 ⊢
          simp (maxSteps := 3000000) (disch := first | assumption | omega | (simp (disch := omega) only [okx_iv', nx_iv, iv_add, L0, L1, L2, L3, L7, L8, L14, L21, L28, L35, L55, L56, *]; try omega)) only [fX6_sundayBy_l19, fX6_sundayBy_i19, fX6_sundayBy_j48, fX6_sundayBy_j84, ↓gm_12, ↓bvm, ↓gvm, ↓gm_30, ↓ld_aTo, ↓st_aTo, ↓ld_aRow, ↓st_aRow, L0, L1, L7, L16, ↓st_aRow, ↓ld_aRow, h1, iv_add, no_def, nx_iv, okx_iv', iv_le, iv_lt, iv_eq, iv_no, no_iv, Nat.not_lt_zero, Nat.le_refl, vu_same, vu_ne, vu_up, ↓reduceIte, Nat.reduceEqDiff, Nat.reduceLeDiff, Nat.reduceLT, Nat.one_ne_zero, Nat.zero_ne_one, if_true, if_false, hc, hS0, ↓gbn g0, ↓gbn g1, ↓gbn g2, c1, ↓gbn g3, ↓gbn g4, ↓gbn g5]
        · congr 3
          funext z
          by_cases h45 : z = 45 <;> by_cases h38 : z = 38 <;> simp [va_up, h45, h38]
end s42
