-- NAME 31.cho3
set_option maxRecDepth 100000
def bL (b : (Nat → Nat → Int32) × (Nat → Int32)) (k s : Nat) (v : Int32) : (Nat → Nat → Int32) × (Nat → Int32) := (va_up b.1 k (va_up (b.1 k) s v), b.2)
def bI (b : (Nat → Nat → Int32) × (Nat → Int32)) (k : Nat) (v : Int32) : (Nat → Nat → Int32) × (Nat → Int32) := (b.1, va_up b.2 k v)
section s31m
variable {nS nN : Nat} {b : (Nat → Nat → Int32) × (Nat → Int32)} {ρ : Nat → Int32}
theorem CR.left (hS : nS ≤ 7) (hN : nN ≤ 20) (h : CR nS nN b ρ) {s : Nat} (hs : s < nS) (v : Int32) : CR nS nN (bL b 0 s v) (va_up ρ s v) := by
  obtain ⟨r1, r2, r3, r4, r5⟩ := h
  unfold bL
  refine ⟨fun s' hs' => ?_, fun n' hn' => ?_, fun s' hs' => ?_, ?_, ?_⟩
  · obtain ⟨q1, q2, q3, q4⟩ := r1 s' hs'
    by_cases e : s' = s
    · subst e; simp (disch := omega) only [vu_same, vu_ne, q2, q3, q4, and_self]
    · simp (disch := omega) only [vu_same, vu_ne, q1, q2, q3, q4, and_self]
  · simp (disch := omega) only [vu_ne, r2 n' hn']
  · simp (disch := omega) only [vu_ne, r3 s' hs']
  · simp (disch := omega) only [vu_ne, r4]
  · simp (disch := omega) only [vu_ne, r5]
theorem CR.owed (hS : nS ≤ 7) (hN : nN ≤ 20) (h : CR nS nN b ρ) {s : Nat} (hs : s < nS) (v : Int32) : CR nS nN (bL b 3 s v) (va_up ρ (21 + s) v) := by
  obtain ⟨r1, r2, r3, r4, r5⟩ := h
  unfold bL
  refine ⟨fun s' hs' => ?_, fun n' hn' => ?_, fun s' hs' => ?_, ?_, ?_⟩
  · obtain ⟨q1, q2, q3, q4⟩ := r1 s' hs'
    by_cases e : s' = s
    · subst e; simp (disch := omega) only [vu_same, vu_ne, q1, q2, q3, and_self]
    · simp (disch := omega) only [vu_same, vu_ne, q1, q2, q3, q4, and_self]
  · simp (disch := omega) only [vu_ne, r2 n' hn']
  · simp (disch := omega) only [vu_ne, r3 s' hs']
  · simp (disch := omega) only [vu_ne, r4]
  · simp (disch := omega) only [vu_ne, r5]
theorem CR.today (hS : nS ≤ 7) (hN : nN ≤ 20) (h : CR nS nN b ρ) {s : Nat} (hs : s < nS) (v : Int32) : CR nS nN (bL b 2 s v) (va_up ρ (28 + s) v) := by
  obtain ⟨r1, r2, r3, r4, r5⟩ := h
  unfold bL
  refine ⟨fun s' hs' => ?_, fun n' hn' => ?_, fun s' hs' => ?_, ?_, ?_⟩
  · obtain ⟨q1, q2, q3, q4⟩ := r1 s' hs'
    by_cases e : s' = s
    · subst e; simp (disch := omega) only [vu_same, vu_ne, q1, q2, q4, and_self]
    · simp (disch := omega) only [vu_same, vu_ne, q1, q2, q3, q4, and_self]
  · simp (disch := omega) only [vu_ne, r2 n' hn']
  · simp (disch := omega) only [vu_ne, r3 s' hs']
  · simp (disch := omega) only [vu_ne, r4]
  · simp (disch := omega) only [vu_ne, r5]
theorem CR.vowel (hS : nS ≤ 7) (hN : nN ≤ 20) (h : CR nS nN b ρ) {s : Nat} (hs : s < nN) (v : Int32) : CR nS nN (bL b 4 s v) (va_up ρ (35 + s) v) := by
  obtain ⟨r1, r2, r3, r4, r5⟩ := h
  unfold bL
  refine ⟨fun s' hs' => ?_, fun n' hn' => ?_, fun s' hs' => ?_, ?_, ?_⟩
  · obtain ⟨q1, q2, q3, q4⟩ := r1 s' hs'
    simp (disch := omega) only [vu_same, vu_ne, q1, q2, q3, q4, and_self]
  · by_cases e : n' = s
    · subst e; simp (disch := omega) only [vu_same, vu_ne]
    · simp (disch := omega) only [vu_same, vu_ne, r2 n' hn']
  · simp (disch := omega) only [vu_ne, r3 s' hs']
  · simp (disch := omega) only [vu_ne, r4]
  · simp (disch := omega) only [vu_ne, r5]
theorem CR.day (hS : nS ≤ 7) (hN : nN ≤ 20) (h : CR nS nN b ρ) (v : Int32) : CR nS nN (bI b 7 v) (va_up ρ 56 v) := by
  obtain ⟨r1, r2, r3, r4, r5⟩ := h
  unfold bI
  refine ⟨fun s' hs' => ?_, fun n' hn' => ?_, fun s' hs' => ?_, ?_, ?_⟩
  · simp (disch := omega) only [vu_ne, r1 s' hs', and_self]
  · simp (disch := omega) only [vu_ne, r2 n' hn']
  · simp (disch := omega) only [vu_ne, r3 s' hs']
  · simp (disch := omega) only [vu_ne, r4]
  · simp (disch := omega) only [vu_same]
theorem CR.hoarse (hS : nS ≤ 7) (hN : nN ≤ 20) (h : CR nS nN b ρ) {ρ' : Nat → Int32} (v : Int32) (h1 : ∀ j, ¬ (7 ≤ j ∧ j < 14) → ρ' j = ρ j) (h2 : ∀ s, s < nS → fX1_has v (iv s) = ρ' (7 + s)) : CR nS nN (bI b 5 v) ρ' := by
  obtain ⟨r1, r2, r3, r4, r5⟩ := h
  unfold bI
  refine ⟨fun s' hs' => ?_, fun n' hn' => ?_, fun s' hs' => ?_, ?_, ?_⟩
  · rw [h1 _ (by omega), h1 _ (by omega), h1 _ (by omega), h1 _ (by omega)]; exact r1 s' hs'
  · rw [h1 _ (by omega)]; exact r2 n' hn'
  · simp (disch := omega) only [vu_same]; exact h2 s' hs'
  · rw [h1 _ (by omega)]; simp (disch := omega) only [vu_ne]; exact r4
  · rw [h1 _ (by omega)]; simp (disch := omega) only [vu_ne]; exact r5
end s31m
/-- whether the step could be done; the row behind it -/
noncomputable def mDoes (td : Nat → Nat → Int32) (F : (Nat → Int32) → Int32) (nS nN nL : Nat) (ρ : Nat → Int32) (o a b : Nat) : (Nat → Int32) × Int32 := match o with
  | 0 => (mSings td F nS ρ a, if (mSb td F ρ a nS 0).isSome then iv 1 else iv 0)
  | 1 => ((mHymn td F nS nN ρ).1, iv 1)
  | 2 => mRests td nS ρ
  | 3 => if ρ (7 + a) = iv 1 then (ρ, iv 0) else (va_up ρ (7 + a) (iv 1), iv 1)
  | 4 => if ρ (7 + a) = iv 0 then (ρ, iv 0) else (va_up ρ (7 + a) (iv 0), iv 1)
  | 5 => if fX1_has (mWds td nL a) (iv b) = iv 0 then (ρ, iv 0) else if ρ (35 + a) = iv b then (ρ, iv 0) else (va_up ρ (35 + a) (iv b), iv 1)
  | _ => if ρ 56 < iv 400 then (mDay td nS ρ, iv 1) else (ρ, iv 0)
theorem mR_01 {td : Nat → Nat → Int32} : ∀ (j s : Nat) (q : (Nat → Int32) × Int32), (q.2 = iv 0 ∨ q.2 = iv 1) → (foldN (mRstep td) j s q).2 = iv 0 ∨ (foldN (mRstep td) j s q).2 = iv 1 := by
  intro j
  induction j with
  | zero => intro s q h; exact h
  | succ j ih =>
    intro s q h
    refine ih (s + 1) _ ?_
    show (q.2 ||| _ = iv 0) ∨ (q.2 ||| _ = iv 1)
    rcases h with h | h <;> rw [h] <;> split <;> decide
section s31
variable {c : Nat} {td : Nat → Nat → Int32} {lw : Nat → Nat → Int32} {rw : Nat → Nat → Int32} {bf : Nat → Nat → Int32} {kp : Nat → Nat → Int32} {st : Nat → Nat → Int32} {ln : Nat → Nat → Int32} {rd : Nat → Nat → Int32} {rl : Nat → Nat → Int32} {rn : Nat → Nat → Int32} {ms : Nat → Nat → Int32} {sc : Nat → Nat → Int32} {mc : Nat → Nat → Int32} {fa : Nat → Int32} {pm : Nat → Int32} {xl : Nat → Int64} {pc : Nat → Int32} {rt : Nat → Option Nat} {ra : Nat → Nat → Option Nat} {ch : Nat → (Nat → Nat → Int32) × (Nat → Int32)} {ow : Nat → Option (Nat × Nat)} {ou : Nat → Int64} {B : gS}
variable {tq : Nat → Nat → Int32} {F : (Nat → Int32) → Int32} {nS nN nL x y : Nat} {sgA ntA lkA : Nat → Nat} {ρ : Nat → Int32}
theorem c_rests_l (h : tO (zV c ow B) rt tq nS nN nL sgA ntA lkA) (hx : isC ow x) : ∀ (j s fuel : Nat) (ch : Nat → (Nat → Nat → Int32) × (Nat → Int32)) (ρ : Nat → Int32) (z : Int32), (z = iv 0 ∨ z = iv 1) → CR nS nN (ch x) ρ → s + j = nS → j < fuel → ∃ b', CR nS nN b' (foldN (mRstep tq) j s (ρ, z)).1 ∧ b'.2 = (ch x).2 ∧ fX5_rests_l4 fuel (some (aCh c x)) z (iv s) (zS c td lw rw bf kp st ln rd rl rn ms sc mc fa pm xl pc rt ra ch ow ou B) = some ((foldN (mRstep tq) j s (ρ, z)).2, (zS c td lw rw bf kp st ln rd rl rn ms sc mc fa pm xl pc rt ra (va_up ch x b') ow ou B)) := by
  intro j
  have h1 := h.1
  have h2 := h.2.1
  induction j with
  | zero =>
    intro s fuel ch ρ z hz hr hs hf
    obtain ⟨f, rfl⟩ : ∃ f, fuel = f + 1 := ⟨fuel - 1, by omega⟩
    have hc : nS ≤ s := by omega
    have hz' : (z = iv 0 ∨ z = iv 1) = True := eq_true hz
    refine ⟨ch x, hr, rfl, ?_⟩
    simp (disch := first | assumption | omega | (simp (disch := omega) only [okx_iv', nx_iv, iv_add, L0, L1, L2, L3, L7, L8, L14, L21, L28, L35, L55, L56, *]; try omega)) only [fX5_rests_l4, fX5_rests_i4, ↓gh_11, ↓gh_0, ↓bvv, ↓gvv, ↓tvv, ↓ld_aCA0, L0, L1, L1, ↓b_singers h, iv_add, no_def, nx_iv, okx_iv', iv_le, iv_lt, iv_eq, iv_no, no_iv, Nat.not_lt_zero, Nat.le_refl, vu_same, vu_ne, vu_up, ↓reduceIte, hc, vu_id, hz', foldN]
  | succ j ih =>
    intro s fuel ch ρ z hz hr hs hf
    obtain ⟨f, rfl⟩ : ∃ f, fuel = f + 1 := ⟨fuel - 1, by omega⟩
    have hc : ¬ nS ≤ s := by omega
    have q1 := (hr.1 s (by omega)).1
    obtain ⟨b', f1, f2, h8⟩ := ih (s + 1) f (va_up ch x (bL (ch x) 0 s (fX6_less (tq (1 + s) 2) (ρ s + tq 0 3)))) (va_up ρ s (fX6_less (tq (1 + s) 2) (ρ s + tq 0 3))) (z ||| (if tq (1 + s) 2 ≤ ρ s then iv 0 else iv 1)) (by rcases hz with rfl | rfl <;> split <;> decide) (by rw [vu_same]; exact hr.left h1 h2 (by omega) _) (by omega) (by omega)
    rw [vu_same] at f2
    rw [vu_up] at h8
    refine ⟨b', f1, f2, Eq.trans ?_ h8⟩
    by_cases c1 : tq (1 + s) 2 ≤ ρ s
    · simp (disch := first | assumption | omega | (simp (disch := omega) only [okx_iv', nx_iv, iv_add, L0, L1, L2, L3, L7, L8, L14, L21, L28, L35, L55, L56, *]; try omega)) only [fX5_rests_l4, fX5_rests_i4, fX5_rests_j41, ↓gh_11, ↓gh_0, ↓bvv, ↓gvv, ↓tvv, ↓gv_0, ↓ld_aCA0, ↓st_aCA0, L0, L1, ↓b_singers h, ↓b_singerOf h, ↓b_sg2 h, ↓b_rest h, iv_add, no_def, nx_iv, okx_iv', iv_le, iv_lt, iv_eq, iv_no, no_iv, Nat.not_lt_zero, Nat.le_refl, vu_same, vu_ne, vu_up, ↓reduceIte, hc, q1, less_eq, c1, bL]
    · simp (disch := first | assumption | omega | (simp (disch := omega) only [okx_iv', nx_iv, iv_add, L0, L1, L2, L3, L7, L8, L14, L21, L28, L35, L55, L56, *]; try omega)) only [fX5_rests_l4, fX5_rests_i4, fX5_rests_j41, ↓gh_11, ↓gh_0, ↓bvv, ↓gvv, ↓tvv, ↓gv_0, ↓ld_aCA0, ↓st_aCA0, L0, L1, ↓b_singers h, ↓b_singerOf h, ↓b_sg2 h, ↓b_rest h, iv_add, no_def, nx_iv, okx_iv', iv_le, iv_lt, iv_eq, iv_no, no_iv, Nat.not_lt_zero, Nat.le_refl, vu_same, vu_ne, vu_up, ↓reduceIte, hc, q1, less_eq, c1, bL]
theorem c_rests (h : tO (zV c ow B) rt tq nS nN nL sgA ntA lkA) (hx : isC ow x) (hr : CR nS nN (ch x) ρ) : ∃ b', CR nS nN b' (mRests tq nS ρ).1 ∧ b'.2 = (ch x).2 ∧ fX5_rests (some (aCh c x)) (zS c td lw rw bf kp st ln rd rl rn ms sc mc fa pm xl pc rt ra ch ow ou B) = some ((mRests tq nS ρ).2, (zS c td lw rw bf kp st ln rd rl rn ms sc mc fa pm xl pc rt ra (va_up ch x b') ow ou B)) := c_rests_l h hx nS 0 gFU ch ρ (iv 0) (Or.inl rfl) hr (by omega) (by have := h.1; unfold gFU; omega)
theorem c_brth_l (h : tO (zV c ow B) rt tq nS nN nL sgA ntA lkA) (hx : isC ow x) : ∀ (j s fuel : Nat) (ch : Nat → (Nat → Nat → Int32) × (Nat → Int32)) (ρ : Nat → Int32), CR nS nN (ch x) ρ → s + j = nS → j < fuel → ∃ b', CR nS nN b' (foldN (fun s r => va_up r s (tq (1 + s) 2)) j s ρ) ∧ b'.2 = (ch x).2 ∧ fX5_breathes_l2 fuel (some (aCh c x)) (iv s) (zS c td lw rw bf kp st ln rd rl rn ms sc mc fa pm xl pc rt ra ch ow ou B) = some ((), (zS c td lw rw bf kp st ln rd rl rn ms sc mc fa pm xl pc rt ra (va_up ch x b') ow ou B)) := by
  intro j
  have h1 := h.1
  have h2 := h.2.1
  induction j with
  | zero =>
    intro s fuel ch ρ hr hs hf
    obtain ⟨f, rfl⟩ : ∃ f, fuel = f + 1 := ⟨fuel - 1, by omega⟩
    have hc : nS ≤ s := by omega
    refine ⟨ch x, hr, rfl, ?_⟩
    simp (disch := first | assumption | omega | (simp (disch := omega) only [okx_iv', nx_iv, iv_add, L0, L1, L2, L3, L7, L8, L14, L21, L28, L35, L55, L56, *]; try omega)) only [fX5_breathes_l2, fX5_breathes_i2, ↓gh_11, ↓gh_0, ↓bvv, ↓gvv, ↓tvv, ↓ld_aCA0, ↓st_aCA0, L0, L1, ↓b_singers h, iv_add, no_def, nx_iv, okx_iv', iv_le, iv_lt, iv_eq, iv_no, no_iv, Nat.not_lt_zero, Nat.le_refl, vu_same, vu_ne, vu_up, ↓reduceIte, hc, vu_id]
  | succ j ih =>
    intro s fuel ch ρ hr hs hf
    obtain ⟨f, rfl⟩ : ∃ f, fuel = f + 1 := ⟨fuel - 1, by omega⟩
    have hc : ¬ nS ≤ s := by omega
    obtain ⟨b', f1, f2, h8⟩ := ih (s + 1) f (va_up ch x (bL (ch x) 0 s (tq (1 + s) 2))) (va_up ρ s (tq (1 + s) 2)) (by rw [vu_same]; exact hr.left h1 h2 (by omega) _) (by omega) (by omega)
    rw [vu_same] at f2
    rw [vu_up] at h8
    refine ⟨b', f1, f2, Eq.trans ?_ h8⟩
    simp (disch := first | assumption | omega | (simp (disch := omega) only [okx_iv', nx_iv, iv_add, L0, L1, L2, L3, L7, L8, L14, L21, L28, L35, L55, L56, *]; try omega)) only [fX5_breathes_l2, fX5_breathes_i2, ↓gh_11, ↓gh_0, ↓bvv, ↓gvv, ↓tvv, ↓ld_aCA0, ↓st_aCA0, L0, L1, ↓b_singers h, ↓b_singerOf h, ↓b_sg2 h, iv_add, no_def, nx_iv, okx_iv', iv_le, iv_lt, iv_eq, iv_no, no_iv, Nat.not_lt_zero, Nat.le_refl, vu_same, vu_ne, vu_up, ↓reduceIte, hc, bL]
theorem c_breathes (h : tO (zV c ow B) rt tq nS nN nL sgA ntA lkA) (hx : isC ow x) (hr : CR nS nN (ch x) ρ) : ∃ b', CR nS nN b' (mBrth tq nS ρ) ∧ b'.2 = (ch x).2 ∧ fX5_breathes (some (aCh c x)) (zS c td lw rw bf kp st ln rd rl rn ms sc mc fa pm xl pc rt ra ch ow ou B) = some ((), (zS c td lw rw bf kp st ln rd rl rn ms sc mc fa pm xl pc rt ra (va_up ch x b') ow ou B)) := c_brth_l h hx nS 0 gFU ch ρ hr (by omega) (by have := h.1; unfold gFU; omega)
theorem c_passes_l (h : tO (zV c ow B) rt tq nS nN nL sgA ntA lkA) (hx : isC ow x) : ∀ (j s fuel : Nat) (ch : Nat → (Nat → Nat → Int32) × (Nat → Int32)) (ρ : Nat → Int32), (∀ i, s ≤ i → i < nS → iv 0 ≤ ρ (28 + i)) → CR nS nN (ch x) ρ → s + j = nS → j < fuel → ∃ b', CR nS nN b' ((fun r => va_up r 56 (r 56 + iv 1)) (foldN (mDstep tq) j s ρ)) ∧ CF (ch x) b' ∧ fX5_passes_l6 fuel (some (aCh c x)) (iv s) (zS c td lw rw bf kp st ln rd rl rn ms sc mc fa pm xl pc rt ra ch ow ou B) = some ((), (zS c td lw rw bf kp st ln rd rl rn ms sc mc fa pm xl pc rt ra (va_up ch x b') ow ou B)) := by
  intro j
  have h1 := h.1
  have h2 := h.2.1
  induction j with
  | zero =>
    intro s fuel ch ρ hp hr hs hf
    obtain ⟨f, rfl⟩ : ∃ f, fuel = f + 1 := ⟨fuel - 1, by omega⟩
    have hc : nS ≤ s := by omega
    have q5 := hr.2.2.2.2
    refine ⟨bI (ch x) 7 (ρ 56 + iv 1), hr.day h1 h2 _, fun k k1 k2 => vu_ne k2, ?_⟩
    simp (disch := first | assumption | omega | (simp (disch := omega) only [okx_iv', nx_iv, iv_add, L0, L1, L2, L3, L7, L8, L14, L21, L28, L35, L55, L56, *]; try omega)) only [fX5_passes_l6, fX5_passes_i6, ↓gh_11, ↓gh_7, ↓gh_2, ↓gh_3, ↓ph_7, ↓bvv, ↓gvv, ↓tvv, ↓ld_aCA2, ↓st_aCA2, ↓ld_aCA3, ↓st_aCA3, L0, L1, L9999, ↓b_singers h, iv_add, no_def, nx_iv, okx_iv', iv_le, iv_lt, iv_eq, iv_no, no_iv, Nat.not_lt_zero, Nat.le_refl, vu_same, vu_ne, vu_up, ↓reduceIte, hc, bI, q5]
  | succ j ih =>
    intro s fuel ch ρ hp hr hs hf
    obtain ⟨f, rfl⟩ : ∃ f, fuel = f + 1 := ⟨fuel - 1, by omega⟩
    have hc : ¬ nS ≤ s := by omega
    obtain ⟨q1, q2, q3, q4⟩ := hr.1 s (by omega)
    have hp0 := hp s (Nat.le_refl _) (by omega)
    have e0 : (ρ (28 + s) ≤ iv 0) = (ρ (28 + s) = iv 0) := propext ⟨fun h9 => Int32.le_antisymm h9 hp0, fun h9 => by rw [h9]; exact Int32.le_refl _⟩
    by_cases c1 : ρ (28 + s) = iv 0
    · obtain ⟨b', f1, f2, h8⟩ := ih (s + 1) f (va_up ch x (bL (ch x) 2 s (iv 0))) (mDstep tq s ρ) (fun i i1 i2 => by unfold mDstep; simp (disch := omega) only [vu_ne]; exact hp i (by omega) i2) (by
        rw [vu_same]
        unfold mDstep
        rw [if_pos c1, vu_id]
        exact hr.today h1 h2 (by omega) _) (by omega) (by omega)
      rw [vu_same] at f2
      rw [vu_up] at h8
      refine ⟨b', f1, f2, Eq.trans ?_ h8⟩
      simp (disch := first | assumption | omega | (simp (disch := omega) only [okx_iv', nx_iv, iv_add, L0, L1, L2, L3, L7, L8, L14, L21, L28, L35, L55, L56, *]; try omega)) only [fX5_passes_l6, fX5_passes_i6, fX5_passes_j56, ↓gh_11, ↓gh_7, ↓gh_2, ↓gh_3, ↓ph_7, ↓bvv, ↓gvv, ↓tvv, ↓ld_aCA2, ↓st_aCA2, ↓ld_aCA3, ↓st_aCA3, L0, L1, L9999, ↓b_singers h, iv_add, no_def, nx_iv, okx_iv', iv_le, iv_lt, iv_eq, iv_no, no_iv, Nat.not_lt_zero, Nat.le_refl, vu_same, vu_ne, vu_up, ↓reduceIte, hc, q3, e0, c1, bL]
    · obtain ⟨b', f1, f2, h8⟩ := ih (s + 1) f (va_up ch x (bL (bL (ch x) 3 s (fX6_less (iv 9999) (ρ (21 + s) + tq (1 + s) 1))) 2 s (iv 0))) (mDstep tq s ρ) (fun i i1 i2 => by unfold mDstep; simp (disch := omega) only [vu_ne]; exact hp i (by omega) i2) (by
        rw [vu_same]
        unfold mDstep
        rw [if_neg c1]
        exact (hr.owed h1 h2 (by omega) _).today h1 h2 (by omega) _) (by omega) (by omega)
      rw [vu_same] at f2
      rw [vu_up] at h8
      refine ⟨b', f1, f2, Eq.trans ?_ h8⟩
      simp (disch := first | assumption | omega | (simp (disch := omega) only [okx_iv', nx_iv, iv_add, L0, L1, L2, L3, L7, L8, L14, L21, L28, L35, L55, L56, *]; try omega)) only [fX5_passes_l6, fX5_passes_i6, fX5_passes_j56, ↓gh_11, ↓gh_7, ↓gh_2, ↓gh_3, ↓ph_7, ↓bvv, ↓gvv, ↓tvv, ↓ld_aCA2, ↓st_aCA2, ↓ld_aCA3, ↓st_aCA3, L0, L1, L9999, ↓b_singers h, ↓b_singerOf h, ↓b_sg1 h, iv_add, no_def, nx_iv, okx_iv', iv_le, iv_lt, iv_eq, iv_no, no_iv, Nat.not_lt_zero, Nat.le_refl, vu_same, vu_ne, vu_up, ↓reduceIte, hc, q3, q4, e0, c1, bL, less_eq]
theorem mBrth_ne {td : Nat → Nat → Int32} {nS i : Nat} {ρ : Nat → Int32} (hi : nS ≤ i) : mBrth td nS ρ i = ρ i := by
  refine foldN_inv (g := fun s r => va_up r s (td (1 + s) 2)) (fun k r => r i = ρ i) nS 0 ρ rfl (fun k r h1 h2 h3 => ?_)
  exact (vu_ne (by omega)).trans h3
theorem c_passes (h : tO (zV c ow B) rt tq nS nN nL sgA ntA lkA) (hx : isC ow x) (hr : CR nS nN (ch x) ρ) (hp : ∀ i, i < nS → iv 0 ≤ ρ (28 + i)) : ∃ b', CR nS nN b' (mDay tq nS ρ) ∧ CF (ch x) b' ∧ fX5_passes (some (aCh c x)) (zS c td lw rw bf kp st ln rd rl rn ms sc mc fa pm xl pc rt ra ch ow ou B) = some ((), (zS c td lw rw bf kp st ln rd rl rn ms sc mc fa pm xl pc rt ra (va_up ch x b') ow ou B)) := by
  have h1 := h.1
  obtain ⟨b1, r1, f1, e1⟩ := c_breathes (c := c) (td := td) (lw := lw) (rw := rw) (bf := bf) (kp := kp) (st := st) (ln := ln) (rd := rd) (rl := rl) (rn := rn) (ms := ms) (sc := sc) (mc := mc) (fa := fa) (pm := pm) (xl := xl) (pc := pc) (rt := rt) (ra := ra) (ch := ch) (ow := ow) (ou := ou) (B := B) h hx hr
  obtain ⟨b2, r2, f2, e2⟩ := c_passes_l (c := c) (td := td) (lw := lw) (rw := rw) (bf := bf) (kp := kp) (st := st) (ln := ln) (rd := rd) (rl := rl) (rn := rn) (ms := ms) (sc := sc) (mc := mc) (fa := fa) (pm := pm) (xl := xl) (pc := pc) (ra := ra) (ou := ou) h hx nS 0 gFU (va_up ch x b1) (mBrth tq nS ρ) (fun i _ i2 => by rw [mBrth_ne (by omega)]; exact hp i i2) (by rw [vu_same]; exact r1) (by omega) (by unfold gFU; omega)
  rw [vu_same] at f2
  rw [vu_up] at e2
  refine ⟨b2, r2, fun k k1 k2 => (f2 k k1 k2).trans (by rw [f1]), ?_⟩
  unfold fX5_passes
  simp (disch := first | assumption | omega | (simp (disch := omega) only [okx_iv', nx_iv, iv_add, L0, L1, L2, L3, L7, L8, L14, L21, L28, L35, L55, L56, *]; try omega)) only [↓gvc, ↓gbn e1, L0]
  exact e2
theorem c_turns (h : tO (zV c ow B) rt tq nS nN nL sgA ntA lkA) (hx : isC ow x) (hr : CR nS nN (ch x) ρ) {s o : Nat} (hs : s < nS) (ho : o < 2) : ∃ b', CR nS nN b' (if ρ (7 + s) = iv o then ρ else va_up ρ (7 + s) (iv o)) ∧ b'.1 = (ch x).1 ∧ (∀ k, k ≠ 5 → b'.2 k = (ch x).2 k) ∧ b'.2 5 = (if ρ (7 + s) = iv o then (ch x).2 5 else (ch x).2 5 ^^^ mBit s) ∧ fX5_turns (some (aCh c x)) (iv s) (iv o) (zS c td lw rw bf kp st ln rd rl rn ms sc mc fa pm xl pc rt ra ch ow ou B) = some ((if ρ (7 + s) = iv o then iv 0 else iv 1), (zS c td lw rw bf kp st ln rd rl rn ms sc mc fa pm xl pc rt ra (va_up ch x b') ow ou B)) := by
  have h1 := h.1
  have h2 := h.2.1
  have q3 := hr.2.2.1
  unfold fX5_turns
  by_cases c1 : ρ (7 + s) = iv o
  · refine ⟨ch x, by rw [if_pos c1]; exact hr, rfl, fun _ _ => rfl, by rw [if_pos c1], ?_⟩
    simp (disch := first | assumption | omega | (simp (disch := omega) only [okx_iv', nx_iv, iv_add, L0, L1, L2, L3, L7, L8, L14, L21, L28, L35, L55, L56, *]; try omega)) only [↓gh_5, ↓ph_5, L0, L1, L31, iv_add, no_def, nx_iv, okx_iv', iv_le, iv_lt, iv_eq, iv_no, no_iv, Nat.not_lt_zero, Nat.le_refl, vu_same, vu_ne, vu_up, ↓reduceIte, q3 s hs, c1, vu_id]
  · refine ⟨bI (ch x) 5 ((ch x).2 5 ^^^ mBit s), ?_, rfl, fun k hk => vu_ne hk, by rw [if_neg c1]; unfold bI; exact vu_same (ch x).2 5 _, ?_⟩
    · rw [if_neg c1]
      refine hr.hoarse h1 h2 _ (fun j hj => vu_ne (by omega)) (fun q hq => ?_)
      rw [has_bxor _ (by omega) (by omega), q3 s hs, q3 q hq]
      by_cases e : q = s
      · subst e
        rw [if_pos rfl, vu_same]
        have h01 := has_01 ((ch x).2 5) (iv q)
        rw [q3 q hq] at h01
        have ho' : o = 0 ∨ o = 1 := by omega
        rcases ho' with rfl | rfl
        · rw [if_neg c1]
        · rcases h01 with h01 | h01
          · rw [if_pos h01]
          · exact absurd h01 c1
      · rw [if_neg e, vu_ne (by omega)]
    · simp (disch := first | assumption | omega | (simp (disch := omega) only [okx_iv', nx_iv, iv_add, L0, L1, L2, L3, L7, L8, L14, L21, L28, L35, L55, L56, *]; try omega)) only [↓gh_5, ↓ph_5, L0, L1, L31, iv_add, no_def, nx_iv, okx_iv', iv_le, iv_lt, iv_eq, iv_no, no_iv, Nat.not_lt_zero, Nat.le_refl, vu_same, vu_ne, vu_up, ↓reduceIte, q3 s hs, c1, bI, mBit]
theorem c_wordsOf_l (h : tO (zV c ow B) rt tq nS nN nL sgA ntA lkA) {n : Nat} : ∀ (j s fuel : Nat) (z : Int32), s + j = nL → j < fuel → fX1_wordsOf_l13 fuel (some (aV c)) (iv n) z (iv s) (zS c td lw rw bf kp st ln rd rl rn ms sc mc fa pm xl pc rt ra ch ow ou B) = some (foldN (fun k z => z ||| (if tq (28 + k) 0 = iv n then iv 1 <<< (tq (28 + k) 1 &&& iv 31) else iv 0)) j s z) := by
  intro j
  have ⟨_, _, hL, ⟨t, l1, l2, l3, bb, cl, h1, h2, h3, h4, h5⟩, _, _, h6⟩ := h
  induction j with
  | zero =>
    intro s fuel z hs hf
    obtain ⟨f, rfl⟩ : ∃ f, fuel = f + 1 := ⟨fuel - 1, by omega⟩
    have hc : nL ≤ s := by omega
    simp (disch := first | assumption | omega | (simp (disch := omega) only [okx_iv', nx_iv, iv_add, L0, L1, L2, L3, L7, L8, L14, L21, L28, L35, L55, L56, *]; try omega)) only [fX1_wordsOf_l13, fX1_wordsOf_i13, ↓gv_0, L0, L1, L31, iv_add, no_def, nx_iv, okx_iv', iv_le, iv_lt, iv_eq, iv_no, no_iv, Nat.not_lt_zero, Nat.le_refl, vu_same, vu_ne, vu_up, ↓reduceIte, hc, foldN, h1, ↓d_getR (cs := [1]) (k := 2) (v := some l3) h2 rfl rfl, ↓bnd (c_size h5)]
  | succ j ih =>
    intro s fuel z hs hf
    obtain ⟨f, rfl⟩ : ∃ f, fuel = f + 1 := ⟨fuel - 1, by omega⟩
    have hc : ¬ nL ≤ s := by omega
    obtain ⟨b6, h7⟩ := h6 s (by omega)
    have hs' : s < nL := by omega
    refine Eq.trans ?_ (ih (s + 1) f ((fun k z => z ||| (if tq (28 + k) 0 = iv n then iv 1 <<< (tq (28 + k) 1 &&& iv 31) else iv 0)) s z) (by omega) (by omega))
    by_cases cc0 : tq (28 + s) 0 = iv n
    · simp (disch := first | assumption | omega | (simp (disch := omega) only [okx_iv', nx_iv, iv_add, L0, L1, L2, L3, L7, L8, L14, L21, L28, L35, L55, L56, *]; try omega)) only [fX1_wordsOf_l13, fX1_wordsOf_i13, ↓gv_0, L0, L1, L31, iv_add, no_def, nx_iv, okx_iv', iv_le, iv_lt, iv_eq, iv_no, no_iv, Nat.not_lt_zero, Nat.le_refl, vu_same, vu_ne, vu_up, ↓reduceIte, hc, h1, ↓d_getR (cs := [1]) (k := 2) (v := some l3) h2 rfl rfl, ↓bnd (c_size h5), ↓bnd (c_get h5 hs'), (d_is (cs := [8]) h7).trans (rfl : List.contains [8] 8 = true), if_true, ↓d_getI (cs := [8]) (k := 0) h7 rfl rfl, ↓d_getI (cs := [8]) (k := 1) h7 rfl rfl, cc0, if_true, if_false]
      rfl
    · simp (disch := first | assumption | omega | (simp (disch := omega) only [okx_iv', nx_iv, iv_add, L0, L1, L2, L3, L7, L8, L14, L21, L28, L35, L55, L56, *]; try omega)) only [fX1_wordsOf_l13, fX1_wordsOf_i13, ↓gv_0, L0, L1, L31, iv_add, no_def, nx_iv, okx_iv', iv_le, iv_lt, iv_eq, iv_no, no_iv, Nat.not_lt_zero, Nat.le_refl, vu_same, vu_ne, vu_up, ↓reduceIte, hc, h1, ↓d_getR (cs := [1]) (k := 2) (v := some l3) h2 rfl rfl, ↓bnd (c_size h5), ↓bnd (c_get h5 hs'), (d_is (cs := [8]) h7).trans (rfl : List.contains [8] 8 = true), if_true, ↓d_getI (cs := [8]) (k := 0) h7 rfl rfl, ↓d_getI (cs := [8]) (k := 1) h7 rfl rfl, cc0, if_true, if_false]
      rfl
theorem c_wordsOf (h : tO (zV c ow B) rt tq nS nN nL sgA ntA lkA) {n : Nat} (hn : n < nN) : fX1_wordsOf (some (aV c)) (iv n) (zS c td lw rw bf kp st ln rd rl rn ms sc mc fa pm xl pc rt ra ch ow ou B) = some (mWds tq nL n) := by
  unfold fX1_wordsOf
  simp (disch := first | assumption | omega | (simp (disch := omega) only [okx_iv', nx_iv, iv_add, L0, L1, L2, L3, L7, L8, L14, L21, L28, L35, L55, L56, *]; try omega)) only [↓bvv, ↓gvv, ↓tvv, L0, L1, L31, ↓b_noteOf h, ↓b_nt0 h, iv_add, no_def, nx_iv, okx_iv', iv_le, iv_lt, iv_eq, iv_no, no_iv, Nat.not_lt_zero, Nat.le_refl, vu_same, vu_ne, vu_up, ↓reduceIte]
  exact c_wordsOf_l h nL 0 gFU _ (by omega) (by have := h.2.2.1; unfold gFU; omega)
theorem c_words (h : tO (zV c ow B) rt tq nS nN nL sgA ntA lkA) (hx : isC ow x) (hr : CR nS nN (ch x) ρ) {n w : Nat} (hn : n < nN) (hw : w < 6) : ∃ b', CR nS nN b' (mDoes tq F nS nN nL ρ 5 n w).1 ∧ b'.2 = (ch x).2 ∧ fX5_words (some (aCh c x)) (iv n) (iv w) (zS c td lw rw bf kp st ln rd rl rn ms sc mc fa pm xl pc rt ra ch ow ou B) = some ((mDoes tq F nS nN nL ρ 5 n w).2, (zS c td lw rw bf kp st ln rd rl rn ms sc mc fa pm xl pc rt ra (va_up ch x b') ow ou B)) := by
  have h1 := h.1
  have h2 := h.2.1
  have q := hr.2.1 n hn
  have e := c_wordsOf (c := c) (td := td) (lw := lw) (rw := rw) (bf := bf) (kp := kp) (st := st) (ln := ln) (rd := rd) (rl := rl) (rn := rn) (ms := ms) (sc := sc) (mc := mc) (fa := fa) (pm := pm) (xl := xl) (pc := pc) (rt := rt) (ra := ra) (ch := ch) (ow := ow) (ou := ou) (B := B) h hn
  unfold fX5_words
  show ∃ b', CR nS nN b' (if fX1_has (mWds tq nL n) (iv w) = iv 0 then (ρ, iv 0) else if ρ (35 + n) = iv w then (ρ, iv 0) else (va_up ρ (35 + n) (iv w), iv 1)).1 ∧ b'.2 = (ch x).2 ∧ _ = some ((if fX1_has (mWds tq nL n) (iv w) = iv 0 then (ρ, iv 0) else if ρ (35 + n) = iv w then (ρ, iv 0) else (va_up ρ (35 + n) (iv w), iv 1)).2, _)
  by_cases c1 : ρ (35 + n) = iv w
  · refine ⟨ch x, ?_, rfl, ?_⟩
    · rw [if_pos c1]; split <;> exact hr
    · rw [if_pos c1]
      simp (disch := first | assumption | omega | (simp (disch := omega) only [okx_iv', nx_iv, iv_add, L0, L1, L2, L3, L7, L8, L14, L21, L28, L35, L55, L56, *]; try omega)) only [↓gh_4, ↓gh_11, ↓bvv, ↓gvv, ↓tvv, ↓ld_aCA4, ↓st_aCA4, L0, L1, iv_add, no_def, nx_iv, okx_iv', iv_le, iv_lt, iv_eq, iv_no, no_iv, Nat.not_lt_zero, Nat.le_refl, vu_same, vu_ne, vu_up, ↓reduceIte, q, c1, vu_id]
      split <;> rfl
  · by_cases c2 : fX1_has (mWds tq nL n) (iv w) = iv 0
    · refine ⟨ch x, ?_, rfl, ?_⟩
      · rw [if_pos c2]; exact hr
      · rw [if_pos c2]
        simp (disch := first | assumption | omega | (simp (disch := omega) only [okx_iv', nx_iv, iv_add, L0, L1, L2, L3, L7, L8, L14, L21, L28, L35, L55, L56, *]; try omega)) only [↓gh_4, ↓gh_11, ↓bvv, ↓gvv, ↓tvv, ↓ld_aCA4, ↓st_aCA4, L0, L1, iv_add, no_def, nx_iv, okx_iv', iv_le, iv_lt, iv_eq, iv_no, no_iv, Nat.not_lt_zero, Nat.le_refl, vu_same, vu_ne, vu_up, ↓reduceIte, q, c1, vu_id, ↓bnd e, c2]
    · refine ⟨bL (ch x) 4 n (iv w), ?_, rfl, ?_⟩
      · rw [if_neg c1, if_neg c2]; exact hr.vowel h1 h2 hn _
      · rw [if_neg c1, if_neg c2]
        simp (disch := first | assumption | omega | (simp (disch := omega) only [okx_iv', nx_iv, iv_add, L0, L1, L2, L3, L7, L8, L14, L21, L28, L35, L55, L56, *]; try omega)) only [↓gh_4, ↓gh_11, ↓bvv, ↓gvv, ↓tvv, ↓ld_aCA4, ↓st_aCA4, L0, L1, iv_add, no_def, nx_iv, okx_iv', iv_le, iv_lt, iv_eq, iv_no, no_iv, Nat.not_lt_zero, Nat.le_refl, vu_same, vu_ne, vu_up, ↓reduceIte, q, c1, ↓bnd e, c2, bL]
theorem c_day (h : tO (zV c ow B) rt tq nS nN nL sgA ntA lkA) (hx : isC ow x) (hr : CR nS nN (ch x) ρ) (hp : ∀ i, i < nS → iv 0 ≤ ρ (28 + i)) {d : Nat} (hd : ρ 56 = iv d) (hd' : d ≤ 400) : ∃ b', CR nS nN b' (mDoes tq F nS nN nL ρ 6 0 0).1 ∧ CF (ch x) b' ∧ fX5_day (some (aCh c x)) (zS c td lw rw bf kp st ln rd rl rn ms sc mc fa pm xl pc rt ra ch ow ou B) = some ((mDoes tq F nS nN nL ρ 6 0 0).2, (zS c td lw rw bf kp st ln rd rl rn ms sc mc fa pm xl pc rt ra (va_up ch x b') ow ou B)) := by
  have q := hr.2.2.2.2
  obtain ⟨b1, r1, f1, e1⟩ := c_passes (c := c) (td := td) (lw := lw) (rw := rw) (bf := bf) (kp := kp) (st := st) (ln := ln) (rd := rd) (rl := rl) (rn := rn) (ms := ms) (sc := sc) (mc := mc) (fa := fa) (pm := pm) (xl := xl) (pc := pc) (rt := rt) (ra := ra) (ch := ch) (ow := ow) (ou := ou) (B := B) h hx hr hp
  unfold fX5_day
  show ∃ b', CR nS nN b' (if ρ 56 < iv 400 then (mDay tq nS ρ, iv 1) else (ρ, iv 0)).1 ∧ CF (ch x) b' ∧ _ = some ((if ρ 56 < iv 400 then (mDay tq nS ρ, iv 1) else (ρ, iv 0)).2, _)
  by_cases c1 : d = 400
  · subst c1
    rw [hd, if_neg (by decide)]
    refine ⟨ch x, hr, CF.rfl' _, ?_⟩
    simp (disch := first | assumption | omega | (simp (disch := omega) only [okx_iv', nx_iv, iv_add, L0, L1, L2, L3, L7, L8, L14, L21, L28, L35, L55, L56, *]; try omega)) only [↓gh_7, ↓bvc, ↓gvc, L0, L1, L400, iv_add, no_def, nx_iv, okx_iv', iv_le, iv_lt, iv_eq, iv_no, no_iv, Nat.not_lt_zero, Nat.le_refl, vu_same, vu_ne, vu_up, ↓reduceIte, q, hd, vu_id]
  · rw [hd, if_pos (by rw [iv_lt (by omega) (by decide)]; omega)]
    refine ⟨b1, r1, f1, ?_⟩
    simp (disch := first | assumption | omega | (simp (disch := omega) only [okx_iv', nx_iv, iv_add, L0, L1, L2, L3, L7, L8, L14, L21, L28, L35, L55, L56, *]; try omega)) only [↓gh_7, ↓bvc, ↓gvc, L0, L1, L400, iv_add, no_def, nx_iv, okx_iv', iv_le, iv_lt, iv_eq, iv_no, no_iv, Nat.not_lt_zero, Nat.le_refl, vu_same, vu_ne, vu_up, ↓reduceIte, q, hd, c1, ↓gbn e1]
end s31
