-- NAME 36.qd
set_option maxRecDepth 100000
def mCpy (a b : Nat → Int32) : Nat → Int32 := foldN (fun s r => va_up r s (a s)) 57 0 b
theorem mCpy_at {a b : Nat → Int32} {j : Nat} (hj : j < 57) : mCpy a b j = a j := by
  have h := foldN_inv (g := fun s r => va_up r s (a s)) (fun k r => ∀ i, i < k → r i = a i) 57 0 b (fun i hi => absurd hi (Nat.not_lt_zero i)) (fun k r h1 h2 h3 i hi => by
    by_cases e : i = k
    · subst e; exact vu_same _ _ _
    · exact (vu_ne e).trans (h3 i (by omega)))
  exact h j (by omega)
noncomputable def mHys (td : Nat → Nat → Int32) (F : (Nat → Int32) → Int32) (nS nN : Nat) (j s : Nat) (ρ : Nat → Int32) : Nat → Int32 := foldN (fun _ r => (mHymn td F nS nN r).1) j s ρ
def mOnly (nS : Nat) (set : Int32) (ρ : Nat → Int32) : Nat → Int32 := foldN (fun s r => va_up r (7 + s) (if fX1_has set (iv s) = iv 0 then iv 1 else iv 0)) nS 0 ρ
theorem mOnly_ne {nS j : Nat} {set : Int32} {ρ : Nat → Int32} (hS : nS ≤ 7) (hj : ¬ (7 ≤ j ∧ j < 14)) : mOnly nS set ρ j = ρ j := by
  refine foldN_inv (g := fun s r => va_up r (7 + s) (if fX1_has set (iv s) = iv 0 then iv 1 else iv 0)) (fun k r => r j = ρ j) nS 0 ρ rfl (fun k r h1 h2 h3 => ?_)
  exact (vu_ne (by omega)).trans h3
theorem mOnly_at {nS s : Nat} {set : Int32} {ρ : Nat → Int32} (hs : s < nS) : mOnly nS set ρ (7 + s) = if fX1_has set (iv s) = iv 0 then iv 1 else iv 0 := by
  have h := foldN_inv (g := fun s r => va_up r (7 + s) (if fX1_has set (iv s) = iv 0 then iv 1 else iv 0)) (fun k r => ∀ i, i < k → r (7 + i) = if fX1_has set (iv i) = iv 0 then iv 1 else iv 0) nS 0 ρ (fun i hi => absurd hi (Nat.not_lt_zero i)) (fun k r h1 h2 h3 i hi => by
    by_cases e : i = k
    · subst e; exact vu_same _ _ _
    · exact (vu_ne (by omega)).trans (h3 i (by omega)))
  exact h s (by omega)
/-- a direct answer on both sides -/
def qD (c n : Nat) (C : Option (Int32 × gS)) (M : gS → Option (Int32 × gS)) : Prop := ∃ v S1 S2, C = some (v, S1) ∧ M S1 = some (v, S2) ∧ oIs [3] (some (aM c)) S1 = true ∧ inv (n + 1) S2 c
section s36
variable {c : Nat} {td : Nat → Nat → Int32} {lw : Nat → Nat → Int32} {rw : Nat → Nat → Int32} {bf : Nat → Nat → Int32} {kp : Nat → Nat → Int32} {st : Nat → Nat → Int32} {ln : Nat → Nat → Int32} {rd : Nat → Nat → Int32} {rl : Nat → Nat → Int32} {rn : Nat → Nat → Int32} {ms : Nat → Nat → Int32} {sc : Nat → Nat → Int32} {mc : Nat → Nat → Int32} {fa : Nat → Int32} {pm : Nat → Int32} {xl : Nat → Int64} {pc : Nat → Int32} {rt : Nat → Option Nat} {ra : Nat → Nat → Option Nat} {ch : Nat → (Nat → Nat → Int32) × (Nat → Int32)} {ow : Nat → Option (Nat × Nat)} {ou : Nat → Int64} {B : gS}
variable {nS nN nL x k : Nat} {sgA ntA lkA : Nat → Nat} {F : (Nat → Int32) → Int32} {tp wk im lm n : Nat} {ρ : Nat → Int32}
theorem s_copies : fX6_copies (some (aRow c 0)) (some (aRow c 1)) (zS c td lw rw bf kp st ln rd rl rn ms sc mc fa pm xl pc rt ra ch ow ou B) = some ((), (zS c td lw (va_up rw 1 (mCpy (rw 0) (rw 1))) bf kp st ln rd rl rn ms sc mc fa pm xl pc rt ra ch ow ou B)) := by
  have h : ∀ (j s fuel : Nat) (rw : Nat → Nat → Int32), s + j = 57 → j < fuel → fX6_copies_l2 fuel (some (aRow c 0)) (some (aRow c 1)) (iv s) (zS c td lw rw bf kp st ln rd rl rn ms sc mc fa pm xl pc rt ra ch ow ou B) = some ((), (zS c td lw (va_up rw 1 (foldN (fun s r => va_up r s (rw 0 s)) j s (rw 1))) bf kp st ln rd rl rn ms sc mc fa pm xl pc rt ra ch ow ou B)) := by
    intro j
    induction j with
    | zero =>
      intro s fuel rw hs hf
      obtain ⟨f, rfl⟩ : ∃ f, fuel = f + 1 := ⟨fuel - 1, by omega⟩
      have hc : 57 ≤ s := by omega
      simp (maxSteps := 3000000) (disch := first | assumption | omega | (simp (disch := omega) only [okx_iv', nx_iv, iv_add, L0, L1, L2, L3, L7, L8, L14, L21, L28, L35, L55, L56, *]; try omega)) only [fX6_copies_l2, fX6_copies_i2, ↓ld_aRow, ↓st_aRow, L0, L1, L57, ↓ld_aRow, ↓st_aRow, iv_add, no_def, nx_iv, okx_iv', iv_le, iv_lt, iv_eq, iv_no, no_iv, Nat.not_lt_zero, Nat.le_refl, vu_same, vu_ne, vu_up, ↓reduceIte, hc, foldN, vu_id]
    | succ j ih =>
      intro s fuel rw hs hf
      obtain ⟨f, rfl⟩ : ∃ f, fuel = f + 1 := ⟨fuel - 1, by omega⟩
      have hc : ¬ 57 ≤ s := by omega
      have h9 := ih (s + 1) f (va_up rw 1 (va_up (rw 1) s (rw 0 s))) (by omega) (by omega)
      rw [vu_same, vu_up, vu_ne (by decide)] at h9
      refine Eq.trans ?_ h9
      simp (maxSteps := 3000000) (disch := first | assumption | omega | (simp (disch := omega) only [okx_iv', nx_iv, iv_add, L0, L1, L2, L3, L7, L8, L14, L21, L28, L35, L55, L56, *]; try omega)) only [fX6_copies_l2, fX6_copies_i2, ↓ld_aRow, ↓st_aRow, L0, L1, L57, ↓ld_aRow, ↓st_aRow, iv_add, no_def, nx_iv, okx_iv', iv_le, iv_lt, iv_eq, iv_no, no_iv, Nat.not_lt_zero, Nat.le_refl, vu_same, vu_ne, vu_up, ↓reduceIte, hc]
  exact h 57 0 gFU rw (by omega) (by unfold gFU; omega)
theorem s_only_l (ht : tOK td nS nN nL) {set : Int32} : ∀ (j s fuel : Nat) (rw : Nat → Nat → Int32), s + j = nS → j < fuel → fX6_onlyThese_l2 fuel (some (aM c)) set (iv s) (zS c td lw rw bf kp st ln rd rl rn ms sc mc fa pm xl pc rt ra ch ow ou B) = some ((), (zS c td lw (va_up rw 1 (foldN (fun s r => va_up r (7 + s) (if fX1_has set (iv s) = iv 0 then iv 1 else iv 0)) j s (rw 1))) bf kp st ln rd rl rn ms sc mc fa pm xl pc rt ra ch ow ou B)) := by
  intro j
  obtain ⟨h1, h2, h3, h4, h5, h6⟩ := ht
  induction j with
  | zero =>
    intro s fuel rw hs hf
    obtain ⟨f, rfl⟩ : ∃ f, fuel = f + 1 := ⟨fuel - 1, by omega⟩
    have hc : nS ≤ s := by omega
    simp (maxSteps := 3000000) (disch := first | assumption | omega | (simp (disch := omega) only [okx_iv', nx_iv, iv_add, L0, L1, L2, L3, L7, L8, L14, L21, L28, L35, L55, L56, *]; try omega)) only [fX6_onlyThese_l2, fX6_onlyThese_i2, ↓gm_12, ↓gm_30, ↓ld_aTo, ↓st_aTo, ↓ld_aRow, ↓st_aRow, L0, L1, L7, iv_add, no_def, nx_iv, okx_iv', iv_le, iv_lt, iv_eq, iv_no, no_iv, Nat.not_lt_zero, Nat.le_refl, vu_same, vu_ne, vu_up, ↓reduceIte, h1, hc, foldN, vu_id]
  | succ j ih =>
    intro s fuel rw hs hf
    obtain ⟨f, rfl⟩ : ∃ f, fuel = f + 1 := ⟨fuel - 1, by omega⟩
    have hc : ¬ nS ≤ s := by omega
    have h9 := ih (s + 1) f (va_up rw 1 (va_up (rw 1) (7 + s) (if fX1_has set (iv s) = iv 0 then iv 1 else iv 0))) (by omega) (by omega)
    rw [vu_same, vu_up] at h9
    refine Eq.trans ?_ h9
    by_cases c1 : fX1_has set (iv s) = iv 0
    · simp (maxSteps := 3000000) (disch := first | assumption | omega | (simp (disch := omega) only [okx_iv', nx_iv, iv_add, L0, L1, L2, L3, L7, L8, L14, L21, L28, L35, L55, L56, *]; try omega)) only [fX6_onlyThese_l2, fX6_onlyThese_i2, ↓gm_12, ↓gm_30, ↓ld_aTo, ↓st_aTo, ↓ld_aRow, ↓st_aRow, L0, L1, L7, has_eq, iv_add, no_def, nx_iv, okx_iv', iv_le, iv_lt, iv_eq, iv_no, no_iv, Nat.not_lt_zero, Nat.le_refl, vu_same, vu_ne, vu_up, ↓reduceIte, h1, hc, c1]
    · simp (maxSteps := 3000000) (disch := first | assumption | omega | (simp (disch := omega) only [okx_iv', nx_iv, iv_add, L0, L1, L2, L3, L7, L8, L14, L21, L28, L35, L55, L56, *]; try omega)) only [fX6_onlyThese_l2, fX6_onlyThese_i2, ↓gm_12, ↓gm_30, ↓ld_aTo, ↓st_aTo, ↓ld_aRow, ↓st_aRow, L0, L1, L7, has_eq, iv_add, no_def, nx_iv, okx_iv', iv_le, iv_lt, iv_eq, iv_no, no_iv, Nat.not_lt_zero, Nat.le_refl, vu_same, vu_ne, vu_up, ↓reduceIte, h1, hc, c1]
theorem s_only (ht : tOK td nS nN nL) {set : Int32} : fX6_onlyThese (some (aM c)) set (zS c td lw rw bf kp st ln rd rl rn ms sc mc fa pm xl pc rt ra ch ow ou B) = some ((), (zS c td lw (va_up rw 1 (mOnly nS set (rw 1))) bf kp st ln rd rl rn ms sc mc fa pm xl pc rt ra ch ow ou B)) := s_only_l ht nS 0 gFU rw (by omega) (by have := ht.2.2.2.1; unfold gFU; omega)
/-- the probe becomes the choir: it is as the trial row is -/
theorem c_probe (hT : tO (zV c ow B) rt td nS nN nL sgA ntA lkA) (hr : CR nS nN (ch 12) (rw 0)) : fX5_becomes (some (aCh c 18)) (some (aCh c 12)) (zS c td lw rw bf kp st ln rd rl rn ms sc mc fa pm xl pc rt ra ch ow ou B) = some (some (aCh c 18), (zS c td lw rw bf kp st ln rd rl rn ms sc mc fa pm xl pc rt ra (va_up ch 18 (bCp (ch 12) (ch 18))) ow ou B)) ∧ CR nS nN (bCp (ch 12) (ch 18)) (mCpy (rw 0) (rw 1)) :=
  ⟨c_becomes isC18 isC12 (by decide), (bCp_R hT.1 hT.2.1 hr).of hT.1 hT.2.1 (fun j hj => mCpy_at hj)⟩
theorem qD_ok {C : Option (Int32 × gS)} {M : gS → Option (Int32 × gS)} {v : Int32} {S1 S2 : gS} (h1 : C = some (v, S1)) (h0 : oIs [3] (some (aM c)) S1 = true) (h2 : M S1 = some (v, S2)) (h5 : inv (n + 1) S2 c) : qD c n C M := ⟨v, S1, S2, h1, h2, h0, h5⟩
/-! ahead -/
theorem c_ahead_run (h : tO (zV c ow B) rt td nS nN nL sgA ntA lkA) (hl : lwO (zV c ow B) rt F) {m : Nat} {w : Int32} (hm : m ≤ 20) : ∀ (j s fuel : Nat) (fa : Nat → Int32) (ch : Nat → (Nat → Nat → Int32) × (Nat → Int32)) (ρ : Nat → Int32), CR nS nN (ch 18) ρ → s + j = m → j < fuel → ∃ fa' b' f', CR nS nN b' (mHys td F nS nN j s ρ) ∧ fX1_ahead_l43 fuel (some (aV c)) (iv m) w (some (aCh c 18)) (iv s) (zS c td lw rw bf kp st ln rd rl rn ms sc mc fa pm xl pc rt ra ch ow ou B) = fX1_ahead_l43 (f' + 1) (some (aV c)) (iv m) w (some (aCh c 18)) (iv m) (zS c td lw rw bf kp st ln rd rl rn ms sc mc (fa') pm xl pc rt ra (va_up ch 18 b') ow ou B) := by
  intro j
  have hx := @isC18 ow
  induction j with
  | zero =>
    intro s fuel fa ch ρ hr hs hf
    obtain ⟨f, rfl⟩ : ∃ f, fuel = f + 1 := ⟨fuel - 1, by omega⟩
    have e : s = m := by omega
    exact ⟨fa, ch 18, f, hr, by rw [vu_id, e]⟩
  | succ j ih =>
    intro s fuel fa ch ρ hr hs hf
    obtain ⟨f, rfl⟩ : ∃ f, fuel = f + 1 := ⟨fuel - 1, by omega⟩
    have hc : ¬ m ≤ s := by omega
    obtain ⟨fa1, b1, r1, -, h1⟩ := c_hymn (c := c) (td := td) (lw := lw) (rw := rw) (bf := bf) (kp := kp) (st := st) (ln := ln) (rd := rd) (rl := rl) (rn := rn) (ms := ms) (sc := sc) (mc := mc) (fa := fa) (pm := pm) (xl := xl) (pc := pc) (rt := rt) (ra := ra) (ch := ch) (ow := ow) (ou := ou) (B := B) h hl hx hr
    obtain ⟨fa2, b2, f2, r2, h2⟩ := ih (s + 1) f fa1 (va_up ch 18 b1) (mHymn td F nS nN ρ).1 (by rw [vu_same]; exact r1) (by omega) (by omega)
    rw [vu_up] at h2
    refine ⟨fa2, b2, f2, r2, Eq.trans ?_ h2⟩
    simp (maxSteps := 3000000) (disch := first | assumption | omega | (simp (disch := omega) only [okx_iv', nx_iv, iv_add, L0, L1, L2, L3, L7, L8, L14, L21, L28, L35, L55, L56, *]; try omega)) only [fX1_ahead_l43, fX1_ahead_i43, ↓gvc, ↓gbn h1, L1, iv_add, no_def, nx_iv, okx_iv', iv_le, iv_lt, iv_eq, iv_no, no_iv, Nat.not_lt_zero, Nat.le_refl, vu_same, vu_ne, vu_up, ↓reduceIte, hc]
theorem s_ahead_run {kl : Nat} (hl : lOK lw kl F) (ht : tOK td nS nN nL) {m : Nat} {w : Int32} (hm : m ≤ 20) : ∀ (j s fuel : Nat) (rw sc : Nat → Nat → Int32) (pm : Nat → Int32), pm 19 = iv kl → s + j = m → j < fuel → ∃ sc' x f', fX6_ahead_l53 fuel (some (aM c)) (iv m) w (iv s) (zS c td lw rw bf kp st ln rd rl rn ms sc mc fa pm xl pc rt ra ch ow ou B) = fX6_ahead_l53 (f' + 1) (some (aM c)) (iv m) w (iv m) (zS c td lw (va_up rw 1 (mHys td F nS nN j s (rw 1))) bf kp st ln rd rl rn ms (sc') mc fa (va_up pm 38 x) xl pc rt ra ch ow ou B) := by
  intro j
  induction j with
  | zero =>
    intro s fuel rw sc pm hp hs hf
    obtain ⟨f, rfl⟩ : ∃ f, fuel = f + 1 := ⟨fuel - 1, by omega⟩
    have e : s = m := by omega
    exact ⟨sc, pm 38, f, by unfold mHys foldN; rw [vu_id, vu_id, e]⟩
  | succ j ih =>
    intro s fuel rw sc pm hp hs hf
    obtain ⟨f, rfl⟩ : ∃ f, fuel = f + 1 := ⟨fuel - 1, by omega⟩
    have hc : ¬ m ≤ s := by omega
    obtain ⟨sc1, h1⟩ := s_hymns (c := c) (td := td) (lw := lw) (rw := rw) (bf := bf) (kp := kp) (st := st) (ln := ln) (rd := rd) (rl := rl) (rn := rn) (ms := ms) (sc := sc) (mc := mc) (fa := fa) (pm := pm) (xl := xl) (pc := pc) (rt := rt) (ra := ra) (ch := ch) (ow := ow) (ou := ou) (B := B) hl hp ht (b := 1) (by decide)
    obtain ⟨sc2, x2, f2, h2⟩ := ih (s + 1) f (va_up rw 1 (mHymn td F nS nN (rw 1)).1) sc1 (va_up pm 38 (mHymn td F nS nN (rw 1)).2) ((vu_ne (by decide)).trans hp) (by omega) (by omega)
    rw [vu_up, vu_up, vu_same] at h2
    refine ⟨sc2, x2, f2, Eq.trans ?_ h2⟩
    simp (maxSteps := 3000000) (disch := first | assumption | omega | (simp (disch := omega) only [okx_iv', nx_iv, iv_add, L0, L1, L2, L3, L7, L8, L14, L21, L28, L35, L55, L56, *]; try omega)) only [fX6_ahead_l53, fX6_ahead_i53, ↓gm_30, ↓bvm, ↓gvm, ↓ld_aRow, L0, L1, ↓gbn h1, L1, iv_add, no_def, nx_iv, okx_iv', iv_le, iv_lt, iv_eq, iv_no, no_iv, Nat.not_lt_zero, Nat.le_refl, vu_same, vu_ne, vu_up, ↓reduceIte, hc]
theorem q_ahead_l (h : tO (zV c ow B) rt td nS nN nL sgA ntA lkA) (hx : isC ow x) (hr : CR nS nN (ch x) ρ) : ∀ (j s fuel : Nat) (z : Int32), s + j = nS → j < fuel → fX1_ahead_l99 fuel (some (aV c)) (some (aCh c x)) z (iv s) (zS c td lw rw bf kp st ln rd rl rn ms sc mc fa pm xl pc rt ra ch ow ou B) = some (.inl (foldN (fun s z => z ||| (if ρ s = iv 0 then mBit s else iv 0)) j s z), (zS c td lw rw bf kp st ln rd rl rn ms sc mc fa pm xl pc rt ra ch ow ou B)) := by
  intro j
  have hS := h.1
  induction j with
  | zero =>
    intro s fuel z hs hf
    obtain ⟨f, rfl⟩ : ∃ f, fuel = f + 1 := ⟨fuel - 1, by omega⟩
    have hc : nS ≤ s := by omega
    simp (maxSteps := 3000000) (disch := first | assumption | omega | (simp (disch := omega) only [okx_iv', nx_iv, iv_add, L0, L1, L2, L3, L7, L8, L14, L21, L28, L35, L55, L56, *]; try omega)) only [fX1_ahead_l99, fX1_ahead_i99, ↓gh_0, ↓bvv, ↓gvv, ↓tvv, ↓ld_aCA0, L0, L1, L31, iv_add, no_def, nx_iv, okx_iv', iv_le, iv_lt, iv_eq, iv_no, no_iv, Nat.not_lt_zero, Nat.le_refl, vu_same, vu_ne, vu_up, ↓reduceIte, hc, foldN, ↓b_singers h, hr.l0, mBit]
  | succ j ih =>
    intro s fuel z hs hf
    obtain ⟨f, rfl⟩ : ∃ f, fuel = f + 1 := ⟨fuel - 1, by omega⟩
    have hc : ¬ nS ≤ s := by omega
    refine Eq.trans ?_ (ih (s + 1) f ((fun s z => z ||| (if ρ s = iv 0 then mBit s else iv 0)) s z) (by omega) (by omega))
    by_cases cc0 : ρ s = iv 0
    · simp (maxSteps := 3000000) (disch := first | assumption | omega | (simp (disch := omega) only [okx_iv', nx_iv, iv_add, L0, L1, L2, L3, L7, L8, L14, L21, L28, L35, L55, L56, *]; try omega)) only [fX1_ahead_l99, fX1_ahead_i99, ↓gh_0, ↓bvv, ↓gvv, ↓tvv, ↓ld_aCA0, L0, L1, L31, iv_add, no_def, nx_iv, okx_iv', iv_le, iv_lt, iv_eq, iv_no, no_iv, Nat.not_lt_zero, Nat.le_refl, vu_same, vu_ne, vu_up, ↓reduceIte, hc, ↓b_singers h, hr.l0, mBit, cc0, if_true, if_false]
    · simp (maxSteps := 3000000) (disch := first | assumption | omega | (simp (disch := omega) only [okx_iv', nx_iv, iv_add, L0, L1, L2, L3, L7, L8, L14, L21, L28, L35, L55, L56, *]; try omega)) only [fX1_ahead_l99, fX1_ahead_i99, ↓gh_0, ↓bvv, ↓gvv, ↓tvv, ↓ld_aCA0, L0, L1, L31, iv_add, no_def, nx_iv, okx_iv', iv_le, iv_lt, iv_eq, iv_no, no_iv, Nat.not_lt_zero, Nat.le_refl, vu_same, vu_ne, vu_up, ↓reduceIte, hc, ↓b_singers h, hr.l0, mBit, cc0, if_true, if_false]
def vAh (nS : Nat) (ρ0 ρ : Nat → Int32) (w : Nat) (x : Int32) : Int32 := if w = 0 then ρ 55 - ρ0 55 else if w = 1 then mAll nS ρ 0 else x
theorem r_ahead_l (ht : tOK td nS nN nL) {w : Nat} (hw : w = 0 ∨ w = 1 ∨ w = 2) : ∀ (j s fuel : Nat) (z : Int32), s + j = nS → j < fuel → fX6_ahead_l77 fuel (some (aM c)) (iv w) z (iv s) (zS c td lw rw bf kp st ln rd rl rn ms sc mc fa pm xl pc rt ra ch ow ou B) = some (vAh nS (rw 0) (rw 1) w (foldN (fun s z => z ||| (if rw 1 s = iv 0 then mBit s else iv 0)) j s z), (zS c td lw rw bf kp st ln rd rl rn ms sc mc fa pm xl pc rt ra ch ow ou B)) := by
  intro j
  have ht' := ht
  have ⟨h1, h2, h3, h4, h5, h6⟩ := ht
  induction j with
  | zero =>
    intro s fuel z hs hf
    obtain ⟨f, rfl⟩ : ∃ f, fuel = f + 1 := ⟨fuel - 1, by omega⟩
    have hc : nS ≤ s := by omega
    simp (maxSteps := 3000000) (disch := first | assumption | omega | (simp (disch := omega) only [okx_iv', nx_iv, iv_add, L0, L1, L2, L3, L7, L8, L14, L21, L28, L35, L55, L56, *]; try omega)) only [fX6_ahead_l77, fX6_ahead_i77, ↓gm_12, ↓gm_30, ↓gm_29, ↓bvm, ↓gvm, ↓ld_aTo, ↓ld_aRow, L0, L1, L31, L55, iv_add, no_def, nx_iv, okx_iv', iv_le, iv_lt, iv_eq, iv_no, no_iv, Nat.not_lt_zero, Nat.le_refl, vu_same, vu_ne, vu_up, ↓reduceIte, hc, foldN, h1, Nat.zero_add]
    have hd := s_all (c := c) (td := td) (lw := lw) (rw := rw) (bf := bf) (kp := kp) (st := st) (ln := ln) (rd := rd) (rl := rl) (rn := rn) (ms := ms) (sc := sc) (mc := mc) (fa := fa) (pm := pm) (xl := xl) (pc := pc) (rt := rt) (ra := ra) (ch := ch) (ow := ow) (ou := ou) (B := B) ht' (b := 1) (d := 0) (by decide) (by omega)
    rcases hw with rfl | rfl | rfl
    all_goals simp (maxSteps := 3000000) (disch := first | assumption | omega | (simp (disch := omega) only [okx_iv', nx_iv, iv_add, L0, L1, L2, L3, L7, L8, L14, L21, L28, L35, L55, L56, *]; try omega)) only [↓gm_12, ↓gm_30, ↓gm_29, ↓bvm, ↓gvm, ↓ld_aTo, ↓ld_aRow, L0, L1, L31, L55, iv_add, no_def, nx_iv, okx_iv', iv_le, iv_lt, iv_eq, iv_no, no_iv, Nat.not_lt_zero, Nat.le_refl, vu_same, vu_ne, vu_up, ↓reduceIte, Nat.reduceEqDiff, Nat.reduceLeDiff, Nat.reduceLT, Nat.one_ne_zero, Nat.zero_ne_one, if_true, if_false, ↓bnd hd, vAh]
  | succ j ih =>
    intro s fuel z hs hf
    obtain ⟨f, rfl⟩ : ∃ f, fuel = f + 1 := ⟨fuel - 1, by omega⟩
    have hc : ¬ nS ≤ s := by omega
    refine Eq.trans ?_ (ih (s + 1) f ((fun s z => z ||| (if rw 1 s = iv 0 then mBit s else iv 0)) s z) (by omega) (by omega))
    by_cases cc0 : rw 1 s = iv 0
    · simp (maxSteps := 3000000) (disch := first | assumption | omega | (simp (disch := omega) only [okx_iv', nx_iv, iv_add, L0, L1, L2, L3, L7, L8, L14, L21, L28, L35, L55, L56, *]; try omega)) only [fX6_ahead_l77, fX6_ahead_i77, ↓gm_12, ↓gm_30, ↓gm_29, ↓bvm, ↓gvm, ↓ld_aTo, ↓ld_aRow, L0, L1, L31, L55, iv_add, no_def, nx_iv, okx_iv', iv_le, iv_lt, iv_eq, iv_no, no_iv, Nat.not_lt_zero, Nat.le_refl, vu_same, vu_ne, vu_up, ↓reduceIte, hc, h1, Nat.zero_add, mBit, cc0, if_true, if_false]
    · simp (maxSteps := 3000000) (disch := first | assumption | omega | (simp (disch := omega) only [okx_iv', nx_iv, iv_add, L0, L1, L2, L3, L7, L8, L14, L21, L28, L35, L55, L56, *]; try omega)) only [fX6_ahead_l77, fX6_ahead_i77, ↓gm_12, ↓gm_30, ↓gm_29, ↓bvm, ↓gvm, ↓ld_aTo, ↓ld_aRow, L0, L1, L31, L55, iv_add, no_def, nx_iv, okx_iv', iv_le, iv_lt, iv_eq, iv_no, no_iv, Nat.not_lt_zero, Nat.le_refl, vu_same, vu_ne, vu_up, ↓reduceIte, hc, h1, Nat.zero_add, mBit, cc0, if_true, if_false]
theorem Q_ahead (I : invA c td lw rw bf kp st ln rd rl rn ms sc mc fa pm xl pc rt ra ch ow ou B nS nN nL sgA ntA lkA F tp wk im lm n) (hn : n < 64) (p q : Int32) : qI c n (fX0_ahead (some (aV c)) p q (some (aOu c)) (zS c td lw rw bf kp st ln rd rl rn ms sc mc fa pm xl pc rt ra ch ow ou B)) (fun S => fX6_ahead (some (aM c)) p q S) := by
  have hN := I.2.2.1
  have hT := I.1
  have hC0 := I.2.2.2.1
  have hR := hC0.1
  have hB := I.2.2.2.2.2.2.2.2
  have hS := hT.2.1.1
  have hNn := hT.2.1.2.1
  have hLn := hT.2.1.2.2.1
  have hf : 1000 < gFU := by unfold gFU; omega
  obtain ⟨kl, hl1, hl2⟩ := I.2.1.1
  have hl3 := I.2.1.2
  rcases rng p 20 (by decide) with ⟨k, hk0, rfl⟩ | e0
  rotate_left
  · have hC : fX1_ahead (some (aV c)) p q (zS c td lw rw bf kp st ln rd rl rn ms sc mc fa pm xl pc rt ra ch ow ou B) = some (.inr (31, B.2.1), (zS c td lw rw bf kp st ln rd rl rn ms sc (va_up mc 1 (va_up (mc 1) 1 (mc 1 1 + iv 1))) fa pm xl pc rt ra ch ow ou (bX 31 B))) := by
      unfold fX1_ahead fX1_ahead_j24 fX1_ahead_j25
      simp (maxSteps := 3000000) (disch := first | assumption | omega | (simp (disch := omega) only [okx_iv', nx_iv, iv_add, L0, L1, L2, L3, L7, L8, L14, L21, L28, L35, L55, L56, *]; try omega)) only [↓gv_6, ↓gv_5, ↓bvv, ↓gvv, ↓tvv, ↓bvc, ↓gvc, L0, L1, L2, L20, iv_add, no_def, nx_iv, okx_iv', iv_le, iv_lt, iv_eq, iv_no, no_iv, Nat.not_lt_zero, Nat.le_refl, vu_same, vu_ne, vu_up, ↓reduceIte, Nat.reduceEqDiff, Nat.reduceLeDiff, Nat.reduceLT, Nat.one_ne_zero, Nat.zero_ne_one, if_true, if_false, e0, ↓gtx (c_need0e hB.1 (hB.rm hn (by decide) (by decide)) (show fX1_isIn p (0 : Int32) (20 : Int32) = iv 0 from e0)), or_true, ↓tvv, ↓gtn c_need1, ↓gtx (c_need0 hB.1 (hB.rm hn (by decide) (by decide)))]
    have hM : fX6_ahead (some (aM c)) p q (zS c td lw rw bf kp st ln rd rl rn ms sc (va_up mc 1 (va_up (mc 1) 1 (mc 1 1 + iv 1))) fa pm xl pc rt ra ch ow ou (bX 31 B)) = some (iv 0, (zS c td lw rw bf kp st ln rd rl rn (va_up ms 1 (va_up (ms 1) 1 (ms 1 1 + iv 1))) sc (va_up mc 1 (va_up (mc 1) 1 (mc 1 1 + iv 1))) fa (va_up pm 0 (iv 1)) xl pc rt ra ch ow ou (bX 31 B))) := by
      unfold fX6_ahead fX6_ahead_j25 fX6_ahead_j30
      simp (maxSteps := 3000000) (disch := first | assumption | omega | (simp (disch := omega) only [okx_iv', nx_iv, iv_add, L0, L1, L2, L3, L7, L8, L14, L21, L28, L35, L55, L56, *]; try omega)) only [↓pm_0, ↓gm_29, ↓gm_30, ↓bvm, ↓gvm, ↓ld_aRow, L0, L1, L2, L20, iv_add, no_def, nx_iv, okx_iv', iv_le, iv_lt, iv_eq, iv_no, no_iv, Nat.not_lt_zero, Nat.le_refl, vu_same, vu_ne, vu_up, ↓reduceIte, Nat.reduceEqDiff, Nat.reduceLeDiff, Nat.reduceLT, Nat.one_ne_zero, Nat.zero_ne_one, if_true, if_false, in_eq, has_eq, vow_eq, e0, ↓gbn (s_bad0L (vu_same _ _ _)), ↓gbn (s_bad0 (vu_same _ _ _)), ↓gbn (s_bad11L (vu_same _ _ _)), ↓gbn (s_bad1 (k := 1) (r := 1) (vu_same _ _ _) (by decide) (by decide))]
    exact qI_no (k := 1) (by decide) ((w_no zis0 hC).trans rfl) zis3 hM (vu_same _ _ _) (bad11 I)
  rcases rng q 2 (by decide) with ⟨w, hk1, rfl⟩ | e1
  rotate_left
  · have hC : fX1_ahead (some (aV c)) (iv k) q (zS c td lw rw bf kp st ln rd rl rn ms sc mc fa pm xl pc rt ra ch ow ou B) = some (.inr (31, B.2.1), (zS c td lw rw bf kp st ln rd rl rn ms sc (va_up mc 1 (va_up (mc 1) 1 (mc 1 1 + iv 1))) fa pm xl pc rt ra ch ow ou (bX 31 B))) := by
      unfold fX1_ahead fX1_ahead_j24 fX1_ahead_j25
      simp (maxSteps := 3000000) (disch := first | assumption | omega | (simp (disch := omega) only [okx_iv', nx_iv, iv_add, L0, L1, L2, L3, L7, L8, L14, L21, L28, L35, L55, L56, *]; try omega)) only [↓gv_6, ↓gv_5, ↓bvv, ↓gvv, ↓tvv, ↓bvc, ↓gvc, L0, L1, L2, L20, iv_add, no_def, nx_iv, okx_iv', iv_le, iv_lt, iv_eq, iv_no, no_iv, Nat.not_lt_zero, Nat.le_refl, vu_same, vu_ne, vu_up, ↓reduceIte, Nat.reduceEqDiff, Nat.reduceLeDiff, Nat.reduceLT, Nat.one_ne_zero, Nat.zero_ne_one, if_true, if_false, rng1 hk0 (by decide), ↓gtn (c_need1e (show fX1_isIn _ (0 : Int32) (20 : Int32) = iv 1 from rng1 hk0 (by decide))), e1, ↓gtx (c_need0e hB.1 (hB.rm hn (by decide) (by decide)) (show fX1_isIn q (0 : Int32) (2 : Int32) = iv 0 from e1)), or_true, ↓tvv, ↓gtn c_need1, ↓gtx (c_need0 hB.1 (hB.rm hn (by decide) (by decide)))]
    have hM : fX6_ahead (some (aM c)) (iv k) q (zS c td lw rw bf kp st ln rd rl rn ms sc (va_up mc 1 (va_up (mc 1) 1 (mc 1 1 + iv 1))) fa pm xl pc rt ra ch ow ou (bX 31 B)) = some (iv 0, (zS c td lw rw bf kp st ln rd rl rn (va_up ms 1 (va_up (ms 1) 1 (ms 1 1 + iv 1))) sc (va_up mc 1 (va_up (mc 1) 1 (mc 1 1 + iv 1))) fa (va_up pm 0 (iv 1)) xl pc rt ra ch ow ou (bX 31 B))) := by
      unfold fX6_ahead fX6_ahead_j25 fX6_ahead_j30
      simp (maxSteps := 3000000) (disch := first | assumption | omega | (simp (disch := omega) only [okx_iv', nx_iv, iv_add, L0, L1, L2, L3, L7, L8, L14, L21, L28, L35, L55, L56, *]; try omega)) only [↓pm_0, ↓gm_29, ↓gm_30, ↓bvm, ↓gvm, ↓ld_aRow, L0, L1, L2, L20, iv_add, no_def, nx_iv, okx_iv', iv_le, iv_lt, iv_eq, iv_no, no_iv, Nat.not_lt_zero, Nat.le_refl, vu_same, vu_ne, vu_up, ↓reduceIte, Nat.reduceEqDiff, Nat.reduceLeDiff, Nat.reduceLT, Nat.one_ne_zero, Nat.zero_ne_one, if_true, if_false, in_eq, has_eq, vow_eq, rng1 hk0 (by decide), e1, ↓gbn (s_bad0L (vu_same _ _ _)), ↓gbn (s_bad0 (vu_same _ _ _)), ↓gbn (s_bad11L (vu_same _ _ _)), ↓gbn (s_bad1 (k := 1) (r := 1) (vu_same _ _ _) (by decide) (by decide))]
    exact qI_no (k := 1) (by decide) ((w_no zis0 hC).trans rfl) zis3 hM (vu_same _ _ _) (bad11 I)
  have hw8 : w = 0 ∨ w = 1 ∨ w = 2 := by omega
  have hx := @isC18 ow
  have hx2 := @isC12 ow
  obtain ⟨g1, g2⟩ := c_probe (c := c) (td := td) (lw := lw) (rw := rw) (bf := bf) (kp := kp) (st := st) (ln := ln) (rd := rd) (rl := rl) (rn := rn) (ms := ms) (sc := sc) (mc := mc) (fa := fa) (pm := pm) (xl := xl) (pc := pc) (rt := rt) (ra := ra) (ch := ch) (ow := ow) (ou := ou) (B := B) hT.2.1 hR
  obtain ⟨fa1, b1, f1, g3, g4⟩ := c_ahead_run (w := iv w) (c := c) (td := td) (lw := lw) (rw := rw) (bf := bf) (kp := kp) (st := st) (ln := ln) (rd := rd) (rl := rl) (rn := rn) (ms := ms) (sc := sc) (mc := mc) (fa := fa) (pm := pm) (xl := xl) (pc := pc) (rt := rt) (ra := ra) (ch := va_up ch 18 (bCp (ch 12) (ch 18))) (ow := ow) (ou := ou) (B := B) hT.2.1 hl3 (m := k) hk0 k 0 gFU (mCpy (rw 0) (rw 1)) (by rw [vu_same]; exact g2) (by omega) (by omega)
  rw [vu_up] at g4
  obtain ⟨R, hRR⟩ : ∃ R, R = mHys td F nS nN k 0 (mCpy (rw 0) (rw 1)) := ⟨_, rfl⟩
  rw [← hRR] at g3
  obtain ⟨V, hV⟩ : ∃ V, V = vAh nS (rw 0) R w (foldN (fun s z => z ||| (if R s = iv 0 then mBit s else iv 0)) nS 0 (iv 0)) := ⟨_, rfl⟩
  obtain ⟨sc1, y1, f2, g5⟩ := s_ahead_run (w := iv w) (c := c) (td := td) (lw := lw) (rw := va_up rw 1 (mCpy (rw 0) (rw 1))) (bf := bf) (kp := kp) (st := st) (ln := ln) (rd := rd) (rl := rl) (rn := rn) (ms := ms) (sc := sc) (mc := mc) (fa := fa1) (pm := va_up pm 0 (iv 0)) (xl := xl) (pc := pc) (rt := rt) (ra := ra) (ch := va_up ch 18 b1) (ow := ow) (ou := va_up ou 0 V.toInt64) (B := B) hl1 hT.1 (m := k) hk0 k 0 gFU ((vu_ne (by decide)).trans hl2) (by omega) (by omega)
  rw [vu_same, vu_up, ← hRR] at g5
  have g6 := @c_sumL c td lw rw bf kp st ln rd rl rn ms sc mc fa1 pm xl pc rt ra (va_up ch 18 b1) ow ou B nS nN nL 18 sgA ntA lkA R hT.2.1 isC18 (by rw [vu_same]; exact g3)
  have hC : fX1_ahead (some (aV c)) (iv k) (iv w) (zS c td lw rw bf kp st ln rd rl rn ms sc mc fa pm xl pc rt ra ch ow ou B) = some (.inl (V), (zS c td lw rw bf kp st ln rd rl rn ms sc mc (fa1) pm xl pc rt ra (va_up ch 18 b1) ow ou B)) := by
    rw [hV]
    rcases hw8 with rfl | rfl | rfl
    all_goals unfold fX1_ahead fX1_ahead_j25
    all_goals simp (maxSteps := 3000000) (disch := first | assumption | omega | (simp (disch := omega) only [okx_iv', nx_iv, iv_add, L0, L1, L2, L3, L7, L8, L14, L21, L28, L35, L55, L56, *]; try omega)) only [↓gv_6, ↓gv_5, ↓bvv, ↓gvv, ↓tvv, ↓bvc, ↓gvc, L0, L1, L2, L20, iv_add, no_def, nx_iv, okx_iv', iv_le, iv_lt, iv_eq, iv_no, no_iv, Nat.not_lt_zero, Nat.le_refl, vu_same, vu_ne, vu_up, ↓reduceIte, Nat.reduceEqDiff, Nat.reduceLeDiff, Nat.reduceLT, Nat.one_ne_zero, Nat.zero_ne_one, if_true, if_false, rng1 hk0 (by decide), ↓gtn (c_need1e (show fX1_isIn _ (0 : Int32) (20 : Int32) = iv 1 from rng1 hk0 (by decide))), rng1 hk1 (by decide), ↓gtn (c_need1e (show fX1_isIn _ (0 : Int32) (2 : Int32) = iv 1 from rng1 hk1 (by decide))), ↓tvv, ↓gtn c_need1, Nat.zero_add, ↓gbn g1]
    all_goals (refine Eq.trans g4 ?_)
    all_goals simp (maxSteps := 3000000) (disch := first | assumption | omega | (simp (disch := omega) only [okx_iv', nx_iv, iv_add, L0, L1, L2, L3, L7, L8, L14, L21, L28, L35, L55, L56, *]; try omega)) only [fX1_ahead_l43, fX1_ahead_i43, ↓gh_6, ↓gv_5, ↓gh_0, ↓bvc, ↓gvc, ↓ld_aCA0, L0, L1, L2, iv_add, no_def, nx_iv, okx_iv', iv_le, iv_lt, iv_eq, iv_no, no_iv, Nat.not_lt_zero, Nat.le_refl, vu_same, vu_ne, vu_up, ↓reduceIte, Nat.reduceEqDiff, Nat.reduceLeDiff, Nat.reduceLT, Nat.one_ne_zero, Nat.zero_ne_one, if_true, if_false, vAh, hR.2.2.2.1, g3.2.2.2.1, ↓bnd g6]
    exact q_ahead_l hT.2.1 isC18 (by rw [vu_same]; exact g3) nS 0 gFU _ (by omega) (by omega)
  have hM : fX6_ahead (some (aM c)) (iv k) (iv w) (zS c td lw rw bf kp st ln rd rl rn ms sc mc (fa1) pm xl pc rt ra (va_up ch 18 b1) ow (va_up ou 0 (V).toInt64) B) = some (V, (zS c td lw (va_up rw 1 R) bf kp st ln rd rl rn ms (sc1) mc (fa1) (va_up (va_up pm 0 (iv 0)) 38 y1) xl pc rt ra (va_up ch 18 b1) ow (va_up ou 0 (V).toInt64) B)) := by
    unfold fX6_ahead fX6_ahead_j30
    simp (maxSteps := 3000000) (disch := first | assumption | omega | (simp (disch := omega) only [okx_iv', nx_iv, iv_add, L0, L1, L2, L3, L7, L8, L14, L21, L28, L35, L55, L56, *]; try omega)) only [↓pm_0, ↓gm_29, ↓gm_30, ↓bvm, ↓gvm, ↓ld_aRow, L0, L1, L2, L20, iv_add, no_def, nx_iv, okx_iv', iv_le, iv_lt, iv_eq, iv_no, no_iv, Nat.not_lt_zero, Nat.le_refl, vu_same, vu_ne, vu_up, ↓reduceIte, Nat.reduceEqDiff, Nat.reduceLeDiff, Nat.reduceLT, Nat.one_ne_zero, Nat.zero_ne_one, if_true, if_false, in_eq, has_eq, vow_eq, rng1 hk0 (by decide), rng1 hk1 (by decide), Nat.zero_add, ↓gbn (s_bad0L (vu_same _ _ _)), ↓gbn (s_bad0 (vu_same _ _ _)), ↓gbn s_copies]
    refine Eq.trans g5 ?_
    simp (maxSteps := 3000000) (disch := first | assumption | omega | (simp (disch := omega) only [okx_iv', nx_iv, iv_add, L0, L1, L2, L3, L7, L8, L14, L21, L28, L35, L55, L56, *]; try omega)) only [fX6_ahead_l53, fX6_ahead_i53, L0, iv_add, no_def, nx_iv, okx_iv', iv_le, iv_lt, iv_eq, iv_no, no_iv, Nat.not_lt_zero, Nat.le_refl, vu_same, vu_ne, vu_up, ↓reduceIte, Nat.reduceEqDiff, Nat.reduceLeDiff, Nat.reduceLT, Nat.one_ne_zero, Nat.zero_ne_one, if_true, if_false]
    refine Eq.trans (r_ahead_l hT.1 hw8 nS 0 gFU (iv 0) (by omega) (by omega)) ?_
    rw [hV, vu_same, vu_ne (by decide)]
  exact qI_ok (w_ok zis0 hC) zis3 hM (by simp (disch := omega) only [vu_same, vu_ne]) (vu_same _ _ _) (inv_q I (by first | rfl | simp (disch := omega) only [vu_ne]) (fun k hk => by first | rfl | simp (disch := omega) only [vu_ne]) (by first | rfl | simp (disch := omega) only [vu_ne]) (fun k hk => by first | rfl | simp (disch := omega) only [vu_ne]) (by first | exact ⟨hN.2.2.2.2.2.2.1, hN.2.2.2.2.2.2.2⟩ | (simp (disch := omega) only [vu_same, vu_ne, hN.2.2.2.2.2.2.1, hN.2.2.2.2.2.2.2, and_self])) (fun k hk => by first | rfl | simp (disch := omega) only [vu_ne]) (fun x hx => by first | rfl | simp (disch := omega) only [vu_ne]) (by first | exact Or.inl rfl | exact Or.inr ⟨_, rfl⟩))
end s36
