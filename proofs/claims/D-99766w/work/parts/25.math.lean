set_option maxRecDepth 100000
/-! ===== MATH: a choir as a row, a law as a function ===== -/
def foldN {α : Type} (g : Nat → α → α) : Nat → Nat → α → α
  | 0, _, x => x
  | k + 1, s, x => foldN g k (s + 1) (g s x)
theorem foldN_snoc {α : Type} (g : Nat → α → α) : ∀ (k s : Nat) (x : α), foldN g (k + 1) s x = g (s + k) (foldN g k s x) := by
  intro k
  induction k with
  | zero => intro s x; rfl
  | succ k ih => intro s x; show foldN g (k + 1) (s + 1) (g s x) = _; rw [ih]; show g (s + 1 + k) (foldN g (k + 1) s x) = _; rw [show s + 1 + k = s + (k + 1) by omega]
theorem foldN_inv {α : Type} {g : Nat → α → α} (I : Nat → α → Prop) : ∀ (k s : Nat) (x : α), I s x → (∀ i y, s ≤ i → i < s + k → I i y → I (i + 1) (g i y)) → I (s + k) (foldN g k s x) := by
  intro k
  induction k with
  | zero => intro s x h _; exact h
  | succ k ih =>
    intro s x h hs
    have h1 := ih (s + 1) (g s x) (hs s x (Nat.le_refl _) (by omega) h) (fun i y h1 h2 h3 => hs i y (by omega) (by omega) h3)
    rw [show s + (k + 1) = s + 1 + k by omega]
    exact h1
def mBit (n : Nat) : Int32 := iv 1 <<< (iv n &&& iv 31)
def kx (a b c d e f g h : Int32) : Nat → Int32 := fun k => match k with
  | 0 => a
  | 1 => b
  | 2 => c
  | 3 => d
  | 4 => e
  | 5 => f
  | 6 => g
  | _ => h
def mCl (x : Int32) : Int32 := fX6_less (iv 30) (fX6_more (iv 0) x)
def mBy (o u v : Int32) : Int32 := if o = iv 2 then u + v else if o = iv 3 then u - v else if o = iv 4 then u * v else if o = iv 5 then (if v = iv 0 then iv 0 else if v = NO then -u else u / v) else if o = iv 6 then (if v = iv 0 then iv 0 else if v = NO then iv 0 else u - u / v * v) else if o = iv 7 then fX6_less u v else fX6_more u v
def det8 (F : (Nat → Int32) → Int32) : Prop := ∀ f g, (∀ k, k < 8 → f k = g k) → F f = F g
section s25a
variable (td : Nat → Nat → Int32) (F : (Nat → Int32) → Int32) (nS nN : Nat) (ρ : Nat → Int32)
/-- what breath it takes the singer s to sing the note n -/
def mTk (n s : Nat) : Int32 := mCl (F (kx (td (8 + n) 1) (td (1 + s) 1) (ρ s) (ρ (14 + s)) (iv n) (ρ (35 + n)) (ρ 56) (iv s)))
def mCan (n s : Nat) : Prop := td (1 + s) 0 = ρ (35 + n) ∧ ρ (7 + s) = iv 0 ∧ ¬ ρ s < mTk td F ρ n s
noncomputable def mSb (n : Nat) : Nat → Nat → Option Nat
  | 0, _ => none
  | k + 1, s => @ite _ (mCan td F ρ n s) (Classical.propDecidable _) (some s) (mSb n k (s + 1))
def mOpt (o : Option Nat) : Int32 := match o with
  | none => NO
  | some s => iv s
noncomputable def mSings (n : Nat) : Nat → Int32 := match mSb td F ρ n nS 0 with
  | none => ρ
  | some s => va_up (va_up (va_up ρ s (ρ s - mTk td F ρ n s)) (14 + s) (ρ (14 + s) + iv 1)) (28 + s) (ρ (28 + s) + iv 1)
noncomputable def mHstep (n : Nat) (q : (Nat → Int32) × Int32) : (Nat → Int32) × Int32 := match mSb td F q.1 n nS 0 with
  | none => (va_up q.1 55 (q.1 55 + iv 1), q.2)
  | some _ => (mSings td F nS q.1 n, q.2 ||| mBit n)
/-- the hymn: the row behind it, the notes that were heard -/
noncomputable def mHymn : (Nat → Int32) × Int32 := foldN (mHstep td F nS) nN 0 (ρ, iv 0)
def mLess (a b : Int32) : Int32 := fX6_less a b
def mRstep (s : Nat) (q : (Nat → Int32) × Int32) : (Nat → Int32) × Int32 := (va_up q.1 s (fX6_less (td (1 + s) 2) (q.1 s + td 0 3)), q.2 ||| (if td (1 + s) 2 ≤ q.1 s then iv 0 else iv 1))
def mRests : (Nat → Int32) × Int32 := foldN (mRstep td) nS 0 (ρ, iv 0)
def mBrth : Nat → Int32 := foldN (fun s r => va_up r s (td (1 + s) 2)) nS 0 ρ
def mDstep (s : Nat) (r : Nat → Int32) : Nat → Int32 := va_up (va_up r (21 + s) (if r (28 + s) = iv 0 then r (21 + s) else fX6_less (iv 9999) (r (21 + s) + td (1 + s) 1))) (28 + s) (iv 0)
def mDay : Nat → Int32 := (fun r => va_up r 56 (r 56 + iv 1)) (foldN (mDstep td) nS 0 (mBrth td nS ρ))
def mWds (nL n : Nat) : Int32 := foldN (fun k x => x ||| (if td (28 + k) 0 = iv n then iv 1 <<< (td (28 + k) 1 &&& iv 31) else iv 0)) nL 0 (iv 1 <<< (td (8 + n) 0 &&& iv 31))
def mAll (d : Nat) : Int32 := foldN (fun s x => x + ρ (d + s)) nS 0 (iv 0)
def mHrs : Int32 := foldN (fun s x => x ||| (ρ (7 + s) <<< (iv s &&& iv 31))) nS 0 (iv 0)
end s25a
/-- what is told, as counts -/
def tOK (td : Nat → Nat → Int32) (nS nN nL : Nat) : Prop := td 0 0 = iv nS ∧ td 0 1 = iv nN ∧ td 0 2 = iv nL ∧ nS ≤ 7 ∧ nN ≤ 20 ∧ nL ≤ 12
section s25b
variable {c : Nat} {td : Nat → Nat → Int32} {lw : Nat → Nat → Int32} {rw : Nat → Nat → Int32} {bf : Nat → Nat → Int32} {kp : Nat → Nat → Int32} {st : Nat → Nat → Int32} {ln : Nat → Nat → Int32} {rd : Nat → Nat → Int32} {rl : Nat → Nat → Int32} {rn : Nat → Nat → Int32} {ms : Nat → Nat → Int32} {sc : Nat → Nat → Int32} {mc : Nat → Nat → Int32} {fa : Nat → Int32} {pm : Nat → Int32} {xl : Nat → Int64} {pc : Nat → Int32} {rt : Nat → Option Nat} {ra : Nat → Nat → Option Nat} {ch : Nat → (Nat → Nat → Int32) × (Nat → Int32)} {ow : Nat → Option (Nat × Nat)} {ou : Nat → Int64} {B : gS}
/-- the codes of g from i to j compute F: run from i on a stack of n they end at j with F's value on it -/
def seg (g : Nat → Nat → Int32) (i j : Nat) (F : (Nat → Int32) → Int32) : Prop := i < j ∧ det8 F ∧ ∀ (c : Nat) (td lw rw bf kp st ln rd rl rn ms sc mc : Nat → Nat → Int32) (fa pm : Nat → Int32) (xl : Nat → Int64) (pc : Nat → Int32) (rt : Nat → Option Nat) (ra : Nat → Nat → Option Nat) (ch : Nat → (Nat → Nat → Int32) × (Nat → Int32)) (ow : Nat → Option (Nat × Nat)) (ou : Nat → Int64) (B : gS) (m n fuel : Nat), (∀ k, i ≤ k → k < j → ∀ e, e < 2 → lw k e = g k e) → pm 19 = iv m → j ≤ m → m ≤ 160 → n + (j - i) ≤ 160 → ∃ sc', fX6_byLaw_l16 (fuel + (j - i)) (some (aM c)) (iv n) (iv i) (zS c td lw rw bf kp st ln rd rl rn ms sc mc fa pm xl pc rt ra ch ow ou B) = fX6_byLaw_l16 fuel (some (aM c)) (iv (n + 1)) (iv j) (zS c td lw rw bf kp st ln rd rl rn ms (sc') mc fa pm xl pc rt ra ch ow ou B) ∧ sc' 0 n = F (sc 1) ∧ (∀ q, q < n → sc' 0 q = sc 0 q) ∧ sc' 1 = sc 1
/-- the law that stands: k codes of lw -/
def lOK (lw : Nat → Nat → Int32) (k : Nat) (F : (Nat → Int32) → Int32) : Prop := k ≤ 160 ∧ ((k = 0 ∧ F = fun kn => kn 0) ∨ seg lw 0 k F)
theorem lOK.det {k : Nat} {F : (Nat → Int32) → Int32} (h : lOK lw k F) : det8 F := by
  rcases h.2 with ⟨-, rfl⟩ | h
  · exact fun f g h => h 0 (by omega)
  · exact h.2.1
theorem s_byLaw {k : Nat} {F : (Nat → Int32) → Int32} (h : lOK lw k F) (hm : pm 19 = iv k) : ∃ sc', fX6_byLaw (some (aM c)) (zS c td lw rw bf kp st ln rd rl rn ms sc mc fa pm xl pc rt ra ch ow ou B) = some (mCl (F (sc 1)), (zS c td lw rw bf kp st ln rd rl rn ms (sc') mc fa pm xl pc rt ra ch ow ou B)) ∧ sc' 1 = sc 1 := by
  have hk := h.1
  have h1 : ∀ (sc : Nat → Nat → Int32) (n fuel : Nat), fX6_byLaw_l16 (fuel + 1) (some (aM c)) (iv n) (iv k) (zS c td lw rw bf kp st ln rd rl rn ms sc mc fa pm xl pc rt ra ch ow ou B) = some (mCl (sc 0 0), (zS c td lw rw bf kp st ln rd rl rn ms sc mc fa pm xl pc rt ra ch ow ou B)) := by
    intro sc n fuel
    simp (disch := first | assumption | omega | (simp (disch := omega) only [okx_iv', nx_iv, iv_add, L0, L1, L2, L3, L7, L8, L14, L21, L28, L35, L55, L56, *]; try omega)) only [fX6_byLaw_l16, fX6_byLaw_i16, ↓gm_19, ↓gm_25, ↓gm_21, ↓gm_26, ↓ld_aSt, ↓st_aSt, ↓ld_aLws, ↓ld_aLw, ↓st_aLw, ↓ld_aKn, ↓st_aKn, L0, L1, L2, L30, iv_add, no_def, nx_iv, okx_iv', iv_le, iv_lt, iv_eq, iv_no, no_iv, vu_same, vu_ne, vu_up, ↓reduceIte, hm, Nat.le_refl]
    rfl
  have hg : gFU = (gFU - k - 1) + 1 + k := by unfold gFU; omega
  unfold fX6_byLaw
  rcases h.2 with ⟨rfl, rfl⟩ | h2
  · refine ⟨va_up sc 0 (va_up (sc 0) 0 (sc 1 0)), ?_, rfl⟩
    rw [hg]
    simp (disch := first | assumption | omega | (simp (disch := omega) only [okx_iv', nx_iv, iv_add, L0, L1, L2, L3, L7, L8, L14, L21, L28, L35, L55, L56, *]; try omega)) only [↓gm_25, ↓gm_26, ↓ld_aSt, ↓st_aSt, ↓ld_aKn, ↓st_aKn, L0, iv_add, no_def, nx_iv, okx_iv', iv_le, iv_lt, iv_eq, iv_no, no_iv, vu_same, vu_ne, vu_up, ↓reduceIte, h1, Nat.add_zero]
  · obtain ⟨sc', h3, h4, -, h6⟩ := h2.2.2 c td lw rw bf kp st ln rd rl rn ms (va_up sc 0 (va_up (sc 0) 0 (sc 1 0))) mc fa pm xl pc rt ra ch ow ou B k 0 (gFU - k - 1 + 1) (fun _ _ _ _ _ => rfl) hm (Nat.le_refl _) hk (by omega)
    refine ⟨sc', ?_, h6⟩
    rw [hg]
    simp (disch := first | assumption | omega | (simp (disch := omega) only [okx_iv', nx_iv, iv_add, L0, L1, L2, L3, L7, L8, L14, L21, L28, L35, L55, L56, *]; try omega)) only [↓gm_25, ↓gm_26, ↓ld_aSt, ↓st_aSt, ↓ld_aKn, ↓st_aKn, L0, iv_add, no_def, nx_iv, okx_iv', iv_le, iv_lt, iv_eq, iv_no, no_iv, vu_same, vu_ne, vu_up, ↓reduceIte]
    refine Eq.trans h3 ?_
    rw [h1, h4]
    rfl
theorem s_breathBy {k : Nat} {F : (Nat → Int32) → Int32} (h : lOK lw k F) (hm : pm 19 = iv k) (a1 a2 a3 a4 a5 a6 a7 a8 : Int32) : ∃ sc', fX6_breathBy (some (aM c)) a1 a2 a3 a4 a5 a6 a7 a8 (zS c td lw rw bf kp st ln rd rl rn ms sc mc fa pm xl pc rt ra ch ow ou B) = some (mCl (F (kx a1 a2 a3 a4 a5 a6 a7 a8)), (zS c td lw rw bf kp st ln rd rl rn ms (sc') mc fa pm xl pc rt ra ch ow ou B)) := by
  unfold fX6_breathBy
  simp (disch := first | assumption | omega | (simp (disch := omega) only [okx_iv', nx_iv, iv_add, L0, L1, L2, L3, L7, L8, L14, L21, L28, L35, L55, L56, *]; try omega)) only [↓gm_26, ↓bvm, ↓gvm, ↓ld_aKn, ↓st_aKn, L0, L1, L2, L3, L4, L5, L6, L7, iv_add, no_def, nx_iv, okx_iv', iv_le, iv_lt, iv_eq, iv_no, no_iv, vu_same, vu_ne, vu_up, ↓reduceIte]
  obtain ⟨sc', h1, -⟩ := s_byLaw (c := c) (td := td) (lw := lw) (rw := rw) (bf := bf) (kp := kp) (st := st) (ln := ln) (rd := rd) (rl := rl) (rn := rn) (ms := ms) (sc := va_up sc 1 (va_up (va_up (va_up (va_up (va_up (va_up (va_up (va_up (sc 1) 0 a1) 1 a2) 2 a3) 3 a4) 4 a5) 5 a6) 6 a7) 7 a8)) (mc := mc) (fa := fa) (pm := pm) (xl := xl) (pc := pc) (rt := rt) (ra := ra) (ch := ch) (ow := ow) (ou := ou) (B := B) h hm
  refine ⟨sc', ?_⟩
  rw [h1]
  refine congrArg (fun x => some (mCl x, _)) (h.det _ _ (fun j hj => ?_))
  rw [vu_same]
  match j, hj with
  | 0, _ => rfl
  | 1, _ => rfl
  | 2, _ => rfl
  | 3, _ => rfl
  | 4, _ => rfl
  | 5, _ => rfl
  | 6, _ => rfl
  | 7, _ => rfl
theorem s_breathOf {k nS nN nL : Nat} {F : (Nat → Int32) → Int32} (h : lOK lw k F) (hm : pm 19 = iv k) (ht : tOK td nS nN nL) {b n s : Nat} (hb : b < 2) (hn : n < nN) (hs : s < nS) : ∃ sc', fX6_breathOf (some (aM c)) (some (aRow c b)) (iv n) (iv s) (zS c td lw rw bf kp st ln rd rl rn ms sc mc fa pm xl pc rt ra ch ow ou B) = some (mTk td F (rw b) n s, (zS c td lw rw bf kp st ln rd rl rn ms (sc') mc fa pm xl pc rt ra ch ow ou B)) := by
  obtain ⟨h1, h2, h3, h4, h5, h6⟩ := ht
  unfold fX6_breathOf
  simp (disch := first | assumption | omega | (simp (disch := omega) only [okx_iv', nx_iv, iv_add, L0, L1, L2, L3, L7, L8, L14, L21, L28, L35, L55, L56, *]; try omega)) only [↓gm_16, ↓gm_14, ↓bvm, ↓gvm, ↓ld_aNts, ↓ld_aNt, ↓ld_aSgs, ↓ld_aSg, ↓ld_aRow, L0, L1, L14, L35, L56, iv_add, no_def, nx_iv, okx_iv', iv_le, iv_lt, iv_eq, iv_no, no_iv, vu_same, vu_ne, vu_up, ↓reduceIte]
  obtain ⟨sc', h7⟩ := s_breathBy (c := c) (td := td) (lw := lw) (rw := rw) (bf := bf) (kp := kp) (st := st) (ln := ln) (rd := rd) (rl := rl) (rn := rn) (ms := ms) (sc := sc) (mc := mc) (fa := fa) (pm := pm) (xl := xl) (pc := pc) (rt := rt) (ra := ra) (ch := ch) (ow := ow) (ou := ou) (B := B) h hm (td (8 + n) 1) (td (1 + s) 1) (rw b s) (rw b (14 + s)) (iv n) (rw b (35 + n)) (rw b 56) (iv s)
  refine ⟨sc', ?_⟩
  simp only [Nat.zero_add]
  rw [h7]
  rfl
theorem s_sungBy_l {k nS nN nL : Nat} {F : (Nat → Int32) → Int32} (h : lOK lw k F) (hm : pm 19 = iv k) (ht : tOK td nS nN nL) {b n : Nat} (hb : b < 2) (hn : n < nN) : ∀ (j s fuel : Nat) (sc : Nat → Nat → Int32), s + j = nS → j < fuel → ∃ sc', fX6_sungBy_l2 fuel (some (aM c)) (some (aRow c b)) (iv n) (iv s) (zS c td lw rw bf kp st ln rd rl rn ms sc mc fa pm xl pc rt ra ch ow ou B) = some (mOpt (mSb td F (rw b) n j s), (zS c td lw rw bf kp st ln rd rl rn ms (sc') mc fa pm xl pc rt ra ch ow ou B)) := by
  intro j
  have ht' := ht
  obtain ⟨h1, h2, h3, h4, h5, h6⟩ := ht
  induction j with
  | zero =>
    intro s fuel sc hs hf
    obtain ⟨f, rfl⟩ : ∃ f, fuel = f + 1 := ⟨fuel - 1, by omega⟩
    have hc : nS ≤ s := by omega
    refine ⟨sc, ?_⟩
    simp (disch := first | assumption | omega | (simp (disch := omega) only [okx_iv', nx_iv, iv_add, L0, L1, L2, L3, L7, L8, L14, L21, L28, L35, L55, L56, *]; try omega)) only [fX6_sungBy_l2, fX6_sungBy_i2, ↓gm_12, ↓gm_14, ↓bvm, ↓gvm, ↓ld_aTo, ↓ld_aSgs, ↓ld_aSg, ↓ld_aRow, L0, L1, L7, L35, iv_add, no_def, nx_iv, okx_iv', iv_le, iv_lt, iv_eq, iv_no, no_iv, vu_same, vu_ne, vu_up, ↓reduceIte, h1, hc, mSb, mOpt]
  | succ j ih =>
    intro s fuel sc hs hf
    obtain ⟨f, rfl⟩ : ∃ f, fuel = f + 1 := ⟨fuel - 1, by omega⟩
    have hc : ¬ nS ≤ s := by omega
    simp (disch := first | assumption | omega | (simp (disch := omega) only [okx_iv', nx_iv, iv_add, L0, L1, L2, L3, L7, L8, L14, L21, L28, L35, L55, L56, *]; try omega)) only [fX6_sungBy_l2, fX6_sungBy_i2, ↓gm_12, ↓gm_14, ↓bvm, ↓gvm, ↓ld_aTo, ↓ld_aSgs, ↓ld_aSg, ↓ld_aRow, L0, L1, L7, L35, iv_add, no_def, nx_iv, okx_iv', iv_le, iv_lt, iv_eq, iv_no, no_iv, vu_same, vu_ne, vu_up, ↓reduceIte, h1, hc]
    have key : ∀ sc, ∃ sc', fX6_sungBy_l2 f (some (aM c)) (some (aRow c b)) (iv n) (iv (s + 1)) (zS c td lw rw bf kp st ln rd rl rn ms sc mc fa pm xl pc rt ra ch ow ou B) = some (mOpt (mSb td F (rw b) n j (s + 1)), (zS c td lw rw bf kp st ln rd rl rn ms (sc') mc fa pm xl pc rt ra ch ow ou B)) := fun sc => ih (s + 1) f sc (by omega) (by omega)
    unfold mSb
    by_cases c1 : td (1 + s) 0 = rw b (35 + n)
    · by_cases c2 : rw b (7 + s) = iv 0
      · obtain ⟨sc1, h7⟩ := s_breathOf (c := c) (td := td) (lw := lw) (rw := rw) (bf := bf) (kp := kp) (st := st) (ln := ln) (rd := rd) (rl := rl) (rn := rn) (ms := ms) (sc := sc) (mc := mc) (fa := fa) (pm := pm) (xl := xl) (pc := pc) (rt := rt) (ra := ra) (ch := ch) (ow := ow) (ou := ou) (B := B) h hm ht' hb hn (s := s) (by omega)
        by_cases c3 : rw b s < mTk td F (rw b) n s
        · obtain ⟨sc2, h8⟩ := key sc1
          refine ⟨sc2, ?_⟩
          rw [if_neg (show ¬ mCan td F (rw b) n s from fun hcan => hcan.2.2 c3), ← h8]
          simp (disch := first | assumption | omega | (simp (disch := omega) only [okx_iv', nx_iv, iv_add, L0, L1, L2, L3, L7, L8, L14, L21, L28, L35, L55, L56, *]; try omega)) only [c1, c2, if_true, ↓gbn h7, ↓gm_12, ↓gm_14, ↓bvm, ↓gvm, ↓ld_aTo, ↓ld_aSgs, ↓ld_aSg, ↓ld_aRow, L0, L1, L7, L35, iv_add, no_def, nx_iv, okx_iv', iv_le, iv_lt, iv_eq, iv_no, no_iv, vu_same, vu_ne, vu_up, ↓reduceIte, Nat.zero_add, c3]
        · refine ⟨sc1, ?_⟩
          rw [if_pos (show mCan td F (rw b) n s from ⟨c1, c2, c3⟩)]
          simp (disch := first | assumption | omega | (simp (disch := omega) only [okx_iv', nx_iv, iv_add, L0, L1, L2, L3, L7, L8, L14, L21, L28, L35, L55, L56, *]; try omega)) only [c1, c2, if_true, ↓gbn h7, ↓gm_12, ↓gm_14, ↓bvm, ↓gvm, ↓ld_aTo, ↓ld_aSgs, ↓ld_aSg, ↓ld_aRow, L0, L1, L7, L35, iv_add, no_def, nx_iv, okx_iv', iv_le, iv_lt, iv_eq, iv_no, no_iv, vu_same, vu_ne, vu_up, ↓reduceIte, Nat.zero_add, c3, mOpt]
      · obtain ⟨sc2, h8⟩ := key sc
        refine ⟨sc2, ?_⟩
        rw [if_neg (show ¬ mCan td F (rw b) n s from fun hcan => c2 hcan.2.1), ← h8]
        simp only [c1, c2, if_true, if_false]
    · obtain ⟨sc2, h8⟩ := key sc
      refine ⟨sc2, ?_⟩
      rw [if_neg (show ¬ mCan td F (rw b) n s from fun hcan => c1 hcan.1), ← h8]
      simp only [c1, if_false]
end s25b
