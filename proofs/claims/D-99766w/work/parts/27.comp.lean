-- NAME 27.comp
set_option maxRecDepth 100000
section s27
variable {c : Nat} {td : Nat → Nat → Int32} {lw : Nat → Nat → Int32} {rw : Nat → Nat → Int32} {bf : Nat → Nat → Int32} {kp : Nat → Nat → Int32} {st : Nat → Nat → Int32} {ln : Nat → Nat → Int32} {rd : Nat → Nat → Int32} {rl : Nat → Nat → Int32} {rn : Nat → Nat → Int32} {ms : Nat → Nat → Int32} {sc : Nat → Nat → Int32} {mc : Nat → Nat → Int32} {fa : Nat → Int32} {pm : Nat → Int32} {xl : Nat → Int64} {pc : Nat → Int32} {rt : Nat → Option Nat} {ra : Nat → Nat → Option Nat} {ch : Nat → (Nat → Nat → Int32) × (Nat → Int32)} {ow : Nat → Option (Nat × Nat)} {ou : Nat → Int64} {B : gS}
variable {tq : Nat → Nat → Int32}
/-- a list of n elements, each as E says -/
def lsO (V : Nat → Option gE) (l n : Nat) (E : Nat → Nat) : Prop := ∃ (b b' : Bool) (md : Int32) (e cap : Nat) (f : Nat → Option Nat), V l = some (b, .inl (28, [.int md, .ref e, .int (iv n)])) ∧ V e = some (b', .inr (3, cap, .inr (.inr (.inr (.inr f))))) ∧ n ≤ cap ∧ n < 1000 ∧ ∀ s, s < n → f s = some (E s)
/-- what is told, as the component holds it -/
def tO (V : Nat → Option gE) (rt : Nat → Option Nat) (td : Nat → Nat → Int32) (nS nN nL : Nat) (sgA ntA lkA : Nat → Nat) : Prop := nS ≤ 7 ∧ nN ≤ 20 ∧ nL ≤ 12 ∧ (∃ (t l1 l2 l3 : Nat) (b : Bool) (cl : Int32), rt 0 = some t ∧ V t = some (b, .inl (1, [.ref l1, .ref l2, .ref l3, .int (td 0 3), .int cl])) ∧ lsO V l1 nS sgA ∧ lsO V l2 nN ntA ∧ lsO V l3 nL lkA) ∧ (∀ s, s < nS → ∃ b, V (sgA s) = some (b, .inl (6, [.int (td (1 + s) 0), .int (td (1 + s) 1), .int (td (1 + s) 2)]))) ∧ (∀ n, n < nN → ∃ b, V (ntA n) = some (b, .inl (7, [.int (td (8 + n) 0), .int (td (8 + n) 1)]))) ∧ (∀ k, k < nL → ∃ b, V (lkA k) = some (b, .inl (8, [.int (td (28 + k) 0), .int (td (28 + k) 1)])))
theorem c_size {l n : Nat} {E : Nat → Nat} (h : lsO (zV c ow B) l n E) : gV [28] (some l) (zS c td lw rw bf kp st ln rd rl rn ms sc mc fa pm xl pc rt ra ch ow ou B) (fJ2_size (some l) (zS c td lw rw bf kp st ln rd rl rn ms sc mc fa pm xl pc rt ra ch ow ou B)) = some (iv n) := by
  obtain ⟨b, b', md, e, cap, f, h1, h2, h3, h4, h5⟩ := h
  rw [d_gv h1 rfl]
  unfold fJ2_size
  rw [d_getI h1 rfl rfl]
theorem c_get {l n s : Nat} {E : Nat → Nat} (h : lsO (zV c ow B) l n E) (hs : s < n) : gV [28] (some l) (zS c td lw rw bf kp st ln rd rl rn ms sc mc fa pm xl pc rt ra ch ow ou B) (fJ2_get (some l) (iv s) (zS c td lw rw bf kp st ln rd rl rn ms sc mc fa pm xl pc rt ra ch ow ou B)) = some (some (E s)) := by
  obtain ⟨b, b', md, e, cap, f, h1, h2, h3, h4, h5⟩ := h
  rw [d_gv h1 rfl]
  unfold fJ2_get
  rw [d_getI h1 rfl rfl]
  have h6 : fJ17_checkIndex (iv s) (iv n) (zS c td lw rw bf kp st ln rd rl rn ms sc mc fa pm xl pc rt ra ch ow ou B) = some (iv s) := by
    unfold fJ17_checkIndex fJ14_checkIndex
    simp (disch := omega) only [L0, iv_lt, hs, Nat.not_lt_zero, if_true, if_false, Option.bind_some]
  rw [bnd h6, d_gv h1 rfl]
  unfold fJ2_elementData
  rw [d_getR (v := some e) h1 rfl rfl, d_ldR h2 (okx_iv (by omega) (by omega)), nx_iv (by omega), h5 s hs]
  rfl
theorem c_singers {nS nN nL : Nat} {sgA ntA lkA : Nat → Nat} (h : tO (zV c ow B) rt tq nS nN nL sgA ntA lkA) : fX1_singers (some (aV c)) (zS c td lw rw bf kp st ln rd rl rn ms sc mc fa pm xl pc rt ra ch ow ou B) = some (iv nS) := by
  obtain ⟨-, -, -, ⟨t, l1, l2, l3, b, cl, h1, h2, h3, h4, h5⟩, -⟩ := h
  unfold fX1_singers
  rw [gv_0, h1, d_getR (v := some l1) h2 rfl rfl, bnd (c_size h3)]
theorem c_notes {nS nN nL : Nat} {sgA ntA lkA : Nat → Nat} (h : tO (zV c ow B) rt tq nS nN nL sgA ntA lkA) : fX1_notes (some (aV c)) (zS c td lw rw bf kp st ln rd rl rn ms sc mc fa pm xl pc rt ra ch ow ou B) = some (iv nN) := by
  obtain ⟨-, -, -, ⟨t, l1, l2, l3, b, cl, h1, h2, h3, h4, h5⟩, -⟩ := h
  unfold fX1_notes
  rw [gv_0, h1, d_getR (v := some l2) h2 rfl rfl, bnd (c_size h4)]
theorem c_singerOf {nS nN nL s : Nat} {sgA ntA lkA : Nat → Nat} (h : tO (zV c ow B) rt tq nS nN nL sgA ntA lkA) (hs : s < nS) : fX1_singerOf (some (aV c)) (iv s) (zS c td lw rw bf kp st ln rd rl rn ms sc mc fa pm xl pc rt ra ch ow ou B) = some (some (sgA s)) := by
  obtain ⟨-, -, -, ⟨t, l1, l2, l3, b, cl, h1, h2, h3, h4, h5⟩, h6, -⟩ := h
  obtain ⟨b6, h6⟩ := h6 s hs
  unfold fX1_singerOf
  rw [gv_0, h1, d_getR (v := some l1) h2 rfl rfl, bnd (c_get h3 hs), d_is h6]
  rfl
theorem c_noteOf {nS nN nL s : Nat} {sgA ntA lkA : Nat → Nat} (h : tO (zV c ow B) rt tq nS nN nL sgA ntA lkA) (hs : s < nN) : fX1_noteOf (some (aV c)) (iv s) (zS c td lw rw bf kp st ln rd rl rn ms sc mc fa pm xl pc rt ra ch ow ou B) = some (some (ntA s)) := by
  obtain ⟨-, -, -, ⟨t, l1, l2, l3, b, cl, h1, h2, h3, h4, h5⟩, -, h6, -⟩ := h
  obtain ⟨b6, h6⟩ := h6 s hs
  unfold fX1_noteOf
  rw [gv_0, h1, d_getR (v := some l2) h2 rfl rfl, bnd (c_get h4 hs), d_is h6]
  rfl
section s27b
variable {nS nN nL : Nat} {sgA ntA lkA : Nat → Nat}
theorem b_singers (h : tO (zV c ow B) rt tq nS nN nL sgA ntA lkA) {α : Type} (f : Int32 → Option α) : (fX1_singers (some (aV c)) (zS c td lw rw bf kp st ln rd rl rn ms sc mc fa pm xl pc rt ra ch ow ou B)).bind f = f (iv nS) := bnd (c_singers h) f
theorem b_notes (h : tO (zV c ow B) rt tq nS nN nL sgA ntA lkA) {α : Type} (f : Int32 → Option α) : (fX1_notes (some (aV c)) (zS c td lw rw bf kp st ln rd rl rn ms sc mc fa pm xl pc rt ra ch ow ou B)).bind f = f (iv nN) := bnd (c_notes h) f
theorem b_singerOf (h : tO (zV c ow B) rt tq nS nN nL sgA ntA lkA) {α : Type} {s : Nat} (hs : s < nS) (f : Option Nat → Option α) : (fX1_singerOf (some (aV c)) (iv s) (zS c td lw rw bf kp st ln rd rl rn ms sc mc fa pm xl pc rt ra ch ow ou B)).bind f = f (some (sgA s)) := bnd (c_singerOf h hs) f
theorem b_noteOf (h : tO (zV c ow B) rt tq nS nN nL sgA ntA lkA) {α : Type} {s : Nat} (hs : s < nN) (f : Option Nat → Option α) : (fX1_noteOf (some (aV c)) (iv s) (zS c td lw rw bf kp st ln rd rl rn ms sc mc fa pm xl pc rt ra ch ow ou B)).bind f = f (some (ntA s)) := bnd (c_noteOf h hs) f
theorem b_sg0 (h : tO (zV c ow B) rt tq nS nN nL sgA ntA lkA) {α : Type} {s : Nat} (hs : s < nS) (f : Int32 → Option α) : (oGetI [6] 0 (some (sgA s)) (zS c td lw rw bf kp st ln rd rl rn ms sc mc fa pm xl pc rt ra ch ow ou B)).bind f = f (tq (1 + s) 0) := by
  obtain ⟨b, h1⟩ := h.2.2.2.2.1 s hs
  exact d_getI h1 rfl rfl f
theorem b_sg1 (h : tO (zV c ow B) rt tq nS nN nL sgA ntA lkA) {α : Type} {s : Nat} (hs : s < nS) (f : Int32 → Option α) : (oGetI [6] 1 (some (sgA s)) (zS c td lw rw bf kp st ln rd rl rn ms sc mc fa pm xl pc rt ra ch ow ou B)).bind f = f (tq (1 + s) 1) := by
  obtain ⟨b, h1⟩ := h.2.2.2.2.1 s hs
  exact d_getI h1 rfl rfl f
theorem b_sg2 (h : tO (zV c ow B) rt tq nS nN nL sgA ntA lkA) {α : Type} {s : Nat} (hs : s < nS) (f : Int32 → Option α) : (oGetI [6] 2 (some (sgA s)) (zS c td lw rw bf kp st ln rd rl rn ms sc mc fa pm xl pc rt ra ch ow ou B)).bind f = f (tq (1 + s) 2) := by
  obtain ⟨b, h1⟩ := h.2.2.2.2.1 s hs
  exact d_getI h1 rfl rfl f
theorem b_nt0 (h : tO (zV c ow B) rt tq nS nN nL sgA ntA lkA) {α : Type} {s : Nat} (hs : s < nN) (f : Int32 → Option α) : (oGetI [7] 0 (some (ntA s)) (zS c td lw rw bf kp st ln rd rl rn ms sc mc fa pm xl pc rt ra ch ow ou B)).bind f = f (tq (8 + s) 0) := by
  obtain ⟨b, h1⟩ := h.2.2.2.2.2.1 s hs
  exact d_getI h1 rfl rfl f
theorem b_nt1 (h : tO (zV c ow B) rt tq nS nN nL sgA ntA lkA) {α : Type} {s : Nat} (hs : s < nN) (f : Int32 → Option α) : (oGetI [7] 1 (some (ntA s)) (zS c td lw rw bf kp st ln rd rl rn ms sc mc fa pm xl pc rt ra ch ow ou B)).bind f = f (tq (8 + s) 1) := by
  obtain ⟨b, h1⟩ := h.2.2.2.2.2.1 s hs
  exact d_getI h1 rfl rfl f
theorem b_rest (h : tO (zV c ow B) rt tq nS nN nL sgA ntA lkA) {α : Type} (f : Int32 → Option α) : (oGetI [1] 3 (rt 0) (zS c td lw rw bf kp st ln rd rl rn ms sc mc fa pm xl pc rt ra ch ow ou B)).bind f = f (tq 0 3) := by
  obtain ⟨-, -, -, ⟨t, l1, l2, l3, b, cl, h1, h2, -⟩, -⟩ := h
  rw [h1]
  exact d_getI h2 rfl rfl f
end s27b
/-! the law's term -/
def twoOp (ci : Nat) : Int32 := match ci with
  | 12 => iv 2
  | 13 => iv 3
  | 14 => iv 4
  | 15 => iv 5
  | 16 => iv 6
  | 17 => iv 7
  | _ => iv 8
/-- the term at t, no deeper than d, computes F -/
def tmO (V : Nat → Option gE) : Nat → Nat → ((Nat → Int32) → Int32) → Prop
  | 0, _, _ => False
  | d + 1, t, F => (∃ b n, V t = some (b, .inl (10, [.int n])) ∧ F = fun _ => n) ∨ (∃ b w, V t = some (b, .inl (11, [.int (iv w)])) ∧ w < 8 ∧ F = fun k => k w) ∨ (∃ b ci u v Fu Fv, V t = some (b, .inl (ci, [.ref u, .ref v])) ∧ 12 ≤ ci ∧ ci ≤ 18 ∧ tmO V d u Fu ∧ tmO V d v Fv ∧ F = fun k => mBy (twoOp ci) (Fu k) (Fv k))
theorem i32_div_no (u : Int32) : u / NO = -u := by
  refine Int32.toBitVec_inj.1 ?_
  show u.toBitVec.sdiv (-(1#32)) = -u.toBitVec
  rw [BitVec.sdiv_neg (by decide), BitVec.sdiv_one]
theorem i32_rem_no (u : Int32) : u - u / NO * NO = iv 0 := by
  rw [i32_div_no]
  show u - -u * -1 = 0
  rw [Int32.mul_neg, Int32.mul_one, Int32.neg_neg, Int32.sub_self]
theorem less_eq (u v : Int32) : (if v < u then v else u) = fX6_less u v := by
  unfold fX6_less
  by_cases h : v < u
  · rw [if_pos h, if_pos (Int32.le_of_lt h)]
  · rw [if_neg h]
    by_cases h2 : v ≤ u
    · rw [if_pos h2]; exact Int32.le_antisymm (Int32.not_lt.mp h) h2
    · rw [if_neg h2]
theorem more_eq (u v : Int32) : (if u < v then v else u) = fX6_more u v := by
  unfold fX6_more
  by_cases h : u < v
  · rw [if_pos h, if_pos (Int32.le_of_lt h)]
  · rw [if_neg h]
    by_cases h2 : u ≤ v
    · rw [if_pos h2]; exact Int32.le_antisymm h2 (Int32.not_lt.mp h)
    · rw [if_neg h2]
theorem c_with {t ci : Nat} {b : Bool} {fs : List Value} {u v : Int32} (h : zV c ow B t = some (b, .inl (ci, fs))) (h1 : 12 ≤ ci) (h2 : ci ≤ 18) : pTwo_with (some t) u v (zS c td lw rw bf kp st ln rd rl rn ms sc mc fa pm xl pc rt ra ch ow ou B) = some (mBy (twoOp ci) u v) := by
  have hi : ∀ cs, oIs cs (some t) (zS c td lw rw bf kp st ln rd rl rn ms sc mc fa pm xl pc rt ra ch ow ou B) = cs.contains ci := fun cs => d_is h
  unfold pTwo_with
  simp only [hi]
  obtain rfl | rfl | rfl | rfl | rfl | rfl | rfl : ci = 12 ∨ ci = 13 ∨ ci = 14 ∨ ci = 15 ∨ ci = 16 ∨ ci = 17 ∨ ci = 18 := by omega
  · rfl
  · rfl
  · rfl
  · show fX19_with (some t) u v (zS c td lw rw bf kp st ln rd rl rn ms sc mc fa pm xl pc rt ra ch ow ou B) = some (if v = iv 0 then iv 0 else if v = NO then -u else u / v)
    unfold fX19_with
    rw [L0]
    by_cases hv : v = iv 0
    · rw [if_pos hv, if_pos hv]
    · rw [if_neg hv, if_neg hv, if_neg hv]
      by_cases hn : v = NO
      · rw [if_pos hn, hn, i32_div_no]
      · rw [if_neg hn]
  · show fX20_with (some t) u v (zS c td lw rw bf kp st ln rd rl rn ms sc mc fa pm xl pc rt ra ch ow ou B) = some (if v = iv 0 then iv 0 else if v = NO then iv 0 else u - u / v * v)
    unfold fX20_with
    rw [L0]
    by_cases hv : v = iv 0
    · rw [if_pos hv, if_pos hv]
    · rw [if_neg hv, if_neg hv, if_neg hv]
      by_cases hn : v = NO
      · rw [if_pos hn, hn, i32_rem_no]
      · rw [if_neg hn]
  · exact congrArg some (less_eq u v)
  · exact congrArg some (more_eq u v)
theorem c_term : ∀ (d : Nat) {t : Nat} {F : (Nat → Int32) → Int32}, tmO (zV c ow B) d t F → ∀ e, rTerm_of (e + d) (some t) (some (aFa c)) (zS c td lw rw bf kp st ln rd rl rn ms sc mc fa pm xl pc rt ra ch ow ou B) = some (F fa) := by
  intro d
  induction d with
  | zero => intro t F h; exact absurd h id
  | succ d ih =>
    intro t F h e
    show pTerm_of (rTerm_of (e + d)) (some t) (some (aFa c)) (zS c td lw rw bf kp st ln rd rl rn ms sc mc fa pm xl pc rt ra ch ow ou B) = _
    rcases h with ⟨b, n, h, rfl⟩ | ⟨b, w, h, hw, rfl⟩ | ⟨b, ci, u, v, Fu, Fv, h, h1, h2, h3, h4, rfl⟩
    · unfold pTerm_of
      rw [d_is h, if_pos (by decide)]
      unfold fX14_of
      rw [d_getI h rfl rfl]
    · unfold pTerm_of
      rw [d_is h, if_neg (by decide), d_is h, if_pos (by decide)]
      unfold fX4_of
      rw [d_getI h rfl rfl, ld_aFa (okx_iv (by omega) hw), nx_iv (by omega)]
    · have hi : ∀ cs, oIs cs (some t) (zS c td lw rw bf kp st ln rd rl rn ms sc mc fa pm xl pc rt ra ch ow ou B) = cs.contains ci := fun cs => d_is h
      have h9 : pTerm_of (rTerm_of (e + d)) (some t) (some (aFa c)) (zS c td lw rw bf kp st ln rd rl rn ms sc mc fa pm xl pc rt ra ch ow ou B) = fX15_of (rTerm_of (e + d)) (some t) (some (aFa c)) (zS c td lw rw bf kp st ln rd rl rn ms sc mc fa pm xl pc rt ra ch ow ou B) := by
        unfold pTerm_of
        simp only [hi]
        obtain rfl | rfl | rfl | rfl | rfl | rfl | rfl : ci = 12 ∨ ci = 13 ∨ ci = 14 ∨ ci = 15 ∨ ci = 16 ∨ ci = 17 ∨ ci = 18 := by omega
        all_goals rfl
      rw [h9]
      unfold fX15_of
      have hc : ([12, 13, 14, 15, 16, 17, 18] : List Nat).contains ci = true := by
        obtain rfl | rfl | rfl | rfl | rfl | rfl | rfl : ci = 12 ∨ ci = 13 ∨ ci = 14 ∨ ci = 15 ∨ ci = 16 ∨ ci = 17 ∨ ci = 18 := by omega
        all_goals rfl
      rw [d_getR (v := some u) h hc rfl, bnd (ih h3 e), d_getR (v := some v) h hc rfl, bnd (ih h4 e), bnd (c_with h h1 h2)]
/-- the component's law computes F -/
def lwO (V : Nat → Option gE) (rt : Nat → Option Nat) (F : (Nat → Int32) → Int32) : Prop := det8 F ∧ ∃ t, rt 1 = some t ∧ tmO V 199 t F
theorem c_takesBy {F : (Nat → Int32) → Int32} (h : lwO (zV c ow B) rt F) (a1 a2 a3 a4 a5 a6 a7 a8 : Int32) : ∃ fa', fX1_takesBy (some (aV c)) a1 a2 a3 a4 a5 a6 a7 a8 (zS c td lw rw bf kp st ln rd rl rn ms sc mc fa pm xl pc rt ra ch ow ou B) = some (mCl (F (kx a1 a2 a3 a4 a5 a6 a7 a8)), (zS c td lw rw bf kp st ln rd rl rn ms sc mc (fa') pm xl pc rt ra ch ow ou B)) := by
  obtain ⟨hd, t, h1, h2⟩ := h
  refine ⟨va_up (va_up (va_up (va_up (va_up (va_up (va_up (va_up fa 0 a1) 1 a2) 2 a3) 3 a4) 4 a5) 5 a6) 6 a7) 7 a8, ?_⟩
  unfold fX1_takesBy
  have h3 := c_term (c := c) (td := td) (lw := lw) (rw := rw) (bf := bf) (kp := kp) (st := st) (ln := ln) (rd := rd) (rl := rl) (rn := rn) (ms := ms) (sc := sc) (mc := mc) (fa := va_up (va_up (va_up (va_up (va_up (va_up (va_up (va_up fa 0 a1) 1 a2) 2 a3) 3 a4) 4 a5) 5 a6) 6 a7) 7 a8) (pm := pm) (xl := xl) (pc := pc) (rt := rt) (ra := ra) (ch := ch) (ow := ow) (ou := ou) (B := B) 199 h2 1
  have h4 : F (va_up (va_up (va_up (va_up (va_up (va_up (va_up (va_up fa 0 a1) 1 a2) 2 a3) 3 a4) 4 a5) 5 a6) 6 a7) 7 a8) = F (kx a1 a2 a3 a4 a5 a6 a7 a8) := hd _ _ (fun j hj => match j, hj with
    | 0, _ => rfl
    | 1, _ => rfl
    | 2, _ => rfl
    | 3, _ => rfl
    | 4, _ => rfl
    | 5, _ => rfl
    | 6, _ => rfl
    | 7, _ => rfl)
  simp (disch := first | assumption | omega | (simp (disch := omega) only [okx_iv', nx_iv, iv_add, L0, L1, L2, L3, L7, L8, L14, L21, L28, L35, L55, L56, *]; try omega)) only [↓gv_2, ↓gv_1, ↓ld_aFa, ↓st_aFa, L0, L1, L2, L3, L4, L5, L6, L7, L30, iv_add, no_def, nx_iv, okx_iv', iv_le, iv_lt, iv_eq, iv_no, no_iv, Nat.not_lt_zero, vu_same, vu_ne, vu_up, ↓reduceIte, h1, ↓bnd h3, h4]
  refine congrArg (fun x => some (x, _)) ?_
  generalize F _ = y
  unfold mCl fX6_less fX6_more
  have e30 : (iv 0 : Int32) ≤ iv 30 := by decide
  by_cases c1 : y < iv 30
  · rw [if_pos c1]
    by_cases c2 : iv 0 < y
    · rw [if_pos c2, if_pos (Int32.le_of_lt c2), if_pos (Int32.le_of_lt c1)]
    · rw [if_neg c2]
      by_cases c3 : iv 0 ≤ y
      · rw [if_pos c3, if_pos (Int32.le_of_lt c1)]; exact Int32.le_antisymm c3 (Int32.not_lt.mp c2)
      · rw [if_neg c3, if_pos e30]
  · rw [if_neg c1, if_pos (by decide)]
    have c4 := Int32.not_lt.mp c1
    rw [if_pos (Int32.le_trans e30 c4)]
    by_cases c5 : y ≤ iv 30
    · rw [if_pos c5]; exact Int32.le_antisymm c4 c5
    · rw [if_neg c5]
end s27
