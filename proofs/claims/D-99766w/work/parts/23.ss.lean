set_option maxRecDepth 100000
/-! ===== PHASE 2: numbers ===== -/
def iv (n : Nat) : Int32 := Int32.ofNat n
def NO : Int32 := -1
def nx (i : Int32) : Nat := i.toNatClampNeg
def okx (i : Int32) (n : Nat) : Prop := ¬ (i < 0 ∨ n ≤ i.toNatClampNeg)
theorem nx_iv {a : Nat} (h : a < 2147483648) : nx (iv a) = a := Int32.toNatClampNeg_ofNat_of_lt h
theorem iv_le {a b : Nat} (ha : a < 2147483648) (hb : b < 2147483648) : (iv a ≤ iv b) = (a ≤ b) := propext (Int32.ofNat_le_iff_le ha hb)
theorem iv_lt {a b : Nat} (ha : a < 2147483648) (hb : b < 2147483648) : (iv a < iv b) = (a < b) := propext (Int32.ofNat_lt_iff_lt ha hb)
theorem iv_inj {a b : Nat} (ha : a < 2147483648) (hb : b < 2147483648) (h : iv a = iv b) : a = b := by
  have h1 := congrArg nx h
  rwa [nx_iv ha, nx_iv hb] at h1
theorem iv_eq {a b : Nat} (ha : a < 2147483648) (hb : b < 2147483648) : (iv a = iv b) = (a = b) := propext ⟨iv_inj ha hb, fun h => by rw [h]⟩
theorem iv_add (a b : Nat) : iv a + iv b = iv (a + b) := (Int32.ofNat_add a b).symm
theorem iv_sub {a b : Nat} (h : b ≤ a) : iv a - iv b = iv (a - b) := (Int32.ofNat_sub a b h).symm
theorem iv_mul (a b : Nat) : iv a * iv b = iv (a * b) := (Int32.ofNat_mul a b).symm
theorem iv_nn {a : Nat} (h : a < 2147483648) : (iv a < iv 0) = False := by rw [iv_lt h (by decide)]; exact eq_false (Nat.not_lt_zero a)
theorem iv_no {a : Nat} (h : a < 2147483648) : (iv a = NO) = False := by
  refine eq_false (fun h1 => ?_)
  have h2 : iv 0 ≤ NO := by rw [← h1, iv_le (by decide) h]; exact Nat.zero_le a
  exact absurd h2 (by decide)
theorem no_iv {a : Nat} (h : a < 2147483648) : (NO = iv a) = False := by
  rw [← iv_no h]; exact propext ⟨fun h => h.symm, fun h => h.symm⟩
theorem no_def : -(iv 1) = NO := rfl
theorem okx_iv {a n : Nat} (h : a < 2147483648) (h2 : a < n) : okx (iv a) n := by
  intro h3
  rcases h3 with h3 | h3
  · have h4 : (iv a < iv 0) := h3
    rw [iv_nn h] at h4; exact h4
  · have h5 : nx (iv a) = a := nx_iv h
    unfold nx at h5
    rw [h5] at h3
    exact absurd h2 (Nat.not_lt.mpr h3)
theorem okx_iv' {a n : Nat} (h : a < 2147483648) : okx (iv a) n = (a < n) := propext ⟨fun h2 => by
  have h5 : nx (iv a) = a := nx_iv h
  unfold nx at h5
  unfold okx at h2
  rw [h5] at h2
  exact Nat.lt_of_not_le (fun h3 => h2 (Or.inr h3)), okx_iv h⟩
theorem vu_same {α : Type} (f : Nat → α) (i : Nat) (v : α) : va_up f i v i = v := if_pos rfl
theorem vu_ne {α : Type} {f : Nat → α} {i j : Nat} {v : α} (h : j ≠ i) : va_up f i v j = f j := if_neg h
theorem vu_up {α : Type} (f : Nat → α) (i : Nat) (v w : α) : va_up (va_up f i v) i w = va_up f i w := by
  funext j; unfold va_up; split <;> rfl
theorem vu_id {α : Type} (f : Nat → α) (i : Nat) : va_up f i (f i) = f := by
  funext j; unfold va_up; split
  · next h => rw [h]
  · rfl
theorem vu_cm {α : Type} (f : Nat → α) {i j : Nat} (v w : α) (h : i ≠ j) : va_up (va_up f i v) j w = va_up (va_up f j w) i v := by
  funext k; unfold va_up
  by_cases h1 : k = i <;> by_cases h2 : k = j <;> simp_all
theorem upd_va (f : Nat → Int32) (i : Nat) (v : Int32) : upd f i v = va_up f i v := rfl
theorem bnd {α β : Type} {o : Option α} {v : α} (h : o = some v) (f : α → Option β) : o.bind f = f v := by rw [h]; rfl
theorem gbn {α β : Type} {o : Option (α × gS)} {v : α} {S : gS} (h : o = some (v, S)) (f : α → gS → Option β) : gB o f = f v S := by rw [h]; rfl
theorem gtn {α β : Type} {o : Option ((α ⊕ (Nat × Nat)) × gS)} {v : α} {S : gS} (h : o = some (.inl v, S)) (f : α → gS → Option ((β ⊕ (Nat × Nat)) × gS)) : gT o f = f v S := by rw [h]; rfl
theorem gtx {α β : Type} {o : Option ((α ⊕ (Nat × Nat)) × gS)} {v : Nat × Nat} {S : gS} (h : o = some (.inr v, S)) (f : α → gS → Option ((β ⊕ (Nat × Nat)) × gS)) : gT o f = some (.inr v, S) := by rw [h]; rfl

theorem L0 : (0 : Int32) = iv 0 := rfl
theorem L1 : (1 : Int32) = iv 1 := rfl
theorem L2 : (2 : Int32) = iv 2 := rfl
theorem L3 : (3 : Int32) = iv 3 := rfl
theorem L4 : (4 : Int32) = iv 4 := rfl
theorem L5 : (5 : Int32) = iv 5 := rfl
theorem L6 : (6 : Int32) = iv 6 := rfl
theorem L7 : (7 : Int32) = iv 7 := rfl
theorem L8 : (8 : Int32) = iv 8 := rfl
theorem L9 : (9 : Int32) = iv 9 := rfl
theorem L10 : (10 : Int32) = iv 10 := rfl
theorem L11 : (11 : Int32) = iv 11 := rfl
theorem L12 : (12 : Int32) = iv 12 := rfl
theorem L13 : (13 : Int32) = iv 13 := rfl
theorem L14 : (14 : Int32) = iv 14 := rfl
theorem L15 : (15 : Int32) = iv 15 := rfl
theorem L16 : (16 : Int32) = iv 16 := rfl
theorem L17 : (17 : Int32) = iv 17 := rfl
theorem L18 : (18 : Int32) = iv 18 := rfl
theorem L19 : (19 : Int32) = iv 19 := rfl
theorem L20 : (20 : Int32) = iv 20 := rfl
theorem L21 : (21 : Int32) = iv 21 := rfl
theorem L22 : (22 : Int32) = iv 22 := rfl
theorem L23 : (23 : Int32) = iv 23 := rfl
theorem L24 : (24 : Int32) = iv 24 := rfl
theorem L25 : (25 : Int32) = iv 25 := rfl
theorem L26 : (26 : Int32) = iv 26 := rfl
theorem L27 : (27 : Int32) = iv 27 := rfl
theorem L28 : (28 : Int32) = iv 28 := rfl
theorem L29 : (29 : Int32) = iv 29 := rfl
theorem L30 : (30 : Int32) = iv 30 := rfl
theorem L31 : (31 : Int32) = iv 31 := rfl
theorem L32 : (32 : Int32) = iv 32 := rfl
theorem L33 : (33 : Int32) = iv 33 := rfl
theorem L34 : (34 : Int32) = iv 34 := rfl
theorem L35 : (35 : Int32) = iv 35 := rfl
theorem L36 : (36 : Int32) = iv 36 := rfl
theorem L37 : (37 : Int32) = iv 37 := rfl
theorem L38 : (38 : Int32) = iv 38 := rfl
theorem L39 : (39 : Int32) = iv 39 := rfl
theorem L40 : (40 : Int32) = iv 40 := rfl
theorem L41 : (41 : Int32) = iv 41 := rfl
theorem L42 : (42 : Int32) = iv 42 := rfl
theorem L43 : (43 : Int32) = iv 43 := rfl
theorem L44 : (44 : Int32) = iv 44 := rfl
theorem L45 : (45 : Int32) = iv 45 := rfl
theorem L46 : (46 : Int32) = iv 46 := rfl
theorem L47 : (47 : Int32) = iv 47 := rfl
theorem L48 : (48 : Int32) = iv 48 := rfl
theorem L49 : (49 : Int32) = iv 49 := rfl
theorem L50 : (50 : Int32) = iv 50 := rfl
theorem L51 : (51 : Int32) = iv 51 := rfl
theorem L52 : (52 : Int32) = iv 52 := rfl
theorem L53 : (53 : Int32) = iv 53 := rfl
theorem L54 : (54 : Int32) = iv 54 := rfl
theorem L55 : (55 : Int32) = iv 55 := rfl
theorem L56 : (56 : Int32) = iv 56 := rfl
theorem L57 : (57 : Int32) = iv 57 := rfl
theorem L58 : (58 : Int32) = iv 58 := rfl
theorem L59 : (59 : Int32) = iv 59 := rfl
theorem L60 : (60 : Int32) = iv 60 := rfl
theorem L61 : (61 : Int32) = iv 61 := rfl
theorem L62 : (62 : Int32) = iv 62 := rfl
theorem L63 : (63 : Int32) = iv 63 := rfl
theorem L71 : (71 : Int32) = iv 71 := rfl
theorem L91 : (91 : Int32) = iv 91 := rfl
theorem L93 : (93 : Int32) = iv 93 := rfl
theorem L97 : (97 : Int32) = iv 97 := rfl
theorem L99 : (99 : Int32) = iv 99 := rfl
theorem L100 : (100 : Int32) = iv 100 := rfl
theorem L122 : (122 : Int32) = iv 122 := rfl
theorem L127 : (127 : Int32) = iv 127 := rfl
theorem L128 : (128 : Int32) = iv 128 := rfl
theorem L150 : (150 : Int32) = iv 150 := rfl
theorem L160 : (160 : Int32) = iv 160 := rfl
theorem L200 : (200 : Int32) = iv 200 := rfl
theorem L255 : (255 : Int32) = iv 255 := rfl
theorem L400 : (400 : Int32) = iv 400 := rfl
theorem L600 : (600 : Int32) = iv 600 := rfl
theorem L999 : (999 : Int32) = iv 999 := rfl
theorem L9999 : (9999 : Int32) = iv 9999 := rfl
theorem L12345 : (12345 : Int32) = iv 12345 := rfl
theorem L32767 : (32767 : Int32) = iv 32767 := rfl
theorem L100000 : (100000 : Int32) = iv 100000 := rfl
theorem L1103515245 : (1103515245 : Int32) = iv 1103515245 := rfl
/-! ===== the canonical state ===== -/
/-- int arrays: of the cell at d its group, its row, its length -/
def lo (d : Nat) : Nat × Nat × Nat :=
  if 594 ≤ d then (0, 0, 0) else if d < 9 then (0, 0, 0) else if d = 9 then (13, 0, 8) else if d = 10 then (12, 0, 20) else if d = 11 then (12, 1, 2) else if d < 27 then (0, 0, 0) else if d = 27 then (12, 2, 3) else if d = 28 then (12, 3, 600) else if d = 29 then (12, 4, 36) else if d = 30 then (12, 5, 896) else if d = 31 then (12, 6, 128) else if d < 34 then (0, 0, 0) else if d = 34 then (10, 0, 600) else if d = 35 then (10, 1, 2) else if d = 36 then (7, 0, 4) else if d = 37 then (0, 0, 4) else if d = 38 then (0, 0, 0) else if d < 46 then (7, d - 38, 3) else if d = 46 then (0, 0, 0) else if d < 54 then (0, d - 46, 3) else if d = 54 then (0, 0, 0) else if d < 75 then (7, d - 47, 2) else if d = 75 then (0, 0, 0) else if d < 96 then (0, d - 68, 2) else if d = 96 then (0, 0, 0) else if d < 109 then (7, d - 69, 2) else if d = 109 then (0, 0, 0) else if d < 122 then (0, d - 82, 2) else if d = 122 then (0, 0, 0) else if d < 283 then (1, d - 123, 2) else if d = 283 then (0, 0, 0) else if d < 444 then (8, d - 284, 2) else if d = 444 then (0, 0, 0) else if d < 465 then (6, d - 445, 2) else if d = 465 then (0, 0, 0) else if d < 486 then (9, d - 466, 2) else if d = 486 then (11, 0, 160) else if d = 487 then (11, 1, 8) else if d = 488 then (0, 0, 0) else if d < 569 then (5, d - 489, 4) else if d < 571 then (2, d - 569, 57) else if d = 571 then (0, 0, 0) else if d < 588 then (3, d - 572, 57) else if d = 588 then (0, 0, 0) else if d < 592 then (4, d - 589, 970) else if d = 592 then (10, 2, 7) else if d = 593 then (10, 3, 7) else (0, 0, 0)
def adr (g r : Nat) : Nat := match g with
  | 0 => if r = 0 then 37 else if r < 8 then r + 46 else if r < 28 then r + 68 else r + 82
  | 1 => r + 123
  | 2 => r + 569
  | 3 => r + 572
  | 4 => r + 589
  | 5 => r + 489
  | 6 => r + 445
  | 7 => if r = 0 then 36 else if r < 8 then r + 38 else if r < 28 then r + 47 else r + 69
  | 8 => r + 284
  | 9 => r + 466
  | 10 => if r < 2 then r + 34 else r + 590
  | 11 => r + 486
  | 12 => if r < 2 then r + 10 else r + 25
  | _ => 9
theorem adr_lo0 : ∀ d, d < 594 → (lo d).2.2 ≠ 0 → adr (lo d).1 (lo d).2.1 = d := by decide +kernel
theorem adr_lo (d : Nat) (h : (lo d).2.2 ≠ 0) : adr (lo d).1 (lo d).2.1 = d := by
  by_cases h1 : d < 594
  · exact adr_lo0 d h1 h
  · exact absurd (show (lo d).2.2 = 0 by unfold lo; rw [if_pos (by omega)]) h
theorem lo_g0 : ∀ d, d < 594 → d ≠ 9 → (lo d).1 < 13 := by decide +kernel
theorem lo_g (d : Nat) (h : d ≠ 9) : (lo d).1 < 13 := by
  by_cases h1 : d < 594
  · exact lo_g0 d h1 h
  · unfold lo; rw [if_pos (by omega)]; decide
/-- arrays of rows -/
def gr (d : Nat) : Nat := if d = 38 then 7 else if d = 46 then 7 else if d = 54 then 20 else if d = 75 then 20 else if d = 96 then 12 else if d = 109 then 12 else if d = 122 then 160 else if d = 283 then 160 else if d = 444 then 20 else if d = 465 then 20 else if d = 488 then 80 else if d = 571 then 16 else if d = 588 then 3 else 0

def Mf (td : Nat → Nat → Int32) (lw : Nat → Nat → Int32) (rw : Nat → Nat → Int32) (bf : Nat → Nat → Int32) (kp : Nat → Nat → Int32) (st : Nat → Nat → Int32) (ln : Nat → Nat → Int32) (rd : Nat → Nat → Int32) (rl : Nat → Nat → Int32) (rn : Nat → Nat → Int32) (ms : Nat → Nat → Int32) (sc : Nat → Nat → Int32) (mc : Nat → Nat → Int32) (fa : Nat → Int32) (g : Nat) : Nat → Nat → Int32 := match g with
  | 0 => td
  | 1 => lw
  | 2 => rw
  | 3 => bf
  | 4 => kp
  | 5 => st
  | 6 => ln
  | 7 => rd
  | 8 => rl
  | 9 => rn
  | 10 => ms
  | 11 => sc
  | 12 => mc
  | _ => fun _ => fa
/-- of the cell at d: the choir that it is of, and which part -/
def oE (ow : Nat → Option (Nat × Nat)) (d : Nat) : Option (Nat × Nat) := if d < 12 then none else if d < 18 then some (12, d - 12) else if d < 24 then some (18, d - 18) else if d < 596 then none else ow d
def zFx (ow : Nat → Option (Nat × Nat)) (d : Nat) : Prop := d = 0 ∨ (9 ≤ d ∧ d < 32) ∨ (33 ≤ d ∧ d < 596) ∨ (oE ow d).isSome = true
def zCho (c : Nat) (x k : Nat) (b : (Nat → Nat → Int32) × (Nat → Int32)) : gE := match k with
  | 0 => (true, .inl (2, [.ref (c + x + 1), .ref (c + x + 2), .ref (c + x + 3), .ref (c + x + 4), .ref (c + x + 5), .int (b.2 5), .int (b.2 6), .int (b.2 7), .int (b.2 8), .int (b.2 9), .int (b.2 10), .ref c]))
  | 5 => (true, .inr (0, 20, .inl (b.1 4)))
  | k => (true, .inr (0, 7, .inl (b.1 (k - 1))))
def zCell (c : Nat) (M : Nat → Nat → Nat → Int32) (pm : Nat → Int32) (xl : Nat → Int64) (pc : Nat → Int32) (rt : Nat → Option Nat) (ra : Nat → Nat → Option Nat) (ch : Nat → (Nat → Nat → Int32) × (Nat → Int32)) (ow : Nat → Option (Nat × Nat)) (ou : Nat → Int64) (d : Nat) : Option gE :=
  if (lo d).2.2 ≠ 0 then some (true, .inr ((if d = 28 then 1 else 0), (lo d).2.2, .inl (M (lo d).1 (lo d).2.1)))
  else if gr d ≠ 0 then some (true, .inr (5, gr d, .inr (.inr (.inr (.inr (fun j => some (c + d + 1 + j)))))))
  else if d = 0 then some (true, .inl (0, [va_rf (rt 0), va_rf (rt 1), .ref (c + 9), .ref (c + 10), .ref (c + 11), .ref (c + 12), .ref (c + 18), .ref (c + 24), .ref (c + 25), .ref (c + 26), .ref (c + 27), .int (pc 11), .int (pc 12), .int (pc 13), .int (pc 14), .int (pc 15), .int (pc 16), .int (pc 17), .ref (c + 28), .ref (c + 29), .ref (c + 30), .ref (c + 31)]))
  else if d = 33 then some (true, .inl (3, [.int (pm 0), .int (pm 1), .int (pm 2), .int (pm 3), .int (pm 4), .int (pm 5), .int (pm 6), .int (pm 7), .int (pm 8), .ref (c + 34), .ref (c + 35), .ref (c + 36), .ref (c + 37), .ref (c + 38), .ref (c + 46), .ref (c + 54), .ref (c + 75), .ref (c + 96), .ref (c + 109), .int (pm 19), .int (pm 20), .ref (c + 122), .ref (c + 283), .ref (c + 444), .ref (c + 465), .ref (c + 486), .ref (c + 487), .ref (c + 488), .int (pm 28), .ref (c + 569), .ref (c + 570), .ref (c + 571), .ref (c + 588), .int (pm 33), .int (pm 34), .int (pm 35), .int (pm 36), .int (pm 37), .int (pm 38), .int (pm 39), .int (pm 40), .ref (c + 592), .ref (c + 593), .int (pm 43), .ref (c + 594), .int (pm 45)]))
  else if d = 24 then some (true, .inr (4, 16, .inr (.inr (.inr (.inr (ra 0))))))
  else if d = 25 then some (true, .inr (4, 3, .inr (.inr (.inr (.inr (ra 1))))))
  else if d = 26 then some (true, .inr (4, 48, .inr (.inr (.inr (.inr (ra 2))))))
  else if d = 594 then some (true, .inr (2, 14, .inr (.inl xl)))
  else if d = 595 then some (true, .inr (2, 1, .inr (.inl ou)))
  else match oE ow d with
    | some (x, k) => if d = x + k then some (zCho c x k (ch x)) else none
    | none => none

noncomputable def zG (c : Nat) (M : Nat → Nat → Nat → Int32) (pm : Nat → Int32) (xl : Nat → Int64) (pc : Nat → Int32) (rt : Nat → Option Nat) (ra : Nat → Nat → Option Nat) (ch : Nat → (Nat → Nat → Int32) × (Nat → Int32)) (ow : Nat → Option (Nat × Nat)) (ou : Nat → Int64) (B : gS) : gS := (fun a => if a < c then B.1 a else @ite _ (zFx ow (a - c)) (Classical.propDecidable _) (zCell c M pm xl pc rt ra ch ow ou (a - c)) (B.1 a), B.2)
noncomputable def zS (c : Nat) (td : Nat → Nat → Int32) (lw : Nat → Nat → Int32) (rw : Nat → Nat → Int32) (bf : Nat → Nat → Int32) (kp : Nat → Nat → Int32) (st : Nat → Nat → Int32) (ln : Nat → Nat → Int32) (rd : Nat → Nat → Int32) (rl : Nat → Nat → Int32) (rn : Nat → Nat → Int32) (ms : Nat → Nat → Int32) (sc : Nat → Nat → Int32) (mc : Nat → Nat → Int32) (fa : Nat → Int32) (pm : Nat → Int32) (xl : Nat → Int64) (pc : Nat → Int32) (rt : Nat → Option Nat) (ra : Nat → Nat → Option Nat) (ch : Nat → (Nat → Nat → Int32) × (Nat → Int32)) (ow : Nat → Option (Nat × Nat)) (ou : Nat → Int64) (B : gS) : gS := zG c (Mf td lw rw bf kp st ln rd rl rn ms sc mc fa) pm xl pc rt ra ch ow ou B
/-- what of B is seen -/
noncomputable def zV (c : Nat) (ow : Nat → Option (Nat × Nat)) (B : gS) (a : Nat) : Option gE := if a < c then B.1 a else @ite _ (zFx ow (a - c)) (Classical.propDecidable _) none (B.1 a)
section s23
variable {c : Nat} {td : Nat → Nat → Int32} {lw : Nat → Nat → Int32} {rw : Nat → Nat → Int32} {bf : Nat → Nat → Int32} {kp : Nat → Nat → Int32} {st : Nat → Nat → Int32} {ln : Nat → Nat → Int32} {rd : Nat → Nat → Int32} {rl : Nat → Nat → Int32} {rn : Nat → Nat → Int32} {ms : Nat → Nat → Int32} {sc : Nat → Nat → Int32} {mc : Nat → Nat → Int32} {fa : Nat → Int32} {pm : Nat → Int32} {xl : Nat → Int64} {pc : Nat → Int32} {rt : Nat → Option Nat} {ra : Nat → Nat → Option Nat} {ch : Nat → (Nat → Nat → Int32) × (Nat → Int32)} {ow : Nat → Option (Nat × Nat)} {ou : Nat → Int64} {B : gS}
variable {M M' : Nat → Nat → Nat → Int32}
theorem zG_at {d : Nat} (h : zFx ow d) : (zG c M pm xl pc rt ra ch ow ou B).1 (c + d) = zCell c M pm xl pc rt ra ch ow ou d := by
  show (if c + d < c then _ else @ite _ (zFx ow (c + d - c)) (Classical.propDecidable _) _ _) = _
  rw [if_neg (by omega), show c + d - c = d by omega, if_pos h]
theorem zS_V {a : Nat} {e : gE} (h : zV c ow B a = some e) : (zS c td lw rw bf kp st ln rd rl rn ms sc mc fa pm xl pc rt ra ch ow ou B).1 a = some e := by
  unfold zV at h
  show (if a < c then _ else @ite _ (zFx ow (a - c)) (Classical.propDecidable _) _ _) = _
  split at h
  · next h1 => rw [if_pos h1]; exact h
  · next h1 =>
    rw [if_neg h1]
    split at h
    · cases h
    · next h2 => rw [if_neg h2]; exact h
theorem zG_up {pm' : Nat → Int32} {xl' : Nat → Int64} {pc' : Nat → Int32} {rt' : Nat → Option Nat} {ra' : Nat → Nat → Option Nat} {ch' : Nat → (Nat → Nat → Int32) × (Nat → Int32)} {ou' : Nat → Int64} {d : Nat} {e : Option gE} (h : zFx ow d) (h1 : zCell c M' pm' xl' pc' rt' ra' ch' ow ou' d = e) (h2 : ∀ q, q ≠ d → zCell c M' pm' xl' pc' rt' ra' ch' ow ou' q = zCell c M pm xl pc rt ra ch ow ou q) : va_up (zG c M pm xl pc rt ra ch ow ou B).1 (c + d) e = (zG c M' pm' xl' pc' rt' ra' ch' ow ou' B).1 := by
  funext a
  show (if a = c + d then e else if a < c then _ else @ite _ (zFx ow (a - c)) (Classical.propDecidable _) _ _) = (if a < c then _ else @ite _ (zFx ow (a - c)) (Classical.propDecidable _) _ _)
  by_cases ha : a = c + d
  · rw [if_pos ha, if_neg (by omega), show a - c = d by omega, if_pos h, h1]
  · rw [if_neg ha]
    by_cases hc : a < c
    · rw [if_pos hc, if_pos hc]
    · rw [if_neg hc, if_neg hc]
      split
      · rw [h2 (a - c) (by omega)]
      · rfl
theorem zG_st {d : Nat} {row : Nat → Int32} (h : zFx ow d) (hl : (lo d).2.2 ≠ 0) (h0 : M' (lo d).1 (lo d).2.1 = row) (h1 : ∀ g r, ¬ (g = (lo d).1 ∧ r = (lo d).2.1) → M' g r = M g r) : va_up (zG c M pm xl pc rt ra ch ow ou B).1 (c + d) (some (true, .inr ((if d = 28 then 1 else 0), (lo d).2.2, .inl row))) = (zG c M' pm xl pc rt ra ch ow ou B).1 := by
  refine zG_up h ?_ (fun q hq => ?_)
  · unfold zCell; rw [if_pos hl, h0]
  · unfold zCell
    by_cases hz : (lo q).2.2 ≠ 0
    · rw [if_pos hz, if_pos hz, h1 _ _ (fun h3 => hq (by rw [← adr_lo q hz, h3.1, h3.2, adr_lo d hl]))]
    · rw [if_neg hz, if_neg hz]
/-! rows behind a bind -/
theorem b_ldI {α : Type} {kd a n : Nat} {g : Nat → Int32} {S : gS} (h : S.1 a = some (true, .inr (kd, n, .inl g))) {i : Int32} (hi : okx i n) (f : Int32 → Option α) : (oLdI kd (some a) i S).bind f = f (g (nx i)) := by
  have h1 : oLdI kd (some a) i S = some (g (nx i)) := by
    unfold oLdI oArr gGet
    simp only [h, if_true]
    exact if_neg hi
  rw [h1]; rfl
theorem b_ldL {α : Type} {a n : Nat} {g : Nat → Int64} {S : gS} (h : S.1 a = some (true, .inr (2, n, .inr (.inl g)))) {i : Int32} (hi : okx i n) (f : Int64 → Option α) : (oLdL (some a) i S).bind f = f (g (nx i)) := by
  have h1 : oLdL (some a) i S = some (g (nx i)) := by
    unfold oLdL oArr gGet
    simp only [h, if_true]
    exact if_neg hi
  rw [h1]; rfl
theorem b_ldR {α : Type} {kd a n : Nat} {b : Bool} {g : Nat → Option Nat} {S : gS} (h : S.1 a = some (b, .inr (kd, n, .inr (.inr (.inr (.inr g)))))) {i : Int32} (hi : okx i n) (f : Option Nat → Option α) : (oLdR kd (some a) i S).bind f = f (g (nx i)) := by
  have h1 : oLdR kd (some a) i S = some (g (nx i)) := by
    unfold oLdR oArr gGet
    simp only [h, if_true]
    exact if_neg hi
  rw [h1]; rfl
theorem b_stI {α : Type} {kd a n : Nat} {g : Nat → Int32} {S : gS} (h : S.1 a = some (true, .inr (kd, n, .inl g))) {i x : Int32} (hi : okx i n) (f : gS → Option α) : (oStI kd (some a) i x S).bind f = f (va_up S.1 a (some (true, .inr (kd, n, .inl (va_up g (nx i) (gNar kd x))))), S.2) := by
  have h1 : oStI kd (some a) i x S = some (va_up S.1 a (some (true, .inr (kd, n, .inl (va_up g (nx i) (gNar kd x))))), S.2) := by
    unfold oStI
    simp only [h, if_true]
    exact if_neg hi
  rw [h1]; rfl
theorem b_stL {α : Type} {a n : Nat} {g : Nat → Int64} {S : gS} (h : S.1 a = some (true, .inr (2, n, .inr (.inl g)))) {i : Int32} {x : Int64} (hi : okx i n) (f : gS → Option α) : (oStL (some a) i x S).bind f = f (va_up S.1 a (some (true, .inr (2, n, .inr (.inl (va_up g (nx i) x))))), S.2) := by
  have h1 : oStL (some a) i x S = some (va_up S.1 a (some (true, .inr (2, n, .inr (.inl (va_up g (nx i) x))))), S.2) := by
    unfold oStL
    simp only [h]
    exact if_neg hi
  rw [h1]; rfl
theorem b_getI {α : Type} {cs : List Nat} {k a ci : Nat} {b : Bool} {fs : List Value} {S : gS} {v : Int32} (h : S.1 a = some (b, .inl (ci, fs))) (hc : cs.contains ci = true) (hv : fs[k]? = some (.int v)) (f : Int32 → Option α) : (oGetI cs k (some a) S).bind f = f v := by
  have h1 : oGetI cs k (some a) S = some v := by
    unfold oGetI oFld gGet
    simp only [h, hc, if_true, hv]
    rfl
  rw [h1]; rfl
theorem b_getR {α : Type} {cs : List Nat} {k a ci : Nat} {b : Bool} {fs : List Value} {S : gS} {v : Option Nat} (h : S.1 a = some (b, .inl (ci, fs))) (hc : cs.contains ci = true) (hv : fs[k]? = some (va_rf v)) (f : Option Nat → Option α) : (oGetR cs k (some a) S).bind f = f v := by
  have h1 : oGetR cs k (some a) S = some v := by
    unfold oGetR oFld gGet
    simp only [h, hc, if_true, hv]
    cases v <;> rfl
  rw [h1]; rfl
theorem b_put {α : Type} {cs : List Nat} {k a ci : Nat} {fs : List Value} {S : gS} {v : Value} (h : S.1 a = some (true, .inl (ci, fs))) (hc : cs.contains ci = true ∧ k < fs.length) (f : gS → Option α) : (oPut cs k (some a) v S).bind f = f (va_up S.1 a (some (true, .inl (ci, fs.set k v))), S.2) := by
  have h1 : oPut cs k (some a) v S = some (va_up S.1 a (some (true, .inl (ci, fs.set k v))), S.2) := by
    unfold oPut
    simp only [h, hc]
    rfl
  rw [h1]; rfl
theorem b_len {α : Type} {a : Nat} {b : Bool} {k : Nat} {v : vp_A} {S : gS} (h : S.1 a = some (b, .inr (k, v))) (f : Int32 → Option α) : (oLen (some a) S).bind f = f (iv v.1) := by
  have h1 : oLen (some a) S = some (iv v.1) := by
    unfold oLen gGet
    simp only [h]
    rfl
  rw [h1]; rfl
theorem gV_of {β : Type} {cs : List Nat} {a ci : Nat} {b : Bool} {fs : List Value} {S : gS} (h : S.1 a = some (b, .inl (ci, fs))) (hc : cs.contains ci = true) (o : Option β) : gV cs (some a) S o = o := by
  unfold gV oIs gGet
  simp only [h, hc, if_true]
theorem is_of {cs : List Nat} {a ci : Nat} {b : Bool} {fs : List Value} {S : gS} (h : S.1 a = some (b, .inl (ci, fs))) : oIs cs (some a) S = cs.contains ci := by
  unfold oIs gGet
  simp only [h]

def aV (c : Nat) : Nat := c + 0
def aM (c : Nat) : Nat := c + 33
def aX (c : Nat) : Nat := c + 594
def aOu (c : Nat) : Nat := c + 595
def aPs (c : Nat) : Nat := c + 24
def aIm (c : Nat) : Nat := c + 25
def aIP (c : Nat) : Nat := c + 26
def aCh (c x : Nat) : Nat := c + x
def aCA (c x k : Nat) : Nat := c + (x + k + 1)
def aFed (c : Nat) : Nat := c + 34
def aRef (c : Nat) : Nat := c + 35
def aRT (c : Nat) : Nat := c + 36
def aTo (c : Nat) : Nat := c + 37
def aSt (c : Nat) : Nat := c + 486
def aKn (c : Nat) : Nat := c + 487
def aSi (c : Nat) : Nat := c + 592
def aBs (c : Nat) : Nat := c + 593
def aFa (c : Nat) : Nat := c + 9
def aBk (c : Nat) : Nat := c + 10
def aRe (c : Nat) : Nat := c + 11
def aIW (c : Nat) : Nat := c + 27
def aTp (c : Nat) : Nat := c + 28
def aHb (c : Nat) : Nat := c + 29
def aMo (c : Nat) : Nat := c + 30
def aHe (c : Nat) : Nat := c + 31
def aRow (c r : Nat) : Nat := c + (569 + r)
def aRSg (c r : Nat) : Nat := c + (39 + r)
def aRSgs (c : Nat) : Nat := c + 38
def aSg (c r : Nat) : Nat := c + (47 + r)
def aSgs (c : Nat) : Nat := c + 46
def aRNt (c r : Nat) : Nat := c + (55 + r)
def aRNts (c : Nat) : Nat := c + 54
def aNt (c r : Nat) : Nat := c + (76 + r)
def aNts (c : Nat) : Nat := c + 75
def aRLk (c r : Nat) : Nat := c + (97 + r)
def aRLks (c : Nat) : Nat := c + 96
def aLk (c r : Nat) : Nat := c + (110 + r)
def aLks (c : Nat) : Nat := c + 109
def aLw (c r : Nat) : Nat := c + (123 + r)
def aLws (c : Nat) : Nat := c + 122
def aRLw (c r : Nat) : Nat := c + (284 + r)
def aRLws (c : Nat) : Nat := c + 283
def aLn (c r : Nat) : Nat := c + (445 + r)
def aLns (c : Nat) : Nat := c + 444
def aRLn (c r : Nat) : Nat := c + (466 + r)
def aRLns (c : Nat) : Nat := c + 465
def aStp (c r : Nat) : Nat := c + (489 + r)
def aStps (c : Nat) : Nat := c + 488
def aBf (c r : Nat) : Nat := c + (572 + r)
def aBfs (c : Nat) : Nat := c + 571
def aKp (c r : Nat) : Nat := c + (589 + r)
def aKps (c : Nat) : Nat := c + 588
theorem cl_aFed : (zS c td lw rw bf kp st ln rd rl rn ms sc mc fa pm xl pc rt ra ch ow ou B).1 (aFed c) = some (true, .inr (0, 600, .inl (ms 0))) := zG_at (d := 34) (by unfold zFx; omega)
theorem ld_aFed {α : Type} {i : Int32} (hi : okx i 600) (f : Int32 → Option α) : (oLdI 0 (some (aFed c)) i (zS c td lw rw bf kp st ln rd rl rn ms sc mc fa pm xl pc rt ra ch ow ou B)).bind f = f ((ms 0) (nx i)) := b_ldI cl_aFed hi f
theorem st_aFed {α : Type} {i x : Int32} (hi : okx i 600) (f : gS → Option α) : (oStI 0 (some (aFed c)) i x (zS c td lw rw bf kp st ln rd rl rn ms sc mc fa pm xl pc rt ra ch ow ou B)).bind f = f (zS c td lw rw bf kp st ln rd rl rn (va_up ms 0 (va_up (ms 0) (nx i) x)) sc mc fa pm xl pc rt ra ch ow ou B) := by
  rw [b_stI cl_aFed hi f]
  refine congrArg f (Prod.ext (zG_st (d := 34) (by unfold zFx; omega) (by decide) rfl (fun g r h => ?_)) rfl)
  have h' : ¬ (g = 10 ∧ r = 0) := h
  unfold Mf
  split <;> first | rfl | exact vu_ne (fun h3 => h' ⟨rfl, h3⟩) | exact absurd ⟨rfl, rfl⟩ h'

theorem cl_aRef : (zS c td lw rw bf kp st ln rd rl rn ms sc mc fa pm xl pc rt ra ch ow ou B).1 (aRef c) = some (true, .inr (0, 2, .inl (ms 1))) := zG_at (d := 35) (by unfold zFx; omega)
theorem ld_aRef {α : Type} {i : Int32} (hi : okx i 2) (f : Int32 → Option α) : (oLdI 0 (some (aRef c)) i (zS c td lw rw bf kp st ln rd rl rn ms sc mc fa pm xl pc rt ra ch ow ou B)).bind f = f ((ms 1) (nx i)) := b_ldI cl_aRef hi f
theorem st_aRef {α : Type} {i x : Int32} (hi : okx i 2) (f : gS → Option α) : (oStI 0 (some (aRef c)) i x (zS c td lw rw bf kp st ln rd rl rn ms sc mc fa pm xl pc rt ra ch ow ou B)).bind f = f (zS c td lw rw bf kp st ln rd rl rn (va_up ms 1 (va_up (ms 1) (nx i) x)) sc mc fa pm xl pc rt ra ch ow ou B) := by
  rw [b_stI cl_aRef hi f]
  refine congrArg f (Prod.ext (zG_st (d := 35) (by unfold zFx; omega) (by decide) rfl (fun g r h => ?_)) rfl)
  have h' : ¬ (g = 10 ∧ r = 1) := h
  unfold Mf
  split <;> first | rfl | exact vu_ne (fun h3 => h' ⟨rfl, h3⟩) | exact absurd ⟨rfl, rfl⟩ h'

theorem cl_aRT : (zS c td lw rw bf kp st ln rd rl rn ms sc mc fa pm xl pc rt ra ch ow ou B).1 (aRT c) = some (true, .inr (0, 4, .inl (rd 0))) := zG_at (d := 36) (by unfold zFx; omega)
theorem ld_aRT {α : Type} {i : Int32} (hi : okx i 4) (f : Int32 → Option α) : (oLdI 0 (some (aRT c)) i (zS c td lw rw bf kp st ln rd rl rn ms sc mc fa pm xl pc rt ra ch ow ou B)).bind f = f ((rd 0) (nx i)) := b_ldI cl_aRT hi f
theorem st_aRT {α : Type} {i x : Int32} (hi : okx i 4) (f : gS → Option α) : (oStI 0 (some (aRT c)) i x (zS c td lw rw bf kp st ln rd rl rn ms sc mc fa pm xl pc rt ra ch ow ou B)).bind f = f (zS c td lw rw bf kp st ln (va_up rd 0 (va_up (rd 0) (nx i) x)) rl rn ms sc mc fa pm xl pc rt ra ch ow ou B) := by
  rw [b_stI cl_aRT hi f]
  refine congrArg f (Prod.ext (zG_st (d := 36) (by unfold zFx; omega) (by decide) rfl (fun g r h => ?_)) rfl)
  have h' : ¬ (g = 7 ∧ r = 0) := h
  unfold Mf
  split <;> first | rfl | exact vu_ne (fun h3 => h' ⟨rfl, h3⟩) | exact absurd ⟨rfl, rfl⟩ h'

theorem cl_aTo : (zS c td lw rw bf kp st ln rd rl rn ms sc mc fa pm xl pc rt ra ch ow ou B).1 (aTo c) = some (true, .inr (0, 4, .inl (td 0))) := zG_at (d := 37) (by unfold zFx; omega)
theorem ld_aTo {α : Type} {i : Int32} (hi : okx i 4) (f : Int32 → Option α) : (oLdI 0 (some (aTo c)) i (zS c td lw rw bf kp st ln rd rl rn ms sc mc fa pm xl pc rt ra ch ow ou B)).bind f = f ((td 0) (nx i)) := b_ldI cl_aTo hi f
theorem st_aTo {α : Type} {i x : Int32} (hi : okx i 4) (f : gS → Option α) : (oStI 0 (some (aTo c)) i x (zS c td lw rw bf kp st ln rd rl rn ms sc mc fa pm xl pc rt ra ch ow ou B)).bind f = f (zS c (va_up td 0 (va_up (td 0) (nx i) x)) lw rw bf kp st ln rd rl rn ms sc mc fa pm xl pc rt ra ch ow ou B) := by
  rw [b_stI cl_aTo hi f]
  refine congrArg f (Prod.ext (zG_st (d := 37) (by unfold zFx; omega) (by decide) rfl (fun g r h => ?_)) rfl)
  have h' : ¬ (g = 0 ∧ r = 0) := h
  unfold Mf
  split <;> first | rfl | exact vu_ne (fun h3 => h' ⟨rfl, h3⟩) | exact absurd ⟨rfl, rfl⟩ h'

theorem cl_aSt : (zS c td lw rw bf kp st ln rd rl rn ms sc mc fa pm xl pc rt ra ch ow ou B).1 (aSt c) = some (true, .inr (0, 160, .inl (sc 0))) := zG_at (d := 486) (by unfold zFx; omega)
theorem ld_aSt {α : Type} {i : Int32} (hi : okx i 160) (f : Int32 → Option α) : (oLdI 0 (some (aSt c)) i (zS c td lw rw bf kp st ln rd rl rn ms sc mc fa pm xl pc rt ra ch ow ou B)).bind f = f ((sc 0) (nx i)) := b_ldI cl_aSt hi f
theorem st_aSt {α : Type} {i x : Int32} (hi : okx i 160) (f : gS → Option α) : (oStI 0 (some (aSt c)) i x (zS c td lw rw bf kp st ln rd rl rn ms sc mc fa pm xl pc rt ra ch ow ou B)).bind f = f (zS c td lw rw bf kp st ln rd rl rn ms (va_up sc 0 (va_up (sc 0) (nx i) x)) mc fa pm xl pc rt ra ch ow ou B) := by
  rw [b_stI cl_aSt hi f]
  refine congrArg f (Prod.ext (zG_st (d := 486) (by unfold zFx; omega) (by decide) rfl (fun g r h => ?_)) rfl)
  have h' : ¬ (g = 11 ∧ r = 0) := h
  unfold Mf
  split <;> first | rfl | exact vu_ne (fun h3 => h' ⟨rfl, h3⟩) | exact absurd ⟨rfl, rfl⟩ h'

theorem cl_aKn : (zS c td lw rw bf kp st ln rd rl rn ms sc mc fa pm xl pc rt ra ch ow ou B).1 (aKn c) = some (true, .inr (0, 8, .inl (sc 1))) := zG_at (d := 487) (by unfold zFx; omega)
theorem ld_aKn {α : Type} {i : Int32} (hi : okx i 8) (f : Int32 → Option α) : (oLdI 0 (some (aKn c)) i (zS c td lw rw bf kp st ln rd rl rn ms sc mc fa pm xl pc rt ra ch ow ou B)).bind f = f ((sc 1) (nx i)) := b_ldI cl_aKn hi f
theorem st_aKn {α : Type} {i x : Int32} (hi : okx i 8) (f : gS → Option α) : (oStI 0 (some (aKn c)) i x (zS c td lw rw bf kp st ln rd rl rn ms sc mc fa pm xl pc rt ra ch ow ou B)).bind f = f (zS c td lw rw bf kp st ln rd rl rn ms (va_up sc 1 (va_up (sc 1) (nx i) x)) mc fa pm xl pc rt ra ch ow ou B) := by
  rw [b_stI cl_aKn hi f]
  refine congrArg f (Prod.ext (zG_st (d := 487) (by unfold zFx; omega) (by decide) rfl (fun g r h => ?_)) rfl)
  have h' : ¬ (g = 11 ∧ r = 1) := h
  unfold Mf
  split <;> first | rfl | exact vu_ne (fun h3 => h' ⟨rfl, h3⟩) | exact absurd ⟨rfl, rfl⟩ h'

theorem cl_aSi : (zS c td lw rw bf kp st ln rd rl rn ms sc mc fa pm xl pc rt ra ch ow ou B).1 (aSi c) = some (true, .inr (0, 7, .inl (ms 2))) := zG_at (d := 592) (by unfold zFx; omega)
theorem ld_aSi {α : Type} {i : Int32} (hi : okx i 7) (f : Int32 → Option α) : (oLdI 0 (some (aSi c)) i (zS c td lw rw bf kp st ln rd rl rn ms sc mc fa pm xl pc rt ra ch ow ou B)).bind f = f ((ms 2) (nx i)) := b_ldI cl_aSi hi f
theorem st_aSi {α : Type} {i x : Int32} (hi : okx i 7) (f : gS → Option α) : (oStI 0 (some (aSi c)) i x (zS c td lw rw bf kp st ln rd rl rn ms sc mc fa pm xl pc rt ra ch ow ou B)).bind f = f (zS c td lw rw bf kp st ln rd rl rn (va_up ms 2 (va_up (ms 2) (nx i) x)) sc mc fa pm xl pc rt ra ch ow ou B) := by
  rw [b_stI cl_aSi hi f]
  refine congrArg f (Prod.ext (zG_st (d := 592) (by unfold zFx; omega) (by decide) rfl (fun g r h => ?_)) rfl)
  have h' : ¬ (g = 10 ∧ r = 2) := h
  unfold Mf
  split <;> first | rfl | exact vu_ne (fun h3 => h' ⟨rfl, h3⟩) | exact absurd ⟨rfl, rfl⟩ h'

theorem cl_aBs : (zS c td lw rw bf kp st ln rd rl rn ms sc mc fa pm xl pc rt ra ch ow ou B).1 (aBs c) = some (true, .inr (0, 7, .inl (ms 3))) := zG_at (d := 593) (by unfold zFx; omega)
theorem ld_aBs {α : Type} {i : Int32} (hi : okx i 7) (f : Int32 → Option α) : (oLdI 0 (some (aBs c)) i (zS c td lw rw bf kp st ln rd rl rn ms sc mc fa pm xl pc rt ra ch ow ou B)).bind f = f ((ms 3) (nx i)) := b_ldI cl_aBs hi f
theorem st_aBs {α : Type} {i x : Int32} (hi : okx i 7) (f : gS → Option α) : (oStI 0 (some (aBs c)) i x (zS c td lw rw bf kp st ln rd rl rn ms sc mc fa pm xl pc rt ra ch ow ou B)).bind f = f (zS c td lw rw bf kp st ln rd rl rn (va_up ms 3 (va_up (ms 3) (nx i) x)) sc mc fa pm xl pc rt ra ch ow ou B) := by
  rw [b_stI cl_aBs hi f]
  refine congrArg f (Prod.ext (zG_st (d := 593) (by unfold zFx; omega) (by decide) rfl (fun g r h => ?_)) rfl)
  have h' : ¬ (g = 10 ∧ r = 3) := h
  unfold Mf
  split <;> first | rfl | exact vu_ne (fun h3 => h' ⟨rfl, h3⟩) | exact absurd ⟨rfl, rfl⟩ h'

theorem cl_aFa : (zS c td lw rw bf kp st ln rd rl rn ms sc mc fa pm xl pc rt ra ch ow ou B).1 (aFa c) = some (true, .inr (0, 8, .inl fa)) := zG_at (d := 9) (by unfold zFx; omega)
theorem ld_aFa {α : Type} {i : Int32} (hi : okx i 8) (f : Int32 → Option α) : (oLdI 0 (some (aFa c)) i (zS c td lw rw bf kp st ln rd rl rn ms sc mc fa pm xl pc rt ra ch ow ou B)).bind f = f (fa (nx i)) := b_ldI cl_aFa hi f
theorem st_aFa {α : Type} {i x : Int32} (hi : okx i 8) (f : gS → Option α) : (oStI 0 (some (aFa c)) i x (zS c td lw rw bf kp st ln rd rl rn ms sc mc fa pm xl pc rt ra ch ow ou B)).bind f = f (zS c td lw rw bf kp st ln rd rl rn ms sc mc (va_up fa (nx i) x) pm xl pc rt ra ch ow ou B) := by
  rw [b_stI cl_aFa hi f]
  refine congrArg f (Prod.ext (zG_up (d := 9) (by unfold zFx; omega) rfl (fun q h => ?_)) rfl)
  unfold zCell
  by_cases hz : (lo q).2.2 ≠ 0
  · rw [if_pos hz, if_pos hz]
    have hg : (lo q).1 < 13 := lo_g q h
    rw [show Mf td lw rw bf kp st ln rd rl rn ms sc mc (va_up fa (nx i) x) (lo q).1 = Mf td lw rw bf kp st ln rd rl rn ms sc mc fa (lo q).1 by
      revert hg
      generalize (lo q).1 = g
      intro hg
      exact match g, hg with
        | 0, _ => rfl
        | 1, _ => rfl
        | 2, _ => rfl
        | 3, _ => rfl
        | 4, _ => rfl
        | 5, _ => rfl
        | 6, _ => rfl
        | 7, _ => rfl
        | 8, _ => rfl
        | 9, _ => rfl
        | 10, _ => rfl
        | 11, _ => rfl
        | 12, _ => rfl
        | k + 13, h => absurd h (by omega)]
  · rw [if_neg hz, if_neg hz]
theorem cl_aBk : (zS c td lw rw bf kp st ln rd rl rn ms sc mc fa pm xl pc rt ra ch ow ou B).1 (aBk c) = some (true, .inr (0, 20, .inl (mc 0))) := zG_at (d := 10) (by unfold zFx; omega)
theorem ld_aBk {α : Type} {i : Int32} (hi : okx i 20) (f : Int32 → Option α) : (oLdI 0 (some (aBk c)) i (zS c td lw rw bf kp st ln rd rl rn ms sc mc fa pm xl pc rt ra ch ow ou B)).bind f = f ((mc 0) (nx i)) := b_ldI cl_aBk hi f
theorem st_aBk {α : Type} {i x : Int32} (hi : okx i 20) (f : gS → Option α) : (oStI 0 (some (aBk c)) i x (zS c td lw rw bf kp st ln rd rl rn ms sc mc fa pm xl pc rt ra ch ow ou B)).bind f = f (zS c td lw rw bf kp st ln rd rl rn ms sc (va_up mc 0 (va_up (mc 0) (nx i) x)) fa pm xl pc rt ra ch ow ou B) := by
  rw [b_stI cl_aBk hi f]
  refine congrArg f (Prod.ext (zG_st (d := 10) (by unfold zFx; omega) (by decide) rfl (fun g r h => ?_)) rfl)
  have h' : ¬ (g = 12 ∧ r = 0) := h
  unfold Mf
  split <;> first | rfl | exact vu_ne (fun h3 => h' ⟨rfl, h3⟩) | exact absurd ⟨rfl, rfl⟩ h'

theorem cl_aRe : (zS c td lw rw bf kp st ln rd rl rn ms sc mc fa pm xl pc rt ra ch ow ou B).1 (aRe c) = some (true, .inr (0, 2, .inl (mc 1))) := zG_at (d := 11) (by unfold zFx; omega)
theorem ld_aRe {α : Type} {i : Int32} (hi : okx i 2) (f : Int32 → Option α) : (oLdI 0 (some (aRe c)) i (zS c td lw rw bf kp st ln rd rl rn ms sc mc fa pm xl pc rt ra ch ow ou B)).bind f = f ((mc 1) (nx i)) := b_ldI cl_aRe hi f
theorem st_aRe {α : Type} {i x : Int32} (hi : okx i 2) (f : gS → Option α) : (oStI 0 (some (aRe c)) i x (zS c td lw rw bf kp st ln rd rl rn ms sc mc fa pm xl pc rt ra ch ow ou B)).bind f = f (zS c td lw rw bf kp st ln rd rl rn ms sc (va_up mc 1 (va_up (mc 1) (nx i) x)) fa pm xl pc rt ra ch ow ou B) := by
  rw [b_stI cl_aRe hi f]
  refine congrArg f (Prod.ext (zG_st (d := 11) (by unfold zFx; omega) (by decide) rfl (fun g r h => ?_)) rfl)
  have h' : ¬ (g = 12 ∧ r = 1) := h
  unfold Mf
  split <;> first | rfl | exact vu_ne (fun h3 => h' ⟨rfl, h3⟩) | exact absurd ⟨rfl, rfl⟩ h'

theorem cl_aIW : (zS c td lw rw bf kp st ln rd rl rn ms sc mc fa pm xl pc rt ra ch ow ou B).1 (aIW c) = some (true, .inr (0, 3, .inl (mc 2))) := zG_at (d := 27) (by unfold zFx; omega)
theorem ld_aIW {α : Type} {i : Int32} (hi : okx i 3) (f : Int32 → Option α) : (oLdI 0 (some (aIW c)) i (zS c td lw rw bf kp st ln rd rl rn ms sc mc fa pm xl pc rt ra ch ow ou B)).bind f = f ((mc 2) (nx i)) := b_ldI cl_aIW hi f
theorem st_aIW {α : Type} {i x : Int32} (hi : okx i 3) (f : gS → Option α) : (oStI 0 (some (aIW c)) i x (zS c td lw rw bf kp st ln rd rl rn ms sc mc fa pm xl pc rt ra ch ow ou B)).bind f = f (zS c td lw rw bf kp st ln rd rl rn ms sc (va_up mc 2 (va_up (mc 2) (nx i) x)) fa pm xl pc rt ra ch ow ou B) := by
  rw [b_stI cl_aIW hi f]
  refine congrArg f (Prod.ext (zG_st (d := 27) (by unfold zFx; omega) (by decide) rfl (fun g r h => ?_)) rfl)
  have h' : ¬ (g = 12 ∧ r = 2) := h
  unfold Mf
  split <;> first | rfl | exact vu_ne (fun h3 => h' ⟨rfl, h3⟩) | exact absurd ⟨rfl, rfl⟩ h'

theorem cl_aTp : (zS c td lw rw bf kp st ln rd rl rn ms sc mc fa pm xl pc rt ra ch ow ou B).1 (aTp c) = some (true, .inr (1, 600, .inl (mc 3))) := zG_at (d := 28) (by unfold zFx; omega)
theorem ld_aTp {α : Type} {i : Int32} (hi : okx i 600) (f : Int32 → Option α) : (oLdI 1 (some (aTp c)) i (zS c td lw rw bf kp st ln rd rl rn ms sc mc fa pm xl pc rt ra ch ow ou B)).bind f = f ((mc 3) (nx i)) := b_ldI cl_aTp hi f
theorem st_aTp {α : Type} {i x : Int32} (hi : okx i 600) (f : gS → Option α) : (oStI 1 (some (aTp c)) i x (zS c td lw rw bf kp st ln rd rl rn ms sc mc fa pm xl pc rt ra ch ow ou B)).bind f = f (zS c td lw rw bf kp st ln rd rl rn ms sc (va_up mc 3 (va_up (mc 3) (nx i) (gNar 1 x))) fa pm xl pc rt ra ch ow ou B) := by
  rw [b_stI cl_aTp hi f]
  refine congrArg f (Prod.ext (zG_st (d := 28) (by unfold zFx; omega) (by decide) rfl (fun g r h => ?_)) rfl)
  have h' : ¬ (g = 12 ∧ r = 3) := h
  unfold Mf
  split <;> first | rfl | exact vu_ne (fun h3 => h' ⟨rfl, h3⟩) | exact absurd ⟨rfl, rfl⟩ h'

theorem cl_aHb : (zS c td lw rw bf kp st ln rd rl rn ms sc mc fa pm xl pc rt ra ch ow ou B).1 (aHb c) = some (true, .inr (0, 36, .inl (mc 4))) := zG_at (d := 29) (by unfold zFx; omega)
theorem ld_aHb {α : Type} {i : Int32} (hi : okx i 36) (f : Int32 → Option α) : (oLdI 0 (some (aHb c)) i (zS c td lw rw bf kp st ln rd rl rn ms sc mc fa pm xl pc rt ra ch ow ou B)).bind f = f ((mc 4) (nx i)) := b_ldI cl_aHb hi f
theorem st_aHb {α : Type} {i x : Int32} (hi : okx i 36) (f : gS → Option α) : (oStI 0 (some (aHb c)) i x (zS c td lw rw bf kp st ln rd rl rn ms sc mc fa pm xl pc rt ra ch ow ou B)).bind f = f (zS c td lw rw bf kp st ln rd rl rn ms sc (va_up mc 4 (va_up (mc 4) (nx i) x)) fa pm xl pc rt ra ch ow ou B) := by
  rw [b_stI cl_aHb hi f]
  refine congrArg f (Prod.ext (zG_st (d := 29) (by unfold zFx; omega) (by decide) rfl (fun g r h => ?_)) rfl)
  have h' : ¬ (g = 12 ∧ r = 4) := h
  unfold Mf
  split <;> first | rfl | exact vu_ne (fun h3 => h' ⟨rfl, h3⟩) | exact absurd ⟨rfl, rfl⟩ h'

theorem cl_aMo : (zS c td lw rw bf kp st ln rd rl rn ms sc mc fa pm xl pc rt ra ch ow ou B).1 (aMo c) = some (true, .inr (0, 896, .inl (mc 5))) := zG_at (d := 30) (by unfold zFx; omega)
theorem ld_aMo {α : Type} {i : Int32} (hi : okx i 896) (f : Int32 → Option α) : (oLdI 0 (some (aMo c)) i (zS c td lw rw bf kp st ln rd rl rn ms sc mc fa pm xl pc rt ra ch ow ou B)).bind f = f ((mc 5) (nx i)) := b_ldI cl_aMo hi f
theorem st_aMo {α : Type} {i x : Int32} (hi : okx i 896) (f : gS → Option α) : (oStI 0 (some (aMo c)) i x (zS c td lw rw bf kp st ln rd rl rn ms sc mc fa pm xl pc rt ra ch ow ou B)).bind f = f (zS c td lw rw bf kp st ln rd rl rn ms sc (va_up mc 5 (va_up (mc 5) (nx i) x)) fa pm xl pc rt ra ch ow ou B) := by
  rw [b_stI cl_aMo hi f]
  refine congrArg f (Prod.ext (zG_st (d := 30) (by unfold zFx; omega) (by decide) rfl (fun g r h => ?_)) rfl)
  have h' : ¬ (g = 12 ∧ r = 5) := h
  unfold Mf
  split <;> first | rfl | exact vu_ne (fun h3 => h' ⟨rfl, h3⟩) | exact absurd ⟨rfl, rfl⟩ h'

theorem cl_aHe : (zS c td lw rw bf kp st ln rd rl rn ms sc mc fa pm xl pc rt ra ch ow ou B).1 (aHe c) = some (true, .inr (0, 128, .inl (mc 6))) := zG_at (d := 31) (by unfold zFx; omega)
theorem ld_aHe {α : Type} {i : Int32} (hi : okx i 128) (f : Int32 → Option α) : (oLdI 0 (some (aHe c)) i (zS c td lw rw bf kp st ln rd rl rn ms sc mc fa pm xl pc rt ra ch ow ou B)).bind f = f ((mc 6) (nx i)) := b_ldI cl_aHe hi f
theorem st_aHe {α : Type} {i x : Int32} (hi : okx i 128) (f : gS → Option α) : (oStI 0 (some (aHe c)) i x (zS c td lw rw bf kp st ln rd rl rn ms sc mc fa pm xl pc rt ra ch ow ou B)).bind f = f (zS c td lw rw bf kp st ln rd rl rn ms sc (va_up mc 6 (va_up (mc 6) (nx i) x)) fa pm xl pc rt ra ch ow ou B) := by
  rw [b_stI cl_aHe hi f]
  refine congrArg f (Prod.ext (zG_st (d := 31) (by unfold zFx; omega) (by decide) rfl (fun g r h => ?_)) rfl)
  have h' : ¬ (g = 12 ∧ r = 6) := h
  unfold Mf
  split <;> first | rfl | exact vu_ne (fun h3 => h' ⟨rfl, h3⟩) | exact absurd ⟨rfl, rfl⟩ h'

theorem lo_aRow : ∀ r, r < 2 → lo (569 + r) = (2, r, 57) := by decide +kernel
theorem cl_aRow {r : Nat} (h : r < 2) : (zS c td lw rw bf kp st ln rd rl rn ms sc mc fa pm xl pc rt ra ch ow ou B).1 (aRow c r) = some (true, .inr (0, 57, .inl (rw (r)))) := by
  have hl : lo (569 + r) = (2, r, 57) := lo_aRow r h
  refine (zG_at (d := 569 + r) (by unfold zFx; omega)).trans ?_
  unfold zCell
  rw [if_pos (by rw [hl]; show (57 : Nat) ≠ 0; decide), hl, if_neg (by omega)]
  rfl
theorem ld_aRow {α : Type} {r : Nat} {i : Int32} (h : r < 2) (hi : okx i 57) (f : Int32 → Option α) : (oLdI 0 (some (aRow c r)) i (zS c td lw rw bf kp st ln rd rl rn ms sc mc fa pm xl pc rt ra ch ow ou B)).bind f = f (rw (r) (nx i)) := b_ldI (cl_aRow h) hi f
theorem st_aRow {α : Type} {r : Nat} {i x : Int32} (h : r < 2) (hi : okx i 57) (f : gS → Option α) : (oStI 0 (some (aRow c r)) i x (zS c td lw rw bf kp st ln rd rl rn ms sc mc fa pm xl pc rt ra ch ow ou B)).bind f = f (zS c td lw (va_up rw (r) (va_up (rw (r)) (nx i) x)) bf kp st ln rd rl rn ms sc mc fa pm xl pc rt ra ch ow ou B) := by
  have hl : lo (569 + r) = (2, r, 57) := lo_aRow r h
  rw [b_stI (cl_aRow h) hi f]
  refine congrArg f (Prod.ext ?_ rfl)
  have h9 := zG_st (c := c) (M := Mf td lw rw bf kp st ln rd rl rn ms sc mc fa) (M' := Mf td lw (va_up rw (r) (va_up (rw (r)) (nx i) x)) bf kp st ln rd rl rn ms sc mc fa) (pm := pm) (xl := xl) (pc := pc) (rt := rt) (ra := ra) (ch := ch) (ow := ow) (ou := ou) (B := B) (d := 569 + r) (row := va_up (rw (r)) (nx i) x) (by unfold zFx; omega) (by rw [hl]; show (57 : Nat) ≠ 0; decide) (by rw [hl]; exact vu_same _ _ _) (fun g q h => ?_)
  · rw [hl, if_neg (by omega)] at h9
    exact h9
  · rw [hl] at h
    have h' : ¬ (g = 2 ∧ q = r) := h
    unfold Mf
    split <;> first | rfl | exact vu_ne (fun h3 => h' ⟨rfl, h3⟩)
theorem ln_aRow {α : Type} {r : Nat} (h : r < 2) (f : Int32 → Option α) : (oLen (some (aRow c r)) (zS c td lw rw bf kp st ln rd rl rn ms sc mc fa pm xl pc rt ra ch ow ou B)).bind f = f (iv 57) := b_len (cl_aRow h) f
theorem lo_aRSg : ∀ r, r < 7 → lo (39 + r) = (7, 1 + r, 3) := by decide +kernel
theorem cl_aRSg {r : Nat} (h : r < 7) : (zS c td lw rw bf kp st ln rd rl rn ms sc mc fa pm xl pc rt ra ch ow ou B).1 (aRSg c r) = some (true, .inr (0, 3, .inl (rd (1 + r)))) := by
  have hl : lo (39 + r) = (7, 1 + r, 3) := lo_aRSg r h
  refine (zG_at (d := 39 + r) (by unfold zFx; omega)).trans ?_
  unfold zCell
  rw [if_pos (by rw [hl]; show (3 : Nat) ≠ 0; decide), hl, if_neg (by omega)]
  rfl
theorem ld_aRSg {α : Type} {r : Nat} {i : Int32} (h : r < 7) (hi : okx i 3) (f : Int32 → Option α) : (oLdI 0 (some (aRSg c r)) i (zS c td lw rw bf kp st ln rd rl rn ms sc mc fa pm xl pc rt ra ch ow ou B)).bind f = f (rd (1 + r) (nx i)) := b_ldI (cl_aRSg h) hi f
theorem st_aRSg {α : Type} {r : Nat} {i x : Int32} (h : r < 7) (hi : okx i 3) (f : gS → Option α) : (oStI 0 (some (aRSg c r)) i x (zS c td lw rw bf kp st ln rd rl rn ms sc mc fa pm xl pc rt ra ch ow ou B)).bind f = f (zS c td lw rw bf kp st ln (va_up rd (1 + r) (va_up (rd (1 + r)) (nx i) x)) rl rn ms sc mc fa pm xl pc rt ra ch ow ou B) := by
  have hl : lo (39 + r) = (7, 1 + r, 3) := lo_aRSg r h
  rw [b_stI (cl_aRSg h) hi f]
  refine congrArg f (Prod.ext ?_ rfl)
  have h9 := zG_st (c := c) (M := Mf td lw rw bf kp st ln rd rl rn ms sc mc fa) (M' := Mf td lw rw bf kp st ln (va_up rd (1 + r) (va_up (rd (1 + r)) (nx i) x)) rl rn ms sc mc fa) (pm := pm) (xl := xl) (pc := pc) (rt := rt) (ra := ra) (ch := ch) (ow := ow) (ou := ou) (B := B) (d := 39 + r) (row := va_up (rd (1 + r)) (nx i) x) (by unfold zFx; omega) (by rw [hl]; show (3 : Nat) ≠ 0; decide) (by rw [hl]; exact vu_same _ _ _) (fun g q h => ?_)
  · rw [hl, if_neg (by omega)] at h9
    exact h9
  · rw [hl] at h
    have h' : ¬ (g = 7 ∧ q = 1 + r) := h
    unfold Mf
    split <;> first | rfl | exact vu_ne (fun h3 => h' ⟨rfl, h3⟩)
theorem ln_aRSg {α : Type} {r : Nat} (h : r < 7) (f : Int32 → Option α) : (oLen (some (aRSg c r)) (zS c td lw rw bf kp st ln rd rl rn ms sc mc fa pm xl pc rt ra ch ow ou B)).bind f = f (iv 3) := b_len (cl_aRSg h) f
theorem cl_aRSgs : (zS c td lw rw bf kp st ln rd rl rn ms sc mc fa pm xl pc rt ra ch ow ou B).1 (aRSgs c) = some (true, .inr (5, 7, .inr (.inr (.inr (.inr (fun j => some (aRSg c j))))))) := by
  refine (zG_at (d := 38) (by unfold zFx; omega)).trans ?_
  have hf : (fun j => some (c + 38 + 1 + j)) = (fun j => some (aRSg c j)) := by funext j; unfold aRSg; congr 1; omega
  show some (true, Sum.inr (5, 7, Sum.inr (Sum.inr (Sum.inr (Sum.inr (fun j => some (c + 38 + 1 + j))))))) = _
  rw [hf]
theorem ld_aRSgs {α : Type} {i : Int32} (hi : okx i 7) (f : Option Nat → Option α) : (oLdR 5 (some (aRSgs c)) i (zS c td lw rw bf kp st ln rd rl rn ms sc mc fa pm xl pc rt ra ch ow ou B)).bind f = f (some (aRSg c (nx i))) := b_ldR cl_aRSgs hi f
theorem lo_aSg : ∀ r, r < 7 → lo (47 + r) = (0, 1 + r, 3) := by decide +kernel
theorem cl_aSg {r : Nat} (h : r < 7) : (zS c td lw rw bf kp st ln rd rl rn ms sc mc fa pm xl pc rt ra ch ow ou B).1 (aSg c r) = some (true, .inr (0, 3, .inl (td (1 + r)))) := by
  have hl : lo (47 + r) = (0, 1 + r, 3) := lo_aSg r h
  refine (zG_at (d := 47 + r) (by unfold zFx; omega)).trans ?_
  unfold zCell
  rw [if_pos (by rw [hl]; show (3 : Nat) ≠ 0; decide), hl, if_neg (by omega)]
  rfl
theorem ld_aSg {α : Type} {r : Nat} {i : Int32} (h : r < 7) (hi : okx i 3) (f : Int32 → Option α) : (oLdI 0 (some (aSg c r)) i (zS c td lw rw bf kp st ln rd rl rn ms sc mc fa pm xl pc rt ra ch ow ou B)).bind f = f (td (1 + r) (nx i)) := b_ldI (cl_aSg h) hi f
theorem st_aSg {α : Type} {r : Nat} {i x : Int32} (h : r < 7) (hi : okx i 3) (f : gS → Option α) : (oStI 0 (some (aSg c r)) i x (zS c td lw rw bf kp st ln rd rl rn ms sc mc fa pm xl pc rt ra ch ow ou B)).bind f = f (zS c (va_up td (1 + r) (va_up (td (1 + r)) (nx i) x)) lw rw bf kp st ln rd rl rn ms sc mc fa pm xl pc rt ra ch ow ou B) := by
  have hl : lo (47 + r) = (0, 1 + r, 3) := lo_aSg r h
  rw [b_stI (cl_aSg h) hi f]
  refine congrArg f (Prod.ext ?_ rfl)
  have h9 := zG_st (c := c) (M := Mf td lw rw bf kp st ln rd rl rn ms sc mc fa) (M' := Mf (va_up td (1 + r) (va_up (td (1 + r)) (nx i) x)) lw rw bf kp st ln rd rl rn ms sc mc fa) (pm := pm) (xl := xl) (pc := pc) (rt := rt) (ra := ra) (ch := ch) (ow := ow) (ou := ou) (B := B) (d := 47 + r) (row := va_up (td (1 + r)) (nx i) x) (by unfold zFx; omega) (by rw [hl]; show (3 : Nat) ≠ 0; decide) (by rw [hl]; exact vu_same _ _ _) (fun g q h => ?_)
  · rw [hl, if_neg (by omega)] at h9
    exact h9
  · rw [hl] at h
    have h' : ¬ (g = 0 ∧ q = 1 + r) := h
    unfold Mf
    split <;> first | rfl | exact vu_ne (fun h3 => h' ⟨rfl, h3⟩)
theorem ln_aSg {α : Type} {r : Nat} (h : r < 7) (f : Int32 → Option α) : (oLen (some (aSg c r)) (zS c td lw rw bf kp st ln rd rl rn ms sc mc fa pm xl pc rt ra ch ow ou B)).bind f = f (iv 3) := b_len (cl_aSg h) f
theorem cl_aSgs : (zS c td lw rw bf kp st ln rd rl rn ms sc mc fa pm xl pc rt ra ch ow ou B).1 (aSgs c) = some (true, .inr (5, 7, .inr (.inr (.inr (.inr (fun j => some (aSg c j))))))) := by
  refine (zG_at (d := 46) (by unfold zFx; omega)).trans ?_
  have hf : (fun j => some (c + 46 + 1 + j)) = (fun j => some (aSg c j)) := by funext j; unfold aSg; congr 1; omega
  show some (true, Sum.inr (5, 7, Sum.inr (Sum.inr (Sum.inr (Sum.inr (fun j => some (c + 46 + 1 + j))))))) = _
  rw [hf]
theorem ld_aSgs {α : Type} {i : Int32} (hi : okx i 7) (f : Option Nat → Option α) : (oLdR 5 (some (aSgs c)) i (zS c td lw rw bf kp st ln rd rl rn ms sc mc fa pm xl pc rt ra ch ow ou B)).bind f = f (some (aSg c (nx i))) := b_ldR cl_aSgs hi f
theorem lo_aRNt : ∀ r, r < 20 → lo (55 + r) = (7, 8 + r, 2) := by decide +kernel
theorem cl_aRNt {r : Nat} (h : r < 20) : (zS c td lw rw bf kp st ln rd rl rn ms sc mc fa pm xl pc rt ra ch ow ou B).1 (aRNt c r) = some (true, .inr (0, 2, .inl (rd (8 + r)))) := by
  have hl : lo (55 + r) = (7, 8 + r, 2) := lo_aRNt r h
  refine (zG_at (d := 55 + r) (by unfold zFx; omega)).trans ?_
  unfold zCell
  rw [if_pos (by rw [hl]; show (2 : Nat) ≠ 0; decide), hl, if_neg (by omega)]
  rfl
theorem ld_aRNt {α : Type} {r : Nat} {i : Int32} (h : r < 20) (hi : okx i 2) (f : Int32 → Option α) : (oLdI 0 (some (aRNt c r)) i (zS c td lw rw bf kp st ln rd rl rn ms sc mc fa pm xl pc rt ra ch ow ou B)).bind f = f (rd (8 + r) (nx i)) := b_ldI (cl_aRNt h) hi f
theorem st_aRNt {α : Type} {r : Nat} {i x : Int32} (h : r < 20) (hi : okx i 2) (f : gS → Option α) : (oStI 0 (some (aRNt c r)) i x (zS c td lw rw bf kp st ln rd rl rn ms sc mc fa pm xl pc rt ra ch ow ou B)).bind f = f (zS c td lw rw bf kp st ln (va_up rd (8 + r) (va_up (rd (8 + r)) (nx i) x)) rl rn ms sc mc fa pm xl pc rt ra ch ow ou B) := by
  have hl : lo (55 + r) = (7, 8 + r, 2) := lo_aRNt r h
  rw [b_stI (cl_aRNt h) hi f]
  refine congrArg f (Prod.ext ?_ rfl)
  have h9 := zG_st (c := c) (M := Mf td lw rw bf kp st ln rd rl rn ms sc mc fa) (M' := Mf td lw rw bf kp st ln (va_up rd (8 + r) (va_up (rd (8 + r)) (nx i) x)) rl rn ms sc mc fa) (pm := pm) (xl := xl) (pc := pc) (rt := rt) (ra := ra) (ch := ch) (ow := ow) (ou := ou) (B := B) (d := 55 + r) (row := va_up (rd (8 + r)) (nx i) x) (by unfold zFx; omega) (by rw [hl]; show (2 : Nat) ≠ 0; decide) (by rw [hl]; exact vu_same _ _ _) (fun g q h => ?_)
  · rw [hl, if_neg (by omega)] at h9
    exact h9
  · rw [hl] at h
    have h' : ¬ (g = 7 ∧ q = 8 + r) := h
    unfold Mf
    split <;> first | rfl | exact vu_ne (fun h3 => h' ⟨rfl, h3⟩)
theorem ln_aRNt {α : Type} {r : Nat} (h : r < 20) (f : Int32 → Option α) : (oLen (some (aRNt c r)) (zS c td lw rw bf kp st ln rd rl rn ms sc mc fa pm xl pc rt ra ch ow ou B)).bind f = f (iv 2) := b_len (cl_aRNt h) f
theorem cl_aRNts : (zS c td lw rw bf kp st ln rd rl rn ms sc mc fa pm xl pc rt ra ch ow ou B).1 (aRNts c) = some (true, .inr (5, 20, .inr (.inr (.inr (.inr (fun j => some (aRNt c j))))))) := by
  refine (zG_at (d := 54) (by unfold zFx; omega)).trans ?_
  have hf : (fun j => some (c + 54 + 1 + j)) = (fun j => some (aRNt c j)) := by funext j; unfold aRNt; congr 1; omega
  show some (true, Sum.inr (5, 20, Sum.inr (Sum.inr (Sum.inr (Sum.inr (fun j => some (c + 54 + 1 + j))))))) = _
  rw [hf]
theorem ld_aRNts {α : Type} {i : Int32} (hi : okx i 20) (f : Option Nat → Option α) : (oLdR 5 (some (aRNts c)) i (zS c td lw rw bf kp st ln rd rl rn ms sc mc fa pm xl pc rt ra ch ow ou B)).bind f = f (some (aRNt c (nx i))) := b_ldR cl_aRNts hi f
theorem lo_aNt : ∀ r, r < 20 → lo (76 + r) = (0, 8 + r, 2) := by decide +kernel
theorem cl_aNt {r : Nat} (h : r < 20) : (zS c td lw rw bf kp st ln rd rl rn ms sc mc fa pm xl pc rt ra ch ow ou B).1 (aNt c r) = some (true, .inr (0, 2, .inl (td (8 + r)))) := by
  have hl : lo (76 + r) = (0, 8 + r, 2) := lo_aNt r h
  refine (zG_at (d := 76 + r) (by unfold zFx; omega)).trans ?_
  unfold zCell
  rw [if_pos (by rw [hl]; show (2 : Nat) ≠ 0; decide), hl, if_neg (by omega)]
  rfl
theorem ld_aNt {α : Type} {r : Nat} {i : Int32} (h : r < 20) (hi : okx i 2) (f : Int32 → Option α) : (oLdI 0 (some (aNt c r)) i (zS c td lw rw bf kp st ln rd rl rn ms sc mc fa pm xl pc rt ra ch ow ou B)).bind f = f (td (8 + r) (nx i)) := b_ldI (cl_aNt h) hi f
theorem st_aNt {α : Type} {r : Nat} {i x : Int32} (h : r < 20) (hi : okx i 2) (f : gS → Option α) : (oStI 0 (some (aNt c r)) i x (zS c td lw rw bf kp st ln rd rl rn ms sc mc fa pm xl pc rt ra ch ow ou B)).bind f = f (zS c (va_up td (8 + r) (va_up (td (8 + r)) (nx i) x)) lw rw bf kp st ln rd rl rn ms sc mc fa pm xl pc rt ra ch ow ou B) := by
  have hl : lo (76 + r) = (0, 8 + r, 2) := lo_aNt r h
  rw [b_stI (cl_aNt h) hi f]
  refine congrArg f (Prod.ext ?_ rfl)
  have h9 := zG_st (c := c) (M := Mf td lw rw bf kp st ln rd rl rn ms sc mc fa) (M' := Mf (va_up td (8 + r) (va_up (td (8 + r)) (nx i) x)) lw rw bf kp st ln rd rl rn ms sc mc fa) (pm := pm) (xl := xl) (pc := pc) (rt := rt) (ra := ra) (ch := ch) (ow := ow) (ou := ou) (B := B) (d := 76 + r) (row := va_up (td (8 + r)) (nx i) x) (by unfold zFx; omega) (by rw [hl]; show (2 : Nat) ≠ 0; decide) (by rw [hl]; exact vu_same _ _ _) (fun g q h => ?_)
  · rw [hl, if_neg (by omega)] at h9
    exact h9
  · rw [hl] at h
    have h' : ¬ (g = 0 ∧ q = 8 + r) := h
    unfold Mf
    split <;> first | rfl | exact vu_ne (fun h3 => h' ⟨rfl, h3⟩)
theorem ln_aNt {α : Type} {r : Nat} (h : r < 20) (f : Int32 → Option α) : (oLen (some (aNt c r)) (zS c td lw rw bf kp st ln rd rl rn ms sc mc fa pm xl pc rt ra ch ow ou B)).bind f = f (iv 2) := b_len (cl_aNt h) f
theorem cl_aNts : (zS c td lw rw bf kp st ln rd rl rn ms sc mc fa pm xl pc rt ra ch ow ou B).1 (aNts c) = some (true, .inr (5, 20, .inr (.inr (.inr (.inr (fun j => some (aNt c j))))))) := by
  refine (zG_at (d := 75) (by unfold zFx; omega)).trans ?_
  have hf : (fun j => some (c + 75 + 1 + j)) = (fun j => some (aNt c j)) := by funext j; unfold aNt; congr 1; omega
  show some (true, Sum.inr (5, 20, Sum.inr (Sum.inr (Sum.inr (Sum.inr (fun j => some (c + 75 + 1 + j))))))) = _
  rw [hf]
theorem ld_aNts {α : Type} {i : Int32} (hi : okx i 20) (f : Option Nat → Option α) : (oLdR 5 (some (aNts c)) i (zS c td lw rw bf kp st ln rd rl rn ms sc mc fa pm xl pc rt ra ch ow ou B)).bind f = f (some (aNt c (nx i))) := b_ldR cl_aNts hi f
theorem lo_aRLk : ∀ r, r < 12 → lo (97 + r) = (7, 28 + r, 2) := by decide +kernel
theorem cl_aRLk {r : Nat} (h : r < 12) : (zS c td lw rw bf kp st ln rd rl rn ms sc mc fa pm xl pc rt ra ch ow ou B).1 (aRLk c r) = some (true, .inr (0, 2, .inl (rd (28 + r)))) := by
  have hl : lo (97 + r) = (7, 28 + r, 2) := lo_aRLk r h
  refine (zG_at (d := 97 + r) (by unfold zFx; omega)).trans ?_
  unfold zCell
  rw [if_pos (by rw [hl]; show (2 : Nat) ≠ 0; decide), hl, if_neg (by omega)]
  rfl
theorem ld_aRLk {α : Type} {r : Nat} {i : Int32} (h : r < 12) (hi : okx i 2) (f : Int32 → Option α) : (oLdI 0 (some (aRLk c r)) i (zS c td lw rw bf kp st ln rd rl rn ms sc mc fa pm xl pc rt ra ch ow ou B)).bind f = f (rd (28 + r) (nx i)) := b_ldI (cl_aRLk h) hi f
theorem st_aRLk {α : Type} {r : Nat} {i x : Int32} (h : r < 12) (hi : okx i 2) (f : gS → Option α) : (oStI 0 (some (aRLk c r)) i x (zS c td lw rw bf kp st ln rd rl rn ms sc mc fa pm xl pc rt ra ch ow ou B)).bind f = f (zS c td lw rw bf kp st ln (va_up rd (28 + r) (va_up (rd (28 + r)) (nx i) x)) rl rn ms sc mc fa pm xl pc rt ra ch ow ou B) := by
  have hl : lo (97 + r) = (7, 28 + r, 2) := lo_aRLk r h
  rw [b_stI (cl_aRLk h) hi f]
  refine congrArg f (Prod.ext ?_ rfl)
  have h9 := zG_st (c := c) (M := Mf td lw rw bf kp st ln rd rl rn ms sc mc fa) (M' := Mf td lw rw bf kp st ln (va_up rd (28 + r) (va_up (rd (28 + r)) (nx i) x)) rl rn ms sc mc fa) (pm := pm) (xl := xl) (pc := pc) (rt := rt) (ra := ra) (ch := ch) (ow := ow) (ou := ou) (B := B) (d := 97 + r) (row := va_up (rd (28 + r)) (nx i) x) (by unfold zFx; omega) (by rw [hl]; show (2 : Nat) ≠ 0; decide) (by rw [hl]; exact vu_same _ _ _) (fun g q h => ?_)
  · rw [hl, if_neg (by omega)] at h9
    exact h9
  · rw [hl] at h
    have h' : ¬ (g = 7 ∧ q = 28 + r) := h
    unfold Mf
    split <;> first | rfl | exact vu_ne (fun h3 => h' ⟨rfl, h3⟩)
theorem ln_aRLk {α : Type} {r : Nat} (h : r < 12) (f : Int32 → Option α) : (oLen (some (aRLk c r)) (zS c td lw rw bf kp st ln rd rl rn ms sc mc fa pm xl pc rt ra ch ow ou B)).bind f = f (iv 2) := b_len (cl_aRLk h) f
theorem cl_aRLks : (zS c td lw rw bf kp st ln rd rl rn ms sc mc fa pm xl pc rt ra ch ow ou B).1 (aRLks c) = some (true, .inr (5, 12, .inr (.inr (.inr (.inr (fun j => some (aRLk c j))))))) := by
  refine (zG_at (d := 96) (by unfold zFx; omega)).trans ?_
  have hf : (fun j => some (c + 96 + 1 + j)) = (fun j => some (aRLk c j)) := by funext j; unfold aRLk; congr 1; omega
  show some (true, Sum.inr (5, 12, Sum.inr (Sum.inr (Sum.inr (Sum.inr (fun j => some (c + 96 + 1 + j))))))) = _
  rw [hf]
theorem ld_aRLks {α : Type} {i : Int32} (hi : okx i 12) (f : Option Nat → Option α) : (oLdR 5 (some (aRLks c)) i (zS c td lw rw bf kp st ln rd rl rn ms sc mc fa pm xl pc rt ra ch ow ou B)).bind f = f (some (aRLk c (nx i))) := b_ldR cl_aRLks hi f
theorem lo_aLk : ∀ r, r < 12 → lo (110 + r) = (0, 28 + r, 2) := by decide +kernel
theorem cl_aLk {r : Nat} (h : r < 12) : (zS c td lw rw bf kp st ln rd rl rn ms sc mc fa pm xl pc rt ra ch ow ou B).1 (aLk c r) = some (true, .inr (0, 2, .inl (td (28 + r)))) := by
  have hl : lo (110 + r) = (0, 28 + r, 2) := lo_aLk r h
  refine (zG_at (d := 110 + r) (by unfold zFx; omega)).trans ?_
  unfold zCell
  rw [if_pos (by rw [hl]; show (2 : Nat) ≠ 0; decide), hl, if_neg (by omega)]
  rfl
theorem ld_aLk {α : Type} {r : Nat} {i : Int32} (h : r < 12) (hi : okx i 2) (f : Int32 → Option α) : (oLdI 0 (some (aLk c r)) i (zS c td lw rw bf kp st ln rd rl rn ms sc mc fa pm xl pc rt ra ch ow ou B)).bind f = f (td (28 + r) (nx i)) := b_ldI (cl_aLk h) hi f
theorem st_aLk {α : Type} {r : Nat} {i x : Int32} (h : r < 12) (hi : okx i 2) (f : gS → Option α) : (oStI 0 (some (aLk c r)) i x (zS c td lw rw bf kp st ln rd rl rn ms sc mc fa pm xl pc rt ra ch ow ou B)).bind f = f (zS c (va_up td (28 + r) (va_up (td (28 + r)) (nx i) x)) lw rw bf kp st ln rd rl rn ms sc mc fa pm xl pc rt ra ch ow ou B) := by
  have hl : lo (110 + r) = (0, 28 + r, 2) := lo_aLk r h
  rw [b_stI (cl_aLk h) hi f]
  refine congrArg f (Prod.ext ?_ rfl)
  have h9 := zG_st (c := c) (M := Mf td lw rw bf kp st ln rd rl rn ms sc mc fa) (M' := Mf (va_up td (28 + r) (va_up (td (28 + r)) (nx i) x)) lw rw bf kp st ln rd rl rn ms sc mc fa) (pm := pm) (xl := xl) (pc := pc) (rt := rt) (ra := ra) (ch := ch) (ow := ow) (ou := ou) (B := B) (d := 110 + r) (row := va_up (td (28 + r)) (nx i) x) (by unfold zFx; omega) (by rw [hl]; show (2 : Nat) ≠ 0; decide) (by rw [hl]; exact vu_same _ _ _) (fun g q h => ?_)
  · rw [hl, if_neg (by omega)] at h9
    exact h9
  · rw [hl] at h
    have h' : ¬ (g = 0 ∧ q = 28 + r) := h
    unfold Mf
    split <;> first | rfl | exact vu_ne (fun h3 => h' ⟨rfl, h3⟩)
theorem ln_aLk {α : Type} {r : Nat} (h : r < 12) (f : Int32 → Option α) : (oLen (some (aLk c r)) (zS c td lw rw bf kp st ln rd rl rn ms sc mc fa pm xl pc rt ra ch ow ou B)).bind f = f (iv 2) := b_len (cl_aLk h) f
theorem cl_aLks : (zS c td lw rw bf kp st ln rd rl rn ms sc mc fa pm xl pc rt ra ch ow ou B).1 (aLks c) = some (true, .inr (5, 12, .inr (.inr (.inr (.inr (fun j => some (aLk c j))))))) := by
  refine (zG_at (d := 109) (by unfold zFx; omega)).trans ?_
  have hf : (fun j => some (c + 109 + 1 + j)) = (fun j => some (aLk c j)) := by funext j; unfold aLk; congr 1; omega
  show some (true, Sum.inr (5, 12, Sum.inr (Sum.inr (Sum.inr (Sum.inr (fun j => some (c + 109 + 1 + j))))))) = _
  rw [hf]
theorem ld_aLks {α : Type} {i : Int32} (hi : okx i 12) (f : Option Nat → Option α) : (oLdR 5 (some (aLks c)) i (zS c td lw rw bf kp st ln rd rl rn ms sc mc fa pm xl pc rt ra ch ow ou B)).bind f = f (some (aLk c (nx i))) := b_ldR cl_aLks hi f
theorem lo_aLw : ∀ r, r < 160 → lo (123 + r) = (1, r, 2) := by decide +kernel
theorem cl_aLw {r : Nat} (h : r < 160) : (zS c td lw rw bf kp st ln rd rl rn ms sc mc fa pm xl pc rt ra ch ow ou B).1 (aLw c r) = some (true, .inr (0, 2, .inl (lw (r)))) := by
  have hl : lo (123 + r) = (1, r, 2) := lo_aLw r h
  refine (zG_at (d := 123 + r) (by unfold zFx; omega)).trans ?_
  unfold zCell
  rw [if_pos (by rw [hl]; show (2 : Nat) ≠ 0; decide), hl, if_neg (by omega)]
  rfl
theorem ld_aLw {α : Type} {r : Nat} {i : Int32} (h : r < 160) (hi : okx i 2) (f : Int32 → Option α) : (oLdI 0 (some (aLw c r)) i (zS c td lw rw bf kp st ln rd rl rn ms sc mc fa pm xl pc rt ra ch ow ou B)).bind f = f (lw (r) (nx i)) := b_ldI (cl_aLw h) hi f
theorem st_aLw {α : Type} {r : Nat} {i x : Int32} (h : r < 160) (hi : okx i 2) (f : gS → Option α) : (oStI 0 (some (aLw c r)) i x (zS c td lw rw bf kp st ln rd rl rn ms sc mc fa pm xl pc rt ra ch ow ou B)).bind f = f (zS c td (va_up lw (r) (va_up (lw (r)) (nx i) x)) rw bf kp st ln rd rl rn ms sc mc fa pm xl pc rt ra ch ow ou B) := by
  have hl : lo (123 + r) = (1, r, 2) := lo_aLw r h
  rw [b_stI (cl_aLw h) hi f]
  refine congrArg f (Prod.ext ?_ rfl)
  have h9 := zG_st (c := c) (M := Mf td lw rw bf kp st ln rd rl rn ms sc mc fa) (M' := Mf td (va_up lw (r) (va_up (lw (r)) (nx i) x)) rw bf kp st ln rd rl rn ms sc mc fa) (pm := pm) (xl := xl) (pc := pc) (rt := rt) (ra := ra) (ch := ch) (ow := ow) (ou := ou) (B := B) (d := 123 + r) (row := va_up (lw (r)) (nx i) x) (by unfold zFx; omega) (by rw [hl]; show (2 : Nat) ≠ 0; decide) (by rw [hl]; exact vu_same _ _ _) (fun g q h => ?_)
  · rw [hl, if_neg (by omega)] at h9
    exact h9
  · rw [hl] at h
    have h' : ¬ (g = 1 ∧ q = r) := h
    unfold Mf
    split <;> first | rfl | exact vu_ne (fun h3 => h' ⟨rfl, h3⟩)
theorem ln_aLw {α : Type} {r : Nat} (h : r < 160) (f : Int32 → Option α) : (oLen (some (aLw c r)) (zS c td lw rw bf kp st ln rd rl rn ms sc mc fa pm xl pc rt ra ch ow ou B)).bind f = f (iv 2) := b_len (cl_aLw h) f
theorem cl_aLws : (zS c td lw rw bf kp st ln rd rl rn ms sc mc fa pm xl pc rt ra ch ow ou B).1 (aLws c) = some (true, .inr (5, 160, .inr (.inr (.inr (.inr (fun j => some (aLw c j))))))) := by
  refine (zG_at (d := 122) (by unfold zFx; omega)).trans ?_
  have hf : (fun j => some (c + 122 + 1 + j)) = (fun j => some (aLw c j)) := by funext j; unfold aLw; congr 1; omega
  show some (true, Sum.inr (5, 160, Sum.inr (Sum.inr (Sum.inr (Sum.inr (fun j => some (c + 122 + 1 + j))))))) = _
  rw [hf]
theorem ld_aLws {α : Type} {i : Int32} (hi : okx i 160) (f : Option Nat → Option α) : (oLdR 5 (some (aLws c)) i (zS c td lw rw bf kp st ln rd rl rn ms sc mc fa pm xl pc rt ra ch ow ou B)).bind f = f (some (aLw c (nx i))) := b_ldR cl_aLws hi f
theorem lo_aRLw : ∀ r, r < 160 → lo (284 + r) = (8, r, 2) := by decide +kernel
theorem cl_aRLw {r : Nat} (h : r < 160) : (zS c td lw rw bf kp st ln rd rl rn ms sc mc fa pm xl pc rt ra ch ow ou B).1 (aRLw c r) = some (true, .inr (0, 2, .inl (rl (r)))) := by
  have hl : lo (284 + r) = (8, r, 2) := lo_aRLw r h
  refine (zG_at (d := 284 + r) (by unfold zFx; omega)).trans ?_
  unfold zCell
  rw [if_pos (by rw [hl]; show (2 : Nat) ≠ 0; decide), hl, if_neg (by omega)]
  rfl
theorem ld_aRLw {α : Type} {r : Nat} {i : Int32} (h : r < 160) (hi : okx i 2) (f : Int32 → Option α) : (oLdI 0 (some (aRLw c r)) i (zS c td lw rw bf kp st ln rd rl rn ms sc mc fa pm xl pc rt ra ch ow ou B)).bind f = f (rl (r) (nx i)) := b_ldI (cl_aRLw h) hi f
theorem st_aRLw {α : Type} {r : Nat} {i x : Int32} (h : r < 160) (hi : okx i 2) (f : gS → Option α) : (oStI 0 (some (aRLw c r)) i x (zS c td lw rw bf kp st ln rd rl rn ms sc mc fa pm xl pc rt ra ch ow ou B)).bind f = f (zS c td lw rw bf kp st ln rd (va_up rl (r) (va_up (rl (r)) (nx i) x)) rn ms sc mc fa pm xl pc rt ra ch ow ou B) := by
  have hl : lo (284 + r) = (8, r, 2) := lo_aRLw r h
  rw [b_stI (cl_aRLw h) hi f]
  refine congrArg f (Prod.ext ?_ rfl)
  have h9 := zG_st (c := c) (M := Mf td lw rw bf kp st ln rd rl rn ms sc mc fa) (M' := Mf td lw rw bf kp st ln rd (va_up rl (r) (va_up (rl (r)) (nx i) x)) rn ms sc mc fa) (pm := pm) (xl := xl) (pc := pc) (rt := rt) (ra := ra) (ch := ch) (ow := ow) (ou := ou) (B := B) (d := 284 + r) (row := va_up (rl (r)) (nx i) x) (by unfold zFx; omega) (by rw [hl]; show (2 : Nat) ≠ 0; decide) (by rw [hl]; exact vu_same _ _ _) (fun g q h => ?_)
  · rw [hl, if_neg (by omega)] at h9
    exact h9
  · rw [hl] at h
    have h' : ¬ (g = 8 ∧ q = r) := h
    unfold Mf
    split <;> first | rfl | exact vu_ne (fun h3 => h' ⟨rfl, h3⟩)
theorem ln_aRLw {α : Type} {r : Nat} (h : r < 160) (f : Int32 → Option α) : (oLen (some (aRLw c r)) (zS c td lw rw bf kp st ln rd rl rn ms sc mc fa pm xl pc rt ra ch ow ou B)).bind f = f (iv 2) := b_len (cl_aRLw h) f
theorem cl_aRLws : (zS c td lw rw bf kp st ln rd rl rn ms sc mc fa pm xl pc rt ra ch ow ou B).1 (aRLws c) = some (true, .inr (5, 160, .inr (.inr (.inr (.inr (fun j => some (aRLw c j))))))) := by
  refine (zG_at (d := 283) (by unfold zFx; omega)).trans ?_
  have hf : (fun j => some (c + 283 + 1 + j)) = (fun j => some (aRLw c j)) := by funext j; unfold aRLw; congr 1; omega
  show some (true, Sum.inr (5, 160, Sum.inr (Sum.inr (Sum.inr (Sum.inr (fun j => some (c + 283 + 1 + j))))))) = _
  rw [hf]
theorem ld_aRLws {α : Type} {i : Int32} (hi : okx i 160) (f : Option Nat → Option α) : (oLdR 5 (some (aRLws c)) i (zS c td lw rw bf kp st ln rd rl rn ms sc mc fa pm xl pc rt ra ch ow ou B)).bind f = f (some (aRLw c (nx i))) := b_ldR cl_aRLws hi f
theorem lo_aLn : ∀ r, r < 20 → lo (445 + r) = (6, r, 2) := by decide +kernel
theorem cl_aLn {r : Nat} (h : r < 20) : (zS c td lw rw bf kp st ln rd rl rn ms sc mc fa pm xl pc rt ra ch ow ou B).1 (aLn c r) = some (true, .inr (0, 2, .inl (ln (r)))) := by
  have hl : lo (445 + r) = (6, r, 2) := lo_aLn r h
  refine (zG_at (d := 445 + r) (by unfold zFx; omega)).trans ?_
  unfold zCell
  rw [if_pos (by rw [hl]; show (2 : Nat) ≠ 0; decide), hl, if_neg (by omega)]
  rfl
theorem ld_aLn {α : Type} {r : Nat} {i : Int32} (h : r < 20) (hi : okx i 2) (f : Int32 → Option α) : (oLdI 0 (some (aLn c r)) i (zS c td lw rw bf kp st ln rd rl rn ms sc mc fa pm xl pc rt ra ch ow ou B)).bind f = f (ln (r) (nx i)) := b_ldI (cl_aLn h) hi f
theorem st_aLn {α : Type} {r : Nat} {i x : Int32} (h : r < 20) (hi : okx i 2) (f : gS → Option α) : (oStI 0 (some (aLn c r)) i x (zS c td lw rw bf kp st ln rd rl rn ms sc mc fa pm xl pc rt ra ch ow ou B)).bind f = f (zS c td lw rw bf kp st (va_up ln (r) (va_up (ln (r)) (nx i) x)) rd rl rn ms sc mc fa pm xl pc rt ra ch ow ou B) := by
  have hl : lo (445 + r) = (6, r, 2) := lo_aLn r h
  rw [b_stI (cl_aLn h) hi f]
  refine congrArg f (Prod.ext ?_ rfl)
  have h9 := zG_st (c := c) (M := Mf td lw rw bf kp st ln rd rl rn ms sc mc fa) (M' := Mf td lw rw bf kp st (va_up ln (r) (va_up (ln (r)) (nx i) x)) rd rl rn ms sc mc fa) (pm := pm) (xl := xl) (pc := pc) (rt := rt) (ra := ra) (ch := ch) (ow := ow) (ou := ou) (B := B) (d := 445 + r) (row := va_up (ln (r)) (nx i) x) (by unfold zFx; omega) (by rw [hl]; show (2 : Nat) ≠ 0; decide) (by rw [hl]; exact vu_same _ _ _) (fun g q h => ?_)
  · rw [hl, if_neg (by omega)] at h9
    exact h9
  · rw [hl] at h
    have h' : ¬ (g = 6 ∧ q = r) := h
    unfold Mf
    split <;> first | rfl | exact vu_ne (fun h3 => h' ⟨rfl, h3⟩)
theorem ln_aLn {α : Type} {r : Nat} (h : r < 20) (f : Int32 → Option α) : (oLen (some (aLn c r)) (zS c td lw rw bf kp st ln rd rl rn ms sc mc fa pm xl pc rt ra ch ow ou B)).bind f = f (iv 2) := b_len (cl_aLn h) f
theorem cl_aLns : (zS c td lw rw bf kp st ln rd rl rn ms sc mc fa pm xl pc rt ra ch ow ou B).1 (aLns c) = some (true, .inr (5, 20, .inr (.inr (.inr (.inr (fun j => some (aLn c j))))))) := by
  refine (zG_at (d := 444) (by unfold zFx; omega)).trans ?_
  have hf : (fun j => some (c + 444 + 1 + j)) = (fun j => some (aLn c j)) := by funext j; unfold aLn; congr 1; omega
  show some (true, Sum.inr (5, 20, Sum.inr (Sum.inr (Sum.inr (Sum.inr (fun j => some (c + 444 + 1 + j))))))) = _
  rw [hf]
theorem ld_aLns {α : Type} {i : Int32} (hi : okx i 20) (f : Option Nat → Option α) : (oLdR 5 (some (aLns c)) i (zS c td lw rw bf kp st ln rd rl rn ms sc mc fa pm xl pc rt ra ch ow ou B)).bind f = f (some (aLn c (nx i))) := b_ldR cl_aLns hi f
theorem lo_aRLn : ∀ r, r < 20 → lo (466 + r) = (9, r, 2) := by decide +kernel
theorem cl_aRLn {r : Nat} (h : r < 20) : (zS c td lw rw bf kp st ln rd rl rn ms sc mc fa pm xl pc rt ra ch ow ou B).1 (aRLn c r) = some (true, .inr (0, 2, .inl (rn (r)))) := by
  have hl : lo (466 + r) = (9, r, 2) := lo_aRLn r h
  refine (zG_at (d := 466 + r) (by unfold zFx; omega)).trans ?_
  unfold zCell
  rw [if_pos (by rw [hl]; show (2 : Nat) ≠ 0; decide), hl, if_neg (by omega)]
  rfl
theorem ld_aRLn {α : Type} {r : Nat} {i : Int32} (h : r < 20) (hi : okx i 2) (f : Int32 → Option α) : (oLdI 0 (some (aRLn c r)) i (zS c td lw rw bf kp st ln rd rl rn ms sc mc fa pm xl pc rt ra ch ow ou B)).bind f = f (rn (r) (nx i)) := b_ldI (cl_aRLn h) hi f
theorem st_aRLn {α : Type} {r : Nat} {i x : Int32} (h : r < 20) (hi : okx i 2) (f : gS → Option α) : (oStI 0 (some (aRLn c r)) i x (zS c td lw rw bf kp st ln rd rl rn ms sc mc fa pm xl pc rt ra ch ow ou B)).bind f = f (zS c td lw rw bf kp st ln rd rl (va_up rn (r) (va_up (rn (r)) (nx i) x)) ms sc mc fa pm xl pc rt ra ch ow ou B) := by
  have hl : lo (466 + r) = (9, r, 2) := lo_aRLn r h
  rw [b_stI (cl_aRLn h) hi f]
  refine congrArg f (Prod.ext ?_ rfl)
  have h9 := zG_st (c := c) (M := Mf td lw rw bf kp st ln rd rl rn ms sc mc fa) (M' := Mf td lw rw bf kp st ln rd rl (va_up rn (r) (va_up (rn (r)) (nx i) x)) ms sc mc fa) (pm := pm) (xl := xl) (pc := pc) (rt := rt) (ra := ra) (ch := ch) (ow := ow) (ou := ou) (B := B) (d := 466 + r) (row := va_up (rn (r)) (nx i) x) (by unfold zFx; omega) (by rw [hl]; show (2 : Nat) ≠ 0; decide) (by rw [hl]; exact vu_same _ _ _) (fun g q h => ?_)
  · rw [hl, if_neg (by omega)] at h9
    exact h9
  · rw [hl] at h
    have h' : ¬ (g = 9 ∧ q = r) := h
    unfold Mf
    split <;> first | rfl | exact vu_ne (fun h3 => h' ⟨rfl, h3⟩)
theorem ln_aRLn {α : Type} {r : Nat} (h : r < 20) (f : Int32 → Option α) : (oLen (some (aRLn c r)) (zS c td lw rw bf kp st ln rd rl rn ms sc mc fa pm xl pc rt ra ch ow ou B)).bind f = f (iv 2) := b_len (cl_aRLn h) f
theorem cl_aRLns : (zS c td lw rw bf kp st ln rd rl rn ms sc mc fa pm xl pc rt ra ch ow ou B).1 (aRLns c) = some (true, .inr (5, 20, .inr (.inr (.inr (.inr (fun j => some (aRLn c j))))))) := by
  refine (zG_at (d := 465) (by unfold zFx; omega)).trans ?_
  have hf : (fun j => some (c + 465 + 1 + j)) = (fun j => some (aRLn c j)) := by funext j; unfold aRLn; congr 1; omega
  show some (true, Sum.inr (5, 20, Sum.inr (Sum.inr (Sum.inr (Sum.inr (fun j => some (c + 465 + 1 + j))))))) = _
  rw [hf]
theorem ld_aRLns {α : Type} {i : Int32} (hi : okx i 20) (f : Option Nat → Option α) : (oLdR 5 (some (aRLns c)) i (zS c td lw rw bf kp st ln rd rl rn ms sc mc fa pm xl pc rt ra ch ow ou B)).bind f = f (some (aRLn c (nx i))) := b_ldR cl_aRLns hi f
theorem lo_aStp : ∀ r, r < 80 → lo (489 + r) = (5, r, 4) := by decide +kernel
theorem cl_aStp {r : Nat} (h : r < 80) : (zS c td lw rw bf kp st ln rd rl rn ms sc mc fa pm xl pc rt ra ch ow ou B).1 (aStp c r) = some (true, .inr (0, 4, .inl (st (r)))) := by
  have hl : lo (489 + r) = (5, r, 4) := lo_aStp r h
  refine (zG_at (d := 489 + r) (by unfold zFx; omega)).trans ?_
  unfold zCell
  rw [if_pos (by rw [hl]; show (4 : Nat) ≠ 0; decide), hl, if_neg (by omega)]
  rfl
theorem ld_aStp {α : Type} {r : Nat} {i : Int32} (h : r < 80) (hi : okx i 4) (f : Int32 → Option α) : (oLdI 0 (some (aStp c r)) i (zS c td lw rw bf kp st ln rd rl rn ms sc mc fa pm xl pc rt ra ch ow ou B)).bind f = f (st (r) (nx i)) := b_ldI (cl_aStp h) hi f
theorem st_aStp {α : Type} {r : Nat} {i x : Int32} (h : r < 80) (hi : okx i 4) (f : gS → Option α) : (oStI 0 (some (aStp c r)) i x (zS c td lw rw bf kp st ln rd rl rn ms sc mc fa pm xl pc rt ra ch ow ou B)).bind f = f (zS c td lw rw bf kp (va_up st (r) (va_up (st (r)) (nx i) x)) ln rd rl rn ms sc mc fa pm xl pc rt ra ch ow ou B) := by
  have hl : lo (489 + r) = (5, r, 4) := lo_aStp r h
  rw [b_stI (cl_aStp h) hi f]
  refine congrArg f (Prod.ext ?_ rfl)
  have h9 := zG_st (c := c) (M := Mf td lw rw bf kp st ln rd rl rn ms sc mc fa) (M' := Mf td lw rw bf kp (va_up st (r) (va_up (st (r)) (nx i) x)) ln rd rl rn ms sc mc fa) (pm := pm) (xl := xl) (pc := pc) (rt := rt) (ra := ra) (ch := ch) (ow := ow) (ou := ou) (B := B) (d := 489 + r) (row := va_up (st (r)) (nx i) x) (by unfold zFx; omega) (by rw [hl]; show (4 : Nat) ≠ 0; decide) (by rw [hl]; exact vu_same _ _ _) (fun g q h => ?_)
  · rw [hl, if_neg (by omega)] at h9
    exact h9
  · rw [hl] at h
    have h' : ¬ (g = 5 ∧ q = r) := h
    unfold Mf
    split <;> first | rfl | exact vu_ne (fun h3 => h' ⟨rfl, h3⟩)
theorem ln_aStp {α : Type} {r : Nat} (h : r < 80) (f : Int32 → Option α) : (oLen (some (aStp c r)) (zS c td lw rw bf kp st ln rd rl rn ms sc mc fa pm xl pc rt ra ch ow ou B)).bind f = f (iv 4) := b_len (cl_aStp h) f
theorem cl_aStps : (zS c td lw rw bf kp st ln rd rl rn ms sc mc fa pm xl pc rt ra ch ow ou B).1 (aStps c) = some (true, .inr (5, 80, .inr (.inr (.inr (.inr (fun j => some (aStp c j))))))) := by
  refine (zG_at (d := 488) (by unfold zFx; omega)).trans ?_
  have hf : (fun j => some (c + 488 + 1 + j)) = (fun j => some (aStp c j)) := by funext j; unfold aStp; congr 1; omega
  show some (true, Sum.inr (5, 80, Sum.inr (Sum.inr (Sum.inr (Sum.inr (fun j => some (c + 488 + 1 + j))))))) = _
  rw [hf]
theorem ld_aStps {α : Type} {i : Int32} (hi : okx i 80) (f : Option Nat → Option α) : (oLdR 5 (some (aStps c)) i (zS c td lw rw bf kp st ln rd rl rn ms sc mc fa pm xl pc rt ra ch ow ou B)).bind f = f (some (aStp c (nx i))) := b_ldR cl_aStps hi f
theorem lo_aBf : ∀ r, r < 16 → lo (572 + r) = (3, r, 57) := by decide +kernel
theorem cl_aBf {r : Nat} (h : r < 16) : (zS c td lw rw bf kp st ln rd rl rn ms sc mc fa pm xl pc rt ra ch ow ou B).1 (aBf c r) = some (true, .inr (0, 57, .inl (bf (r)))) := by
  have hl : lo (572 + r) = (3, r, 57) := lo_aBf r h
  refine (zG_at (d := 572 + r) (by unfold zFx; omega)).trans ?_
  unfold zCell
  rw [if_pos (by rw [hl]; show (57 : Nat) ≠ 0; decide), hl, if_neg (by omega)]
  rfl
theorem ld_aBf {α : Type} {r : Nat} {i : Int32} (h : r < 16) (hi : okx i 57) (f : Int32 → Option α) : (oLdI 0 (some (aBf c r)) i (zS c td lw rw bf kp st ln rd rl rn ms sc mc fa pm xl pc rt ra ch ow ou B)).bind f = f (bf (r) (nx i)) := b_ldI (cl_aBf h) hi f
theorem st_aBf {α : Type} {r : Nat} {i x : Int32} (h : r < 16) (hi : okx i 57) (f : gS → Option α) : (oStI 0 (some (aBf c r)) i x (zS c td lw rw bf kp st ln rd rl rn ms sc mc fa pm xl pc rt ra ch ow ou B)).bind f = f (zS c td lw rw (va_up bf (r) (va_up (bf (r)) (nx i) x)) kp st ln rd rl rn ms sc mc fa pm xl pc rt ra ch ow ou B) := by
  have hl : lo (572 + r) = (3, r, 57) := lo_aBf r h
  rw [b_stI (cl_aBf h) hi f]
  refine congrArg f (Prod.ext ?_ rfl)
  have h9 := zG_st (c := c) (M := Mf td lw rw bf kp st ln rd rl rn ms sc mc fa) (M' := Mf td lw rw (va_up bf (r) (va_up (bf (r)) (nx i) x)) kp st ln rd rl rn ms sc mc fa) (pm := pm) (xl := xl) (pc := pc) (rt := rt) (ra := ra) (ch := ch) (ow := ow) (ou := ou) (B := B) (d := 572 + r) (row := va_up (bf (r)) (nx i) x) (by unfold zFx; omega) (by rw [hl]; show (57 : Nat) ≠ 0; decide) (by rw [hl]; exact vu_same _ _ _) (fun g q h => ?_)
  · rw [hl, if_neg (by omega)] at h9
    exact h9
  · rw [hl] at h
    have h' : ¬ (g = 3 ∧ q = r) := h
    unfold Mf
    split <;> first | rfl | exact vu_ne (fun h3 => h' ⟨rfl, h3⟩)
theorem ln_aBf {α : Type} {r : Nat} (h : r < 16) (f : Int32 → Option α) : (oLen (some (aBf c r)) (zS c td lw rw bf kp st ln rd rl rn ms sc mc fa pm xl pc rt ra ch ow ou B)).bind f = f (iv 57) := b_len (cl_aBf h) f
theorem cl_aBfs : (zS c td lw rw bf kp st ln rd rl rn ms sc mc fa pm xl pc rt ra ch ow ou B).1 (aBfs c) = some (true, .inr (5, 16, .inr (.inr (.inr (.inr (fun j => some (aBf c j))))))) := by
  refine (zG_at (d := 571) (by unfold zFx; omega)).trans ?_
  have hf : (fun j => some (c + 571 + 1 + j)) = (fun j => some (aBf c j)) := by funext j; unfold aBf; congr 1; omega
  show some (true, Sum.inr (5, 16, Sum.inr (Sum.inr (Sum.inr (Sum.inr (fun j => some (c + 571 + 1 + j))))))) = _
  rw [hf]
theorem ld_aBfs {α : Type} {i : Int32} (hi : okx i 16) (f : Option Nat → Option α) : (oLdR 5 (some (aBfs c)) i (zS c td lw rw bf kp st ln rd rl rn ms sc mc fa pm xl pc rt ra ch ow ou B)).bind f = f (some (aBf c (nx i))) := b_ldR cl_aBfs hi f
theorem lo_aKp : ∀ r, r < 3 → lo (589 + r) = (4, r, 970) := by decide +kernel
theorem cl_aKp {r : Nat} (h : r < 3) : (zS c td lw rw bf kp st ln rd rl rn ms sc mc fa pm xl pc rt ra ch ow ou B).1 (aKp c r) = some (true, .inr (0, 970, .inl (kp (r)))) := by
  have hl : lo (589 + r) = (4, r, 970) := lo_aKp r h
  refine (zG_at (d := 589 + r) (by unfold zFx; omega)).trans ?_
  unfold zCell
  rw [if_pos (by rw [hl]; show (970 : Nat) ≠ 0; decide), hl, if_neg (by omega)]
  rfl
theorem ld_aKp {α : Type} {r : Nat} {i : Int32} (h : r < 3) (hi : okx i 970) (f : Int32 → Option α) : (oLdI 0 (some (aKp c r)) i (zS c td lw rw bf kp st ln rd rl rn ms sc mc fa pm xl pc rt ra ch ow ou B)).bind f = f (kp (r) (nx i)) := b_ldI (cl_aKp h) hi f
theorem st_aKp {α : Type} {r : Nat} {i x : Int32} (h : r < 3) (hi : okx i 970) (f : gS → Option α) : (oStI 0 (some (aKp c r)) i x (zS c td lw rw bf kp st ln rd rl rn ms sc mc fa pm xl pc rt ra ch ow ou B)).bind f = f (zS c td lw rw bf (va_up kp (r) (va_up (kp (r)) (nx i) x)) st ln rd rl rn ms sc mc fa pm xl pc rt ra ch ow ou B) := by
  have hl : lo (589 + r) = (4, r, 970) := lo_aKp r h
  rw [b_stI (cl_aKp h) hi f]
  refine congrArg f (Prod.ext ?_ rfl)
  have h9 := zG_st (c := c) (M := Mf td lw rw bf kp st ln rd rl rn ms sc mc fa) (M' := Mf td lw rw bf (va_up kp (r) (va_up (kp (r)) (nx i) x)) st ln rd rl rn ms sc mc fa) (pm := pm) (xl := xl) (pc := pc) (rt := rt) (ra := ra) (ch := ch) (ow := ow) (ou := ou) (B := B) (d := 589 + r) (row := va_up (kp (r)) (nx i) x) (by unfold zFx; omega) (by rw [hl]; show (970 : Nat) ≠ 0; decide) (by rw [hl]; exact vu_same _ _ _) (fun g q h => ?_)
  · rw [hl, if_neg (by omega)] at h9
    exact h9
  · rw [hl] at h
    have h' : ¬ (g = 4 ∧ q = r) := h
    unfold Mf
    split <;> first | rfl | exact vu_ne (fun h3 => h' ⟨rfl, h3⟩)
theorem ln_aKp {α : Type} {r : Nat} (h : r < 3) (f : Int32 → Option α) : (oLen (some (aKp c r)) (zS c td lw rw bf kp st ln rd rl rn ms sc mc fa pm xl pc rt ra ch ow ou B)).bind f = f (iv 970) := b_len (cl_aKp h) f
theorem cl_aKps : (zS c td lw rw bf kp st ln rd rl rn ms sc mc fa pm xl pc rt ra ch ow ou B).1 (aKps c) = some (true, .inr (5, 3, .inr (.inr (.inr (.inr (fun j => some (aKp c j))))))) := by
  refine (zG_at (d := 588) (by unfold zFx; omega)).trans ?_
  have hf : (fun j => some (c + 588 + 1 + j)) = (fun j => some (aKp c j)) := by funext j; unfold aKp; congr 1; omega
  show some (true, Sum.inr (5, 3, Sum.inr (Sum.inr (Sum.inr (Sum.inr (fun j => some (c + 588 + 1 + j))))))) = _
  rw [hf]
theorem ld_aKps {α : Type} {i : Int32} (hi : okx i 3) (f : Option Nat → Option α) : (oLdR 5 (some (aKps c)) i (zS c td lw rw bf kp st ln rd rl rn ms sc mc fa pm xl pc rt ra ch ow ou B)).bind f = f (some (aKp c (nx i))) := b_ldR cl_aKps hi f
theorem cl_aM : (zS c td lw rw bf kp st ln rd rl rn ms sc mc fa pm xl pc rt ra ch ow ou B).1 (aM c) = some (true, .inl (3, [.int (pm 0), .int (pm 1), .int (pm 2), .int (pm 3), .int (pm 4), .int (pm 5), .int (pm 6), .int (pm 7), .int (pm 8), .ref (c + 34), .ref (c + 35), .ref (c + 36), .ref (c + 37), .ref (c + 38), .ref (c + 46), .ref (c + 54), .ref (c + 75), .ref (c + 96), .ref (c + 109), .int (pm 19), .int (pm 20), .ref (c + 122), .ref (c + 283), .ref (c + 444), .ref (c + 465), .ref (c + 486), .ref (c + 487), .ref (c + 488), .int (pm 28), .ref (c + 569), .ref (c + 570), .ref (c + 571), .ref (c + 588), .int (pm 33), .int (pm 34), .int (pm 35), .int (pm 36), .int (pm 37), .int (pm 38), .int (pm 39), .int (pm 40), .ref (c + 592), .ref (c + 593), .int (pm 43), .ref (c + 594), .int (pm 45)])) := zG_at (d := 33) (by unfold zFx; omega)
theorem cl_aV : (zS c td lw rw bf kp st ln rd rl rn ms sc mc fa pm xl pc rt ra ch ow ou B).1 (aV c) = some (true, .inl (0, [va_rf (rt 0), va_rf (rt 1), .ref (c + 9), .ref (c + 10), .ref (c + 11), .ref (c + 12), .ref (c + 18), .ref (c + 24), .ref (c + 25), .ref (c + 26), .ref (c + 27), .int (pc 11), .int (pc 12), .int (pc 13), .int (pc 14), .int (pc 15), .int (pc 16), .int (pc 17), .ref (c + 28), .ref (c + 29), .ref (c + 30), .ref (c + 31)])) := zG_at (d := 0) (by unfold zFx; omega)
theorem gm_0 {α : Type} (f : Int32 → Option α) : (oGetI [3] 0 (some (aM c)) (zS c td lw rw bf kp st ln rd rl rn ms sc mc fa pm xl pc rt ra ch ow ou B)).bind f = f (pm 0) := b_getI cl_aM rfl rfl f
theorem pm_0 {α : Type} {x : Int32} (f : gS → Option α) : (oPut [3] 0 (some (aM c)) (.int x) (zS c td lw rw bf kp st ln rd rl rn ms sc mc fa pm xl pc rt ra ch ow ou B)).bind f = f (zS c td lw rw bf kp st ln rd rl rn ms sc mc fa (va_up pm 0 x) xl pc rt ra ch ow ou B) := by
  rw [b_put cl_aM ⟨rfl, (by decide : (0 : Nat) < 46)⟩ f]
  exact congrArg f (Prod.ext (zG_up (d := 33) (by unfold zFx; omega) rfl (fun q h => by unfold zCell; rw [if_neg h, if_neg h])) rfl)
theorem gm_1 {α : Type} (f : Int32 → Option α) : (oGetI [3] 1 (some (aM c)) (zS c td lw rw bf kp st ln rd rl rn ms sc mc fa pm xl pc rt ra ch ow ou B)).bind f = f (pm 1) := b_getI cl_aM rfl rfl f
theorem pm_1 {α : Type} {x : Int32} (f : gS → Option α) : (oPut [3] 1 (some (aM c)) (.int x) (zS c td lw rw bf kp st ln rd rl rn ms sc mc fa pm xl pc rt ra ch ow ou B)).bind f = f (zS c td lw rw bf kp st ln rd rl rn ms sc mc fa (va_up pm 1 x) xl pc rt ra ch ow ou B) := by
  rw [b_put cl_aM ⟨rfl, (by decide : (1 : Nat) < 46)⟩ f]
  exact congrArg f (Prod.ext (zG_up (d := 33) (by unfold zFx; omega) rfl (fun q h => by unfold zCell; rw [if_neg h, if_neg h])) rfl)
theorem gm_2 {α : Type} (f : Int32 → Option α) : (oGetI [3] 2 (some (aM c)) (zS c td lw rw bf kp st ln rd rl rn ms sc mc fa pm xl pc rt ra ch ow ou B)).bind f = f (pm 2) := b_getI cl_aM rfl rfl f
theorem pm_2 {α : Type} {x : Int32} (f : gS → Option α) : (oPut [3] 2 (some (aM c)) (.int x) (zS c td lw rw bf kp st ln rd rl rn ms sc mc fa pm xl pc rt ra ch ow ou B)).bind f = f (zS c td lw rw bf kp st ln rd rl rn ms sc mc fa (va_up pm 2 x) xl pc rt ra ch ow ou B) := by
  rw [b_put cl_aM ⟨rfl, (by decide : (2 : Nat) < 46)⟩ f]
  exact congrArg f (Prod.ext (zG_up (d := 33) (by unfold zFx; omega) rfl (fun q h => by unfold zCell; rw [if_neg h, if_neg h])) rfl)
theorem gm_3 {α : Type} (f : Int32 → Option α) : (oGetI [3] 3 (some (aM c)) (zS c td lw rw bf kp st ln rd rl rn ms sc mc fa pm xl pc rt ra ch ow ou B)).bind f = f (pm 3) := b_getI cl_aM rfl rfl f
theorem pm_3 {α : Type} {x : Int32} (f : gS → Option α) : (oPut [3] 3 (some (aM c)) (.int x) (zS c td lw rw bf kp st ln rd rl rn ms sc mc fa pm xl pc rt ra ch ow ou B)).bind f = f (zS c td lw rw bf kp st ln rd rl rn ms sc mc fa (va_up pm 3 x) xl pc rt ra ch ow ou B) := by
  rw [b_put cl_aM ⟨rfl, (by decide : (3 : Nat) < 46)⟩ f]
  exact congrArg f (Prod.ext (zG_up (d := 33) (by unfold zFx; omega) rfl (fun q h => by unfold zCell; rw [if_neg h, if_neg h])) rfl)
theorem gm_4 {α : Type} (f : Int32 → Option α) : (oGetI [3] 4 (some (aM c)) (zS c td lw rw bf kp st ln rd rl rn ms sc mc fa pm xl pc rt ra ch ow ou B)).bind f = f (pm 4) := b_getI cl_aM rfl rfl f
theorem pm_4 {α : Type} {x : Int32} (f : gS → Option α) : (oPut [3] 4 (some (aM c)) (.int x) (zS c td lw rw bf kp st ln rd rl rn ms sc mc fa pm xl pc rt ra ch ow ou B)).bind f = f (zS c td lw rw bf kp st ln rd rl rn ms sc mc fa (va_up pm 4 x) xl pc rt ra ch ow ou B) := by
  rw [b_put cl_aM ⟨rfl, (by decide : (4 : Nat) < 46)⟩ f]
  exact congrArg f (Prod.ext (zG_up (d := 33) (by unfold zFx; omega) rfl (fun q h => by unfold zCell; rw [if_neg h, if_neg h])) rfl)
theorem gm_5 {α : Type} (f : Int32 → Option α) : (oGetI [3] 5 (some (aM c)) (zS c td lw rw bf kp st ln rd rl rn ms sc mc fa pm xl pc rt ra ch ow ou B)).bind f = f (pm 5) := b_getI cl_aM rfl rfl f
theorem pm_5 {α : Type} {x : Int32} (f : gS → Option α) : (oPut [3] 5 (some (aM c)) (.int x) (zS c td lw rw bf kp st ln rd rl rn ms sc mc fa pm xl pc rt ra ch ow ou B)).bind f = f (zS c td lw rw bf kp st ln rd rl rn ms sc mc fa (va_up pm 5 x) xl pc rt ra ch ow ou B) := by
  rw [b_put cl_aM ⟨rfl, (by decide : (5 : Nat) < 46)⟩ f]
  exact congrArg f (Prod.ext (zG_up (d := 33) (by unfold zFx; omega) rfl (fun q h => by unfold zCell; rw [if_neg h, if_neg h])) rfl)
theorem gm_6 {α : Type} (f : Int32 → Option α) : (oGetI [3] 6 (some (aM c)) (zS c td lw rw bf kp st ln rd rl rn ms sc mc fa pm xl pc rt ra ch ow ou B)).bind f = f (pm 6) := b_getI cl_aM rfl rfl f
theorem pm_6 {α : Type} {x : Int32} (f : gS → Option α) : (oPut [3] 6 (some (aM c)) (.int x) (zS c td lw rw bf kp st ln rd rl rn ms sc mc fa pm xl pc rt ra ch ow ou B)).bind f = f (zS c td lw rw bf kp st ln rd rl rn ms sc mc fa (va_up pm 6 x) xl pc rt ra ch ow ou B) := by
  rw [b_put cl_aM ⟨rfl, (by decide : (6 : Nat) < 46)⟩ f]
  exact congrArg f (Prod.ext (zG_up (d := 33) (by unfold zFx; omega) rfl (fun q h => by unfold zCell; rw [if_neg h, if_neg h])) rfl)
theorem gm_7 {α : Type} (f : Int32 → Option α) : (oGetI [3] 7 (some (aM c)) (zS c td lw rw bf kp st ln rd rl rn ms sc mc fa pm xl pc rt ra ch ow ou B)).bind f = f (pm 7) := b_getI cl_aM rfl rfl f
theorem pm_7 {α : Type} {x : Int32} (f : gS → Option α) : (oPut [3] 7 (some (aM c)) (.int x) (zS c td lw rw bf kp st ln rd rl rn ms sc mc fa pm xl pc rt ra ch ow ou B)).bind f = f (zS c td lw rw bf kp st ln rd rl rn ms sc mc fa (va_up pm 7 x) xl pc rt ra ch ow ou B) := by
  rw [b_put cl_aM ⟨rfl, (by decide : (7 : Nat) < 46)⟩ f]
  exact congrArg f (Prod.ext (zG_up (d := 33) (by unfold zFx; omega) rfl (fun q h => by unfold zCell; rw [if_neg h, if_neg h])) rfl)
theorem gm_8 {α : Type} (f : Int32 → Option α) : (oGetI [3] 8 (some (aM c)) (zS c td lw rw bf kp st ln rd rl rn ms sc mc fa pm xl pc rt ra ch ow ou B)).bind f = f (pm 8) := b_getI cl_aM rfl rfl f
theorem pm_8 {α : Type} {x : Int32} (f : gS → Option α) : (oPut [3] 8 (some (aM c)) (.int x) (zS c td lw rw bf kp st ln rd rl rn ms sc mc fa pm xl pc rt ra ch ow ou B)).bind f = f (zS c td lw rw bf kp st ln rd rl rn ms sc mc fa (va_up pm 8 x) xl pc rt ra ch ow ou B) := by
  rw [b_put cl_aM ⟨rfl, (by decide : (8 : Nat) < 46)⟩ f]
  exact congrArg f (Prod.ext (zG_up (d := 33) (by unfold zFx; omega) rfl (fun q h => by unfold zCell; rw [if_neg h, if_neg h])) rfl)
theorem gm_9 {α : Type} (f : Option Nat → Option α) : (oGetR [3] 9 (some (aM c)) (zS c td lw rw bf kp st ln rd rl rn ms sc mc fa pm xl pc rt ra ch ow ou B)).bind f = f (some (aFed c)) := b_getR (v := some (aFed c)) cl_aM rfl rfl f
theorem gm_10 {α : Type} (f : Option Nat → Option α) : (oGetR [3] 10 (some (aM c)) (zS c td lw rw bf kp st ln rd rl rn ms sc mc fa pm xl pc rt ra ch ow ou B)).bind f = f (some (aRef c)) := b_getR (v := some (aRef c)) cl_aM rfl rfl f
theorem gm_11 {α : Type} (f : Option Nat → Option α) : (oGetR [3] 11 (some (aM c)) (zS c td lw rw bf kp st ln rd rl rn ms sc mc fa pm xl pc rt ra ch ow ou B)).bind f = f (some (aRT c)) := b_getR (v := some (aRT c)) cl_aM rfl rfl f
theorem gm_12 {α : Type} (f : Option Nat → Option α) : (oGetR [3] 12 (some (aM c)) (zS c td lw rw bf kp st ln rd rl rn ms sc mc fa pm xl pc rt ra ch ow ou B)).bind f = f (some (aTo c)) := b_getR (v := some (aTo c)) cl_aM rfl rfl f
theorem gm_13 {α : Type} (f : Option Nat → Option α) : (oGetR [3] 13 (some (aM c)) (zS c td lw rw bf kp st ln rd rl rn ms sc mc fa pm xl pc rt ra ch ow ou B)).bind f = f (some (aRSgs c)) := b_getR (v := some (aRSgs c)) cl_aM rfl rfl f
theorem gm_14 {α : Type} (f : Option Nat → Option α) : (oGetR [3] 14 (some (aM c)) (zS c td lw rw bf kp st ln rd rl rn ms sc mc fa pm xl pc rt ra ch ow ou B)).bind f = f (some (aSgs c)) := b_getR (v := some (aSgs c)) cl_aM rfl rfl f
theorem gm_15 {α : Type} (f : Option Nat → Option α) : (oGetR [3] 15 (some (aM c)) (zS c td lw rw bf kp st ln rd rl rn ms sc mc fa pm xl pc rt ra ch ow ou B)).bind f = f (some (aRNts c)) := b_getR (v := some (aRNts c)) cl_aM rfl rfl f
theorem gm_16 {α : Type} (f : Option Nat → Option α) : (oGetR [3] 16 (some (aM c)) (zS c td lw rw bf kp st ln rd rl rn ms sc mc fa pm xl pc rt ra ch ow ou B)).bind f = f (some (aNts c)) := b_getR (v := some (aNts c)) cl_aM rfl rfl f
theorem gm_17 {α : Type} (f : Option Nat → Option α) : (oGetR [3] 17 (some (aM c)) (zS c td lw rw bf kp st ln rd rl rn ms sc mc fa pm xl pc rt ra ch ow ou B)).bind f = f (some (aRLks c)) := b_getR (v := some (aRLks c)) cl_aM rfl rfl f
theorem gm_18 {α : Type} (f : Option Nat → Option α) : (oGetR [3] 18 (some (aM c)) (zS c td lw rw bf kp st ln rd rl rn ms sc mc fa pm xl pc rt ra ch ow ou B)).bind f = f (some (aLks c)) := b_getR (v := some (aLks c)) cl_aM rfl rfl f
theorem gm_19 {α : Type} (f : Int32 → Option α) : (oGetI [3] 19 (some (aM c)) (zS c td lw rw bf kp st ln rd rl rn ms sc mc fa pm xl pc rt ra ch ow ou B)).bind f = f (pm 19) := b_getI cl_aM rfl rfl f
theorem pm_19 {α : Type} {x : Int32} (f : gS → Option α) : (oPut [3] 19 (some (aM c)) (.int x) (zS c td lw rw bf kp st ln rd rl rn ms sc mc fa pm xl pc rt ra ch ow ou B)).bind f = f (zS c td lw rw bf kp st ln rd rl rn ms sc mc fa (va_up pm 19 x) xl pc rt ra ch ow ou B) := by
  rw [b_put cl_aM ⟨rfl, (by decide : (19 : Nat) < 46)⟩ f]
  exact congrArg f (Prod.ext (zG_up (d := 33) (by unfold zFx; omega) rfl (fun q h => by unfold zCell; rw [if_neg h, if_neg h])) rfl)
theorem gm_20 {α : Type} (f : Int32 → Option α) : (oGetI [3] 20 (some (aM c)) (zS c td lw rw bf kp st ln rd rl rn ms sc mc fa pm xl pc rt ra ch ow ou B)).bind f = f (pm 20) := b_getI cl_aM rfl rfl f
theorem pm_20 {α : Type} {x : Int32} (f : gS → Option α) : (oPut [3] 20 (some (aM c)) (.int x) (zS c td lw rw bf kp st ln rd rl rn ms sc mc fa pm xl pc rt ra ch ow ou B)).bind f = f (zS c td lw rw bf kp st ln rd rl rn ms sc mc fa (va_up pm 20 x) xl pc rt ra ch ow ou B) := by
  rw [b_put cl_aM ⟨rfl, (by decide : (20 : Nat) < 46)⟩ f]
  exact congrArg f (Prod.ext (zG_up (d := 33) (by unfold zFx; omega) rfl (fun q h => by unfold zCell; rw [if_neg h, if_neg h])) rfl)
theorem gm_21 {α : Type} (f : Option Nat → Option α) : (oGetR [3] 21 (some (aM c)) (zS c td lw rw bf kp st ln rd rl rn ms sc mc fa pm xl pc rt ra ch ow ou B)).bind f = f (some (aLws c)) := b_getR (v := some (aLws c)) cl_aM rfl rfl f
theorem gm_22 {α : Type} (f : Option Nat → Option α) : (oGetR [3] 22 (some (aM c)) (zS c td lw rw bf kp st ln rd rl rn ms sc mc fa pm xl pc rt ra ch ow ou B)).bind f = f (some (aRLws c)) := b_getR (v := some (aRLws c)) cl_aM rfl rfl f
theorem gm_23 {α : Type} (f : Option Nat → Option α) : (oGetR [3] 23 (some (aM c)) (zS c td lw rw bf kp st ln rd rl rn ms sc mc fa pm xl pc rt ra ch ow ou B)).bind f = f (some (aLns c)) := b_getR (v := some (aLns c)) cl_aM rfl rfl f
theorem gm_24 {α : Type} (f : Option Nat → Option α) : (oGetR [3] 24 (some (aM c)) (zS c td lw rw bf kp st ln rd rl rn ms sc mc fa pm xl pc rt ra ch ow ou B)).bind f = f (some (aRLns c)) := b_getR (v := some (aRLns c)) cl_aM rfl rfl f
theorem gm_25 {α : Type} (f : Option Nat → Option α) : (oGetR [3] 25 (some (aM c)) (zS c td lw rw bf kp st ln rd rl rn ms sc mc fa pm xl pc rt ra ch ow ou B)).bind f = f (some (aSt c)) := b_getR (v := some (aSt c)) cl_aM rfl rfl f
theorem gm_26 {α : Type} (f : Option Nat → Option α) : (oGetR [3] 26 (some (aM c)) (zS c td lw rw bf kp st ln rd rl rn ms sc mc fa pm xl pc rt ra ch ow ou B)).bind f = f (some (aKn c)) := b_getR (v := some (aKn c)) cl_aM rfl rfl f
theorem gm_27 {α : Type} (f : Option Nat → Option α) : (oGetR [3] 27 (some (aM c)) (zS c td lw rw bf kp st ln rd rl rn ms sc mc fa pm xl pc rt ra ch ow ou B)).bind f = f (some (aStps c)) := b_getR (v := some (aStps c)) cl_aM rfl rfl f
theorem gm_28 {α : Type} (f : Int32 → Option α) : (oGetI [3] 28 (some (aM c)) (zS c td lw rw bf kp st ln rd rl rn ms sc mc fa pm xl pc rt ra ch ow ou B)).bind f = f (pm 28) := b_getI cl_aM rfl rfl f
theorem pm_28 {α : Type} {x : Int32} (f : gS → Option α) : (oPut [3] 28 (some (aM c)) (.int x) (zS c td lw rw bf kp st ln rd rl rn ms sc mc fa pm xl pc rt ra ch ow ou B)).bind f = f (zS c td lw rw bf kp st ln rd rl rn ms sc mc fa (va_up pm 28 x) xl pc rt ra ch ow ou B) := by
  rw [b_put cl_aM ⟨rfl, (by decide : (28 : Nat) < 46)⟩ f]
  exact congrArg f (Prod.ext (zG_up (d := 33) (by unfold zFx; omega) rfl (fun q h => by unfold zCell; rw [if_neg h, if_neg h])) rfl)
theorem gm_29 {α : Type} (f : Option Nat → Option α) : (oGetR [3] 29 (some (aM c)) (zS c td lw rw bf kp st ln rd rl rn ms sc mc fa pm xl pc rt ra ch ow ou B)).bind f = f (some (aRow c 0)) := b_getR (v := some (aRow c 0)) cl_aM rfl rfl f
theorem gm_30 {α : Type} (f : Option Nat → Option α) : (oGetR [3] 30 (some (aM c)) (zS c td lw rw bf kp st ln rd rl rn ms sc mc fa pm xl pc rt ra ch ow ou B)).bind f = f (some (aRow c 1)) := b_getR (v := some (aRow c 1)) cl_aM rfl rfl f
theorem gm_31 {α : Type} (f : Option Nat → Option α) : (oGetR [3] 31 (some (aM c)) (zS c td lw rw bf kp st ln rd rl rn ms sc mc fa pm xl pc rt ra ch ow ou B)).bind f = f (some (aBfs c)) := b_getR (v := some (aBfs c)) cl_aM rfl rfl f
theorem gm_32 {α : Type} (f : Option Nat → Option α) : (oGetR [3] 32 (some (aM c)) (zS c td lw rw bf kp st ln rd rl rn ms sc mc fa pm xl pc rt ra ch ow ou B)).bind f = f (some (aKps c)) := b_getR (v := some (aKps c)) cl_aM rfl rfl f
theorem gm_33 {α : Type} (f : Int32 → Option α) : (oGetI [3] 33 (some (aM c)) (zS c td lw rw bf kp st ln rd rl rn ms sc mc fa pm xl pc rt ra ch ow ou B)).bind f = f (pm 33) := b_getI cl_aM rfl rfl f
theorem pm_33 {α : Type} {x : Int32} (f : gS → Option α) : (oPut [3] 33 (some (aM c)) (.int x) (zS c td lw rw bf kp st ln rd rl rn ms sc mc fa pm xl pc rt ra ch ow ou B)).bind f = f (zS c td lw rw bf kp st ln rd rl rn ms sc mc fa (va_up pm 33 x) xl pc rt ra ch ow ou B) := by
  rw [b_put cl_aM ⟨rfl, (by decide : (33 : Nat) < 46)⟩ f]
  exact congrArg f (Prod.ext (zG_up (d := 33) (by unfold zFx; omega) rfl (fun q h => by unfold zCell; rw [if_neg h, if_neg h])) rfl)
theorem gm_34 {α : Type} (f : Int32 → Option α) : (oGetI [3] 34 (some (aM c)) (zS c td lw rw bf kp st ln rd rl rn ms sc mc fa pm xl pc rt ra ch ow ou B)).bind f = f (pm 34) := b_getI cl_aM rfl rfl f
theorem pm_34 {α : Type} {x : Int32} (f : gS → Option α) : (oPut [3] 34 (some (aM c)) (.int x) (zS c td lw rw bf kp st ln rd rl rn ms sc mc fa pm xl pc rt ra ch ow ou B)).bind f = f (zS c td lw rw bf kp st ln rd rl rn ms sc mc fa (va_up pm 34 x) xl pc rt ra ch ow ou B) := by
  rw [b_put cl_aM ⟨rfl, (by decide : (34 : Nat) < 46)⟩ f]
  exact congrArg f (Prod.ext (zG_up (d := 33) (by unfold zFx; omega) rfl (fun q h => by unfold zCell; rw [if_neg h, if_neg h])) rfl)
theorem gm_35 {α : Type} (f : Int32 → Option α) : (oGetI [3] 35 (some (aM c)) (zS c td lw rw bf kp st ln rd rl rn ms sc mc fa pm xl pc rt ra ch ow ou B)).bind f = f (pm 35) := b_getI cl_aM rfl rfl f
theorem pm_35 {α : Type} {x : Int32} (f : gS → Option α) : (oPut [3] 35 (some (aM c)) (.int x) (zS c td lw rw bf kp st ln rd rl rn ms sc mc fa pm xl pc rt ra ch ow ou B)).bind f = f (zS c td lw rw bf kp st ln rd rl rn ms sc mc fa (va_up pm 35 x) xl pc rt ra ch ow ou B) := by
  rw [b_put cl_aM ⟨rfl, (by decide : (35 : Nat) < 46)⟩ f]
  exact congrArg f (Prod.ext (zG_up (d := 33) (by unfold zFx; omega) rfl (fun q h => by unfold zCell; rw [if_neg h, if_neg h])) rfl)
theorem gm_36 {α : Type} (f : Int32 → Option α) : (oGetI [3] 36 (some (aM c)) (zS c td lw rw bf kp st ln rd rl rn ms sc mc fa pm xl pc rt ra ch ow ou B)).bind f = f (pm 36) := b_getI cl_aM rfl rfl f
theorem pm_36 {α : Type} {x : Int32} (f : gS → Option α) : (oPut [3] 36 (some (aM c)) (.int x) (zS c td lw rw bf kp st ln rd rl rn ms sc mc fa pm xl pc rt ra ch ow ou B)).bind f = f (zS c td lw rw bf kp st ln rd rl rn ms sc mc fa (va_up pm 36 x) xl pc rt ra ch ow ou B) := by
  rw [b_put cl_aM ⟨rfl, (by decide : (36 : Nat) < 46)⟩ f]
  exact congrArg f (Prod.ext (zG_up (d := 33) (by unfold zFx; omega) rfl (fun q h => by unfold zCell; rw [if_neg h, if_neg h])) rfl)
theorem gm_37 {α : Type} (f : Int32 → Option α) : (oGetI [3] 37 (some (aM c)) (zS c td lw rw bf kp st ln rd rl rn ms sc mc fa pm xl pc rt ra ch ow ou B)).bind f = f (pm 37) := b_getI cl_aM rfl rfl f
theorem pm_37 {α : Type} {x : Int32} (f : gS → Option α) : (oPut [3] 37 (some (aM c)) (.int x) (zS c td lw rw bf kp st ln rd rl rn ms sc mc fa pm xl pc rt ra ch ow ou B)).bind f = f (zS c td lw rw bf kp st ln rd rl rn ms sc mc fa (va_up pm 37 x) xl pc rt ra ch ow ou B) := by
  rw [b_put cl_aM ⟨rfl, (by decide : (37 : Nat) < 46)⟩ f]
  exact congrArg f (Prod.ext (zG_up (d := 33) (by unfold zFx; omega) rfl (fun q h => by unfold zCell; rw [if_neg h, if_neg h])) rfl)
theorem gm_38 {α : Type} (f : Int32 → Option α) : (oGetI [3] 38 (some (aM c)) (zS c td lw rw bf kp st ln rd rl rn ms sc mc fa pm xl pc rt ra ch ow ou B)).bind f = f (pm 38) := b_getI cl_aM rfl rfl f
theorem pm_38 {α : Type} {x : Int32} (f : gS → Option α) : (oPut [3] 38 (some (aM c)) (.int x) (zS c td lw rw bf kp st ln rd rl rn ms sc mc fa pm xl pc rt ra ch ow ou B)).bind f = f (zS c td lw rw bf kp st ln rd rl rn ms sc mc fa (va_up pm 38 x) xl pc rt ra ch ow ou B) := by
  rw [b_put cl_aM ⟨rfl, (by decide : (38 : Nat) < 46)⟩ f]
  exact congrArg f (Prod.ext (zG_up (d := 33) (by unfold zFx; omega) rfl (fun q h => by unfold zCell; rw [if_neg h, if_neg h])) rfl)
theorem gm_39 {α : Type} (f : Int32 → Option α) : (oGetI [3] 39 (some (aM c)) (zS c td lw rw bf kp st ln rd rl rn ms sc mc fa pm xl pc rt ra ch ow ou B)).bind f = f (pm 39) := b_getI cl_aM rfl rfl f
theorem pm_39 {α : Type} {x : Int32} (f : gS → Option α) : (oPut [3] 39 (some (aM c)) (.int x) (zS c td lw rw bf kp st ln rd rl rn ms sc mc fa pm xl pc rt ra ch ow ou B)).bind f = f (zS c td lw rw bf kp st ln rd rl rn ms sc mc fa (va_up pm 39 x) xl pc rt ra ch ow ou B) := by
  rw [b_put cl_aM ⟨rfl, (by decide : (39 : Nat) < 46)⟩ f]
  exact congrArg f (Prod.ext (zG_up (d := 33) (by unfold zFx; omega) rfl (fun q h => by unfold zCell; rw [if_neg h, if_neg h])) rfl)
theorem gm_40 {α : Type} (f : Int32 → Option α) : (oGetI [3] 40 (some (aM c)) (zS c td lw rw bf kp st ln rd rl rn ms sc mc fa pm xl pc rt ra ch ow ou B)).bind f = f (pm 40) := b_getI cl_aM rfl rfl f
theorem pm_40 {α : Type} {x : Int32} (f : gS → Option α) : (oPut [3] 40 (some (aM c)) (.int x) (zS c td lw rw bf kp st ln rd rl rn ms sc mc fa pm xl pc rt ra ch ow ou B)).bind f = f (zS c td lw rw bf kp st ln rd rl rn ms sc mc fa (va_up pm 40 x) xl pc rt ra ch ow ou B) := by
  rw [b_put cl_aM ⟨rfl, (by decide : (40 : Nat) < 46)⟩ f]
  exact congrArg f (Prod.ext (zG_up (d := 33) (by unfold zFx; omega) rfl (fun q h => by unfold zCell; rw [if_neg h, if_neg h])) rfl)
theorem gm_41 {α : Type} (f : Option Nat → Option α) : (oGetR [3] 41 (some (aM c)) (zS c td lw rw bf kp st ln rd rl rn ms sc mc fa pm xl pc rt ra ch ow ou B)).bind f = f (some (aSi c)) := b_getR (v := some (aSi c)) cl_aM rfl rfl f
theorem gm_42 {α : Type} (f : Option Nat → Option α) : (oGetR [3] 42 (some (aM c)) (zS c td lw rw bf kp st ln rd rl rn ms sc mc fa pm xl pc rt ra ch ow ou B)).bind f = f (some (aBs c)) := b_getR (v := some (aBs c)) cl_aM rfl rfl f
theorem gm_43 {α : Type} (f : Int32 → Option α) : (oGetI [3] 43 (some (aM c)) (zS c td lw rw bf kp st ln rd rl rn ms sc mc fa pm xl pc rt ra ch ow ou B)).bind f = f (pm 43) := b_getI cl_aM rfl rfl f
theorem pm_43 {α : Type} {x : Int32} (f : gS → Option α) : (oPut [3] 43 (some (aM c)) (.int x) (zS c td lw rw bf kp st ln rd rl rn ms sc mc fa pm xl pc rt ra ch ow ou B)).bind f = f (zS c td lw rw bf kp st ln rd rl rn ms sc mc fa (va_up pm 43 x) xl pc rt ra ch ow ou B) := by
  rw [b_put cl_aM ⟨rfl, (by decide : (43 : Nat) < 46)⟩ f]
  exact congrArg f (Prod.ext (zG_up (d := 33) (by unfold zFx; omega) rfl (fun q h => by unfold zCell; rw [if_neg h, if_neg h])) rfl)
theorem gm_44 {α : Type} (f : Option Nat → Option α) : (oGetR [3] 44 (some (aM c)) (zS c td lw rw bf kp st ln rd rl rn ms sc mc fa pm xl pc rt ra ch ow ou B)).bind f = f (some (aX c)) := b_getR (v := some (aX c)) cl_aM rfl rfl f
theorem gm_45 {α : Type} (f : Int32 → Option α) : (oGetI [3] 45 (some (aM c)) (zS c td lw rw bf kp st ln rd rl rn ms sc mc fa pm xl pc rt ra ch ow ou B)).bind f = f (pm 45) := b_getI cl_aM rfl rfl f
theorem pm_45 {α : Type} {x : Int32} (f : gS → Option α) : (oPut [3] 45 (some (aM c)) (.int x) (zS c td lw rw bf kp st ln rd rl rn ms sc mc fa pm xl pc rt ra ch ow ou B)).bind f = f (zS c td lw rw bf kp st ln rd rl rn ms sc mc fa (va_up pm 45 x) xl pc rt ra ch ow ou B) := by
  rw [b_put cl_aM ⟨rfl, (by decide : (45 : Nat) < 46)⟩ f]
  exact congrArg f (Prod.ext (zG_up (d := 33) (by unfold zFx; omega) rfl (fun q h => by unfold zCell; rw [if_neg h, if_neg h])) rfl)
theorem gv_0 {α : Type} (f : Option Nat → Option α) : (oGetR [0] 0 (some (aV c)) (zS c td lw rw bf kp st ln rd rl rn ms sc mc fa pm xl pc rt ra ch ow ou B)).bind f = f (rt 0) := b_getR cl_aV rfl rfl f
theorem pv_0 {α : Type} {x : Option Nat} (f : gS → Option α) : (oPut [0] 0 (some (aV c)) (va_rf x) (zS c td lw rw bf kp st ln rd rl rn ms sc mc fa pm xl pc rt ra ch ow ou B)).bind f = f (zS c td lw rw bf kp st ln rd rl rn ms sc mc fa pm xl pc (va_up rt 0 x) ra ch ow ou B) := by
  rw [b_put cl_aV ⟨rfl, (by decide : (0 : Nat) < 22)⟩ f]
  exact congrArg f (Prod.ext (zG_up (d := 0) (by unfold zFx; omega) rfl (fun q h => by unfold zCell; rw [if_neg h, if_neg h])) rfl)
theorem gv_1 {α : Type} (f : Option Nat → Option α) : (oGetR [0] 1 (some (aV c)) (zS c td lw rw bf kp st ln rd rl rn ms sc mc fa pm xl pc rt ra ch ow ou B)).bind f = f (rt 1) := b_getR cl_aV rfl rfl f
theorem pv_1 {α : Type} {x : Option Nat} (f : gS → Option α) : (oPut [0] 1 (some (aV c)) (va_rf x) (zS c td lw rw bf kp st ln rd rl rn ms sc mc fa pm xl pc rt ra ch ow ou B)).bind f = f (zS c td lw rw bf kp st ln rd rl rn ms sc mc fa pm xl pc (va_up rt 1 x) ra ch ow ou B) := by
  rw [b_put cl_aV ⟨rfl, (by decide : (1 : Nat) < 22)⟩ f]
  exact congrArg f (Prod.ext (zG_up (d := 0) (by unfold zFx; omega) rfl (fun q h => by unfold zCell; rw [if_neg h, if_neg h])) rfl)
theorem gv_2 {α : Type} (f : Option Nat → Option α) : (oGetR [0] 2 (some (aV c)) (zS c td lw rw bf kp st ln rd rl rn ms sc mc fa pm xl pc rt ra ch ow ou B)).bind f = f (some (aFa c)) := b_getR (v := some (aFa c)) cl_aV rfl rfl f
theorem gv_3 {α : Type} (f : Option Nat → Option α) : (oGetR [0] 3 (some (aV c)) (zS c td lw rw bf kp st ln rd rl rn ms sc mc fa pm xl pc rt ra ch ow ou B)).bind f = f (some (aBk c)) := b_getR (v := some (aBk c)) cl_aV rfl rfl f
theorem gv_4 {α : Type} (f : Option Nat → Option α) : (oGetR [0] 4 (some (aV c)) (zS c td lw rw bf kp st ln rd rl rn ms sc mc fa pm xl pc rt ra ch ow ou B)).bind f = f (some (aRe c)) := b_getR (v := some (aRe c)) cl_aV rfl rfl f
theorem gv_5 {α : Type} (f : Option Nat → Option α) : (oGetR [0] 5 (some (aV c)) (zS c td lw rw bf kp st ln rd rl rn ms sc mc fa pm xl pc rt ra ch ow ou B)).bind f = f (some (aCh c 12)) := b_getR (v := some (aCh c 12)) cl_aV rfl rfl f
theorem gv_6 {α : Type} (f : Option Nat → Option α) : (oGetR [0] 6 (some (aV c)) (zS c td lw rw bf kp st ln rd rl rn ms sc mc fa pm xl pc rt ra ch ow ou B)).bind f = f (some (aCh c 18)) := b_getR (v := some (aCh c 18)) cl_aV rfl rfl f
theorem gv_7 {α : Type} (f : Option Nat → Option α) : (oGetR [0] 7 (some (aV c)) (zS c td lw rw bf kp st ln rd rl rn ms sc mc fa pm xl pc rt ra ch ow ou B)).bind f = f (some (aPs c)) := b_getR (v := some (aPs c)) cl_aV rfl rfl f
theorem gv_8 {α : Type} (f : Option Nat → Option α) : (oGetR [0] 8 (some (aV c)) (zS c td lw rw bf kp st ln rd rl rn ms sc mc fa pm xl pc rt ra ch ow ou B)).bind f = f (some (aIm c)) := b_getR (v := some (aIm c)) cl_aV rfl rfl f
theorem gv_9 {α : Type} (f : Option Nat → Option α) : (oGetR [0] 9 (some (aV c)) (zS c td lw rw bf kp st ln rd rl rn ms sc mc fa pm xl pc rt ra ch ow ou B)).bind f = f (some (aIP c)) := b_getR (v := some (aIP c)) cl_aV rfl rfl f
theorem gv_10 {α : Type} (f : Option Nat → Option α) : (oGetR [0] 10 (some (aV c)) (zS c td lw rw bf kp st ln rd rl rn ms sc mc fa pm xl pc rt ra ch ow ou B)).bind f = f (some (aIW c)) := b_getR (v := some (aIW c)) cl_aV rfl rfl f
theorem gv_11 {α : Type} (f : Int32 → Option α) : (oGetI [0] 11 (some (aV c)) (zS c td lw rw bf kp st ln rd rl rn ms sc mc fa pm xl pc rt ra ch ow ou B)).bind f = f (pc 11) := b_getI cl_aV rfl rfl f
theorem pv_11 {α : Type} {x : Int32} (f : gS → Option α) : (oPut [0] 11 (some (aV c)) (.int x) (zS c td lw rw bf kp st ln rd rl rn ms sc mc fa pm xl pc rt ra ch ow ou B)).bind f = f (zS c td lw rw bf kp st ln rd rl rn ms sc mc fa pm xl (va_up pc 11 x) rt ra ch ow ou B) := by
  rw [b_put cl_aV ⟨rfl, (by decide : (11 : Nat) < 22)⟩ f]
  exact congrArg f (Prod.ext (zG_up (d := 0) (by unfold zFx; omega) rfl (fun q h => by unfold zCell; rw [if_neg h, if_neg h])) rfl)
theorem gv_12 {α : Type} (f : Int32 → Option α) : (oGetI [0] 12 (some (aV c)) (zS c td lw rw bf kp st ln rd rl rn ms sc mc fa pm xl pc rt ra ch ow ou B)).bind f = f (pc 12) := b_getI cl_aV rfl rfl f
theorem pv_12 {α : Type} {x : Int32} (f : gS → Option α) : (oPut [0] 12 (some (aV c)) (.int x) (zS c td lw rw bf kp st ln rd rl rn ms sc mc fa pm xl pc rt ra ch ow ou B)).bind f = f (zS c td lw rw bf kp st ln rd rl rn ms sc mc fa pm xl (va_up pc 12 x) rt ra ch ow ou B) := by
  rw [b_put cl_aV ⟨rfl, (by decide : (12 : Nat) < 22)⟩ f]
  exact congrArg f (Prod.ext (zG_up (d := 0) (by unfold zFx; omega) rfl (fun q h => by unfold zCell; rw [if_neg h, if_neg h])) rfl)
theorem gv_13 {α : Type} (f : Int32 → Option α) : (oGetI [0] 13 (some (aV c)) (zS c td lw rw bf kp st ln rd rl rn ms sc mc fa pm xl pc rt ra ch ow ou B)).bind f = f (pc 13) := b_getI cl_aV rfl rfl f
theorem pv_13 {α : Type} {x : Int32} (f : gS → Option α) : (oPut [0] 13 (some (aV c)) (.int x) (zS c td lw rw bf kp st ln rd rl rn ms sc mc fa pm xl pc rt ra ch ow ou B)).bind f = f (zS c td lw rw bf kp st ln rd rl rn ms sc mc fa pm xl (va_up pc 13 x) rt ra ch ow ou B) := by
  rw [b_put cl_aV ⟨rfl, (by decide : (13 : Nat) < 22)⟩ f]
  exact congrArg f (Prod.ext (zG_up (d := 0) (by unfold zFx; omega) rfl (fun q h => by unfold zCell; rw [if_neg h, if_neg h])) rfl)
theorem gv_14 {α : Type} (f : Int32 → Option α) : (oGetI [0] 14 (some (aV c)) (zS c td lw rw bf kp st ln rd rl rn ms sc mc fa pm xl pc rt ra ch ow ou B)).bind f = f (pc 14) := b_getI cl_aV rfl rfl f
theorem pv_14 {α : Type} {x : Int32} (f : gS → Option α) : (oPut [0] 14 (some (aV c)) (.int x) (zS c td lw rw bf kp st ln rd rl rn ms sc mc fa pm xl pc rt ra ch ow ou B)).bind f = f (zS c td lw rw bf kp st ln rd rl rn ms sc mc fa pm xl (va_up pc 14 x) rt ra ch ow ou B) := by
  rw [b_put cl_aV ⟨rfl, (by decide : (14 : Nat) < 22)⟩ f]
  exact congrArg f (Prod.ext (zG_up (d := 0) (by unfold zFx; omega) rfl (fun q h => by unfold zCell; rw [if_neg h, if_neg h])) rfl)
theorem gv_15 {α : Type} (f : Int32 → Option α) : (oGetI [0] 15 (some (aV c)) (zS c td lw rw bf kp st ln rd rl rn ms sc mc fa pm xl pc rt ra ch ow ou B)).bind f = f (pc 15) := b_getI cl_aV rfl rfl f
theorem pv_15 {α : Type} {x : Int32} (f : gS → Option α) : (oPut [0] 15 (some (aV c)) (.int x) (zS c td lw rw bf kp st ln rd rl rn ms sc mc fa pm xl pc rt ra ch ow ou B)).bind f = f (zS c td lw rw bf kp st ln rd rl rn ms sc mc fa pm xl (va_up pc 15 x) rt ra ch ow ou B) := by
  rw [b_put cl_aV ⟨rfl, (by decide : (15 : Nat) < 22)⟩ f]
  exact congrArg f (Prod.ext (zG_up (d := 0) (by unfold zFx; omega) rfl (fun q h => by unfold zCell; rw [if_neg h, if_neg h])) rfl)
theorem gv_16 {α : Type} (f : Int32 → Option α) : (oGetI [0] 16 (some (aV c)) (zS c td lw rw bf kp st ln rd rl rn ms sc mc fa pm xl pc rt ra ch ow ou B)).bind f = f (pc 16) := b_getI cl_aV rfl rfl f
theorem pv_16 {α : Type} {x : Int32} (f : gS → Option α) : (oPut [0] 16 (some (aV c)) (.int x) (zS c td lw rw bf kp st ln rd rl rn ms sc mc fa pm xl pc rt ra ch ow ou B)).bind f = f (zS c td lw rw bf kp st ln rd rl rn ms sc mc fa pm xl (va_up pc 16 x) rt ra ch ow ou B) := by
  rw [b_put cl_aV ⟨rfl, (by decide : (16 : Nat) < 22)⟩ f]
  exact congrArg f (Prod.ext (zG_up (d := 0) (by unfold zFx; omega) rfl (fun q h => by unfold zCell; rw [if_neg h, if_neg h])) rfl)
theorem gv_17 {α : Type} (f : Int32 → Option α) : (oGetI [0] 17 (some (aV c)) (zS c td lw rw bf kp st ln rd rl rn ms sc mc fa pm xl pc rt ra ch ow ou B)).bind f = f (pc 17) := b_getI cl_aV rfl rfl f
theorem pv_17 {α : Type} {x : Int32} (f : gS → Option α) : (oPut [0] 17 (some (aV c)) (.int x) (zS c td lw rw bf kp st ln rd rl rn ms sc mc fa pm xl pc rt ra ch ow ou B)).bind f = f (zS c td lw rw bf kp st ln rd rl rn ms sc mc fa pm xl (va_up pc 17 x) rt ra ch ow ou B) := by
  rw [b_put cl_aV ⟨rfl, (by decide : (17 : Nat) < 22)⟩ f]
  exact congrArg f (Prod.ext (zG_up (d := 0) (by unfold zFx; omega) rfl (fun q h => by unfold zCell; rw [if_neg h, if_neg h])) rfl)
theorem gv_18 {α : Type} (f : Option Nat → Option α) : (oGetR [0] 18 (some (aV c)) (zS c td lw rw bf kp st ln rd rl rn ms sc mc fa pm xl pc rt ra ch ow ou B)).bind f = f (some (aTp c)) := b_getR (v := some (aTp c)) cl_aV rfl rfl f
theorem gv_19 {α : Type} (f : Option Nat → Option α) : (oGetR [0] 19 (some (aV c)) (zS c td lw rw bf kp st ln rd rl rn ms sc mc fa pm xl pc rt ra ch ow ou B)).bind f = f (some (aHb c)) := b_getR (v := some (aHb c)) cl_aV rfl rfl f
theorem gv_20 {α : Type} (f : Option Nat → Option α) : (oGetR [0] 20 (some (aV c)) (zS c td lw rw bf kp st ln rd rl rn ms sc mc fa pm xl pc rt ra ch ow ou B)).bind f = f (some (aMo c)) := b_getR (v := some (aMo c)) cl_aV rfl rfl f
theorem gv_21 {α : Type} (f : Option Nat → Option α) : (oGetR [0] 21 (some (aV c)) (zS c td lw rw bf kp st ln rd rl rn ms sc mc fa pm xl pc rt ra ch ow ou B)).bind f = f (some (aHe c)) := b_getR (v := some (aHe c)) cl_aV rfl rfl f
theorem zvm {β : Type} (o : Option β) : gV [3] (some (aM c)) (zS c td lw rw bf kp st ln rd rl rn ms sc mc fa pm xl pc rt ra ch ow ou B) o = o := gV_of cl_aM rfl o
theorem zvv {β : Type} (o : Option β) : gV [0] (some (aV c)) (zS c td lw rw bf kp st ln rd rl rn ms sc mc fa pm xl pc rt ra ch ow ou B) o = o := gV_of cl_aV rfl o
theorem bvm {β γ : Type} (o : Option β) (f : β → Option γ) : (gV [3] (some (aM c)) (zS c td lw rw bf kp st ln rd rl rn ms sc mc fa pm xl pc rt ra ch ow ou B) o).bind f = o.bind f := by rw [zvm]
theorem bvv {β γ : Type} (o : Option β) (f : β → Option γ) : (gV [0] (some (aV c)) (zS c td lw rw bf kp st ln rd rl rn ms sc mc fa pm xl pc rt ra ch ow ou B) o).bind f = o.bind f := by rw [zvv]
theorem gvm {β γ : Type} (o : Option (β × gS)) (f : β → gS → Option γ) : gB (gV [3] (some (aM c)) (zS c td lw rw bf kp st ln rd rl rn ms sc mc fa pm xl pc rt ra ch ow ou B) o) f = gB o f := by rw [zvm]
theorem gvv {β γ : Type} (o : Option (β × gS)) (f : β → gS → Option γ) : gB (gV [0] (some (aV c)) (zS c td lw rw bf kp st ln rd rl rn ms sc mc fa pm xl pc rt ra ch ow ou B) o) f = gB o f := by rw [zvv]
theorem tvv {β γ : Type} (o : Option ((β ⊕ (Nat × Nat)) × gS)) (f : β → gS → Option ((γ ⊕ (Nat × Nat)) × gS)) : gT (gV [0] (some (aV c)) (zS c td lw rw bf kp st ln rd rl rn ms sc mc fa pm xl pc rt ra ch ow ou B) o) f = gT o f := by rw [zvv]
theorem cl_aX : (zS c td lw rw bf kp st ln rd rl rn ms sc mc fa pm xl pc rt ra ch ow ou B).1 (aX c) = some (true, .inr (2, 14, .inr (.inl xl))) := zG_at (d := 594) (by unfold zFx; omega)
theorem cl_aOu : (zS c td lw rw bf kp st ln rd rl rn ms sc mc fa pm xl pc rt ra ch ow ou B).1 (aOu c) = some (true, .inr (2, 1, .inr (.inl ou))) := zG_at (d := 595) (by unfold zFx; omega)
theorem ld_aX {α : Type} {i : Int32} (hi : okx i 14) (f : Int64 → Option α) : (oLdL (some (aX c)) i (zS c td lw rw bf kp st ln rd rl rn ms sc mc fa pm xl pc rt ra ch ow ou B)).bind f = f (xl (nx i)) := b_ldL cl_aX hi f
theorem st_aX {α : Type} {i : Int32} {x : Int64} (hi : okx i 14) (f : gS → Option α) : (oStL (some (aX c)) i x (zS c td lw rw bf kp st ln rd rl rn ms sc mc fa pm xl pc rt ra ch ow ou B)).bind f = f (zS c td lw rw bf kp st ln rd rl rn ms sc mc fa pm (va_up xl (nx i) x) pc rt ra ch ow ou B) := by
  rw [b_stL cl_aX hi f]
  exact congrArg f (Prod.ext (zG_up (d := 594) (by unfold zFx; omega) rfl (fun q h => by unfold zCell; rw [if_neg h, if_neg h])) rfl)
theorem ld_aOu {α : Type} {i : Int32} (hi : okx i 1) (f : Int64 → Option α) : (oLdL (some (aOu c)) i (zS c td lw rw bf kp st ln rd rl rn ms sc mc fa pm xl pc rt ra ch ow ou B)).bind f = f (ou (nx i)) := b_ldL cl_aOu hi f
theorem st_aOu {α : Type} {i : Int32} {x : Int64} (hi : okx i 1) (f : gS → Option α) : (oStL (some (aOu c)) i x (zS c td lw rw bf kp st ln rd rl rn ms sc mc fa pm xl pc rt ra ch ow ou B)).bind f = f (zS c td lw rw bf kp st ln rd rl rn ms sc mc fa pm xl pc rt ra ch ow (va_up ou (nx i) x) B) := by
  rw [b_stL cl_aOu hi f]
  exact congrArg f (Prod.ext (zG_up (d := 595) (by unfold zFx; omega) rfl (fun q h => by unfold zCell; rw [if_neg h, if_neg h])) rfl)
theorem cl_aPs : (zS c td lw rw bf kp st ln rd rl rn ms sc mc fa pm xl pc rt ra ch ow ou B).1 (aPs c) = some (true, .inr (4, 16, .inr (.inr (.inr (.inr (ra 0)))))) := zG_at (d := 24) (by unfold zFx; omega)
theorem ld_aPs {α : Type} {i : Int32} (hi : okx i 16) (f : Option Nat → Option α) : (oLdR 4 (some (aPs c)) i (zS c td lw rw bf kp st ln rd rl rn ms sc mc fa pm xl pc rt ra ch ow ou B)).bind f = f (ra 0 (nx i)) := b_ldR cl_aPs hi f
theorem cl_aIm : (zS c td lw rw bf kp st ln rd rl rn ms sc mc fa pm xl pc rt ra ch ow ou B).1 (aIm c) = some (true, .inr (4, 3, .inr (.inr (.inr (.inr (ra 1)))))) := zG_at (d := 25) (by unfold zFx; omega)
theorem ld_aIm {α : Type} {i : Int32} (hi : okx i 3) (f : Option Nat → Option α) : (oLdR 4 (some (aIm c)) i (zS c td lw rw bf kp st ln rd rl rn ms sc mc fa pm xl pc rt ra ch ow ou B)).bind f = f (ra 1 (nx i)) := b_ldR cl_aIm hi f
theorem cl_aIP : (zS c td lw rw bf kp st ln rd rl rn ms sc mc fa pm xl pc rt ra ch ow ou B).1 (aIP c) = some (true, .inr (4, 48, .inr (.inr (.inr (.inr (ra 2)))))) := zG_at (d := 26) (by unfold zFx; omega)
theorem ld_aIP {α : Type} {i : Int32} (hi : okx i 48) (f : Option Nat → Option α) : (oLdR 4 (some (aIP c)) i (zS c td lw rw bf kp st ln rd rl rn ms sc mc fa pm xl pc rt ra ch ow ou B)).bind f = f (ra 2 (nx i)) := b_ldR cl_aIP hi f
end s23

