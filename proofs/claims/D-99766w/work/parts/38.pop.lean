-- NAME 38.pop
set_option maxRecDepth 100000
/-! ===== bit counts ===== -/
theorem iv_and (a b : Nat) : iv a &&& iv b = iv (a &&& b) := by
  apply Int32.toBitVec_inj.1
  show BitVec.ofNat 32 a &&& BitVec.ofNat 32 b = BitVec.ofNat 32 (a &&& b)
  apply BitVec.eq_of_getLsbD_eq
  intro i hi
  simp [hi]
theorem iv_cnt : ∀ j : Fin 32, (UInt32.ofNat j.val &&& Int32.toUInt32 31).toNat % 32 = j.val := by decide +kernel
theorem iv_ush {k j : Nat} (hk : k < 2147483648) (hj : j < 32) : ((iv k).toUInt32 >>> ((iv j).toUInt32 &&& Int32.toUInt32 31)).toInt32 = iv (k >>> j) := by
  have hs : k >>> j ≤ k := by
    rw [Nat.shiftRight_eq_div_pow]
    exact Nat.div_le_self _ _
  have e2 : UInt32.ofNat k >>> (UInt32.ofNat j &&& Int32.toUInt32 31) = UInt32.ofNat (k >>> j) := by
    apply UInt32.toNat_inj.1
    have h1 : (UInt32.ofNat k).toNat = k := Nat.mod_eq_of_lt (by omega)
    have h2 : (UInt32.ofNat (k >>> j)).toNat = k >>> j := Nat.mod_eq_of_lt (by omega)
    rw [UInt32.toNat_shiftRight, iv_cnt ⟨j, hj⟩, h1, h2]
  show (UInt32.ofNat k >>> (UInt32.ofNat j &&& Int32.toUInt32 31)).toInt32 = _
  rw [e2]
  rfl
def bcN1 (a : Nat) : Nat := a - ((a >>> 1) &&& 1431655765)
def bcN2 (a : Nat) : Nat := (a &&& 858993459) + ((a >>> 2) &&& 858993459)
def bcN3 (a : Nat) : Nat := (a + (a >>> 4)) &&& 252645135
def bcN (a : Nat) : Nat := (bcN3 (bcN2 (bcN1 a)) + (bcN3 (bcN2 (bcN1 a)) >>> 8) + ((bcN3 (bcN2 (bcN1 a)) + (bcN3 (bcN2 (bcN1 a)) >>> 8)) >>> 16)) &&& 63
def pc8 (a : Nat) : Nat := a % 2 + a / 2 % 2 + a / 4 % 2 + a / 8 % 2 + a / 16 % 2 + a / 32 % 2 + a / 64 % 2 + a / 128 % 2
theorem lane {s l h ml mh : Nat} (hs : s ≤ 8) (hl : l < 256) (hm : ml < 2 ^ (8 - s)) (hm8 : ml < 256) : (l + 256 * h) >>> s &&& (ml + 256 * mh) = ((l >>> s) &&& ml) + 256 * ((h >>> s) &&& mh) := by
  have hl2 : (l >>> s) &&& ml < 2 ^ 8 := Nat.lt_of_le_of_lt Nat.and_le_right (by omega)
  rw [show l + 256 * h = 2 ^ 8 * h + l by omega, show ml + 256 * mh = 2 ^ 8 * mh + ml by omega, show ((l >>> s) &&& ml) + 256 * ((h >>> s) &&& mh) = 2 ^ 8 * ((h >>> s) &&& mh) + ((l >>> s) &&& ml) by omega]
  apply Nat.eq_of_testBit_eq
  intro i
  rw [Nat.testBit_and, Nat.testBit_shiftRight, Nat.testBit_two_pow_mul_add _ (by omega : l < 2 ^ 8), Nat.testBit_two_pow_mul_add _ (by omega : ml < 2 ^ 8), Nat.testBit_two_pow_mul_add _ hl2]
  by_cases h1 : i < 8
  · rw [if_pos h1, if_pos h1, Nat.testBit_and, Nat.testBit_shiftRight]
    by_cases h2 : s + i < 8
    · rw [if_pos h2]
    · rw [if_neg h2]
      have h3 : ml.testBit i = false := Nat.testBit_lt_two_pow (Nat.lt_of_lt_of_le hm (Nat.pow_le_pow_right (by decide) (by omega)))
      rw [h3, Bool.and_false, Bool.and_false]
  · rw [if_neg h1, if_neg h1, if_neg (by omega), Nat.testBit_and, Nat.testBit_shiftRight]
    congr 2
    omega
theorem b8_1 : ∀ b, b < 256 → (b >>> 1) &&& 85 ≤ b ∧ b - ((b >>> 1) &&& 85) < 256 := by decide +kernel
theorem b8_2 : ∀ b, b < 256 → ((b - ((b >>> 1) &&& 85)) &&& 51) + (((b - ((b >>> 1) &&& 85)) >>> 2) &&& 51) < 69 ∧ (((b - ((b >>> 1) &&& 85)) &&& 51) + (((b - ((b >>> 1) &&& 85)) >>> 2) &&& 51)) % 16 ≤ 4 := by decide +kernel
theorem b8_3 : ∀ b, b < 256 → ((((b - ((b >>> 1) &&& 85)) &&& 51) + (((b - ((b >>> 1) &&& 85)) >>> 2) &&& 51)) + (((b - ((b >>> 1) &&& 85)) &&& 51) + (((b - ((b >>> 1) &&& 85)) >>> 2) &&& 51)) / 16) % 16 = pc8 b ∧ pc8 b ≤ 8 := by decide +kernel
theorem b4_2 : ∀ b, b < 16 → ((b - ((b >>> 1) &&& 5461)) &&& 3276) + (((b - ((b >>> 1) &&& 5461)) >>> 2) &&& 3276) = ((b - ((b >>> 1) &&& 5461)) &&& 3276) + (((b - ((b >>> 1) &&& 5461)) >>> 2) &&& 3276) := fun _ _ => rfl
theorem b4_1 : ∀ b, b < 16 → (b >>> 1) &&& 21845 ≤ b ∧ b - ((b >>> 1) &&& 21845) < 256 := by decide +kernel
theorem b4_3 : ∀ b, b < 16 → ((b - ((b >>> 1) &&& 21845)) &&& 13107) + (((b - ((b >>> 1) &&& 21845)) >>> 2) &&& 13107) = pc8 b ∧ pc8 b ≤ 4 := by
  decide +kernel
theorem b4_3x : ∀ z, z ≤ 4 → (z + z / 16) &&& 3855 = z := by decide
theorem and15 (x : Nat) : x &&& 15 = x % 16 := Nat.and_two_pow_sub_one_eq_mod x 4
theorem bc3 {y0 y1 z0 z1 z2 : Nat} (h0 : y0 < 69) (h1 : y1 < 69) (t1 : y1 % 16 ≤ 4) (h2 : z2 ≤ 4) (u0 : (y0 + y0 / 16) % 16 = z0) (u1 : (y1 + y1 / 16) % 16 = z1) : bcN3 (y0 + 256 * (y1 + 256 * z2)) = z0 + 256 * (z1 + 256 * z2) := by
  have a1 : y0 + y0 / 16 + 16 * (y1 % 16) < 256 := by omega
  have a2 : y1 + y1 / 16 + 16 * (z2 % 16) < 256 := by omega
  have a3 : (y0 + y0 / 16 + 16 * (y1 % 16)) % 16 = z0 := by omega
  have a4 : (y1 + y1 / 16 + 16 * (z2 % 16)) % 16 = z1 := by omega
  have g1 : (y0 + 256 * (y1 + 256 * z2)) + (y0 + 256 * (y1 + 256 * z2)) / 16 = (y0 + y0 / 16 + 16 * (y1 % 16)) + 256 * ((y1 + y1 / 16 + 16 * (z2 % 16)) + 256 * (z2 + z2 / 16)) := by omega
  unfold bcN3
  rw [Nat.shiftRight_eq_div_pow, show (2 : Nat) ^ 4 = 16 by decide, g1]
  have g2 := lane (s := 0) (l := y0 + y0 / 16 + 16 * (y1 % 16)) (h := (y1 + y1 / 16 + 16 * (z2 % 16)) + 256 * (z2 + z2 / 16)) (ml := 15) (mh := 15 + 256 * 3855) (by decide) a1 (by decide) (by decide)
  have g3 := lane (s := 0) (l := y1 + y1 / 16 + 16 * (z2 % 16)) (h := z2 + z2 / 16) (ml := 15) (mh := 3855) (by decide) a2 (by decide) (by decide)
  simp only [Nat.shiftRight_zero] at g2 g3
  rw [show (252645135 : Nat) = 15 + 256 * (15 + 256 * 3855) by decide, g2, g3, and15, and15, a3, a4, b4_3x z2 h2]
def bcF (x : Nat) : Nat := (x + (x >>> 8) + ((x + (x >>> 8)) >>> 16)) &&& 63
theorem bcF_eq {z0 z1 z2 : Nat} (h0 : z0 ≤ 8) (h1 : z1 ≤ 8) (h2 : z2 ≤ 4) : bcF (z0 + 256 * (z1 + 256 * z2)) = z0 + z1 + z2 := by
  unfold bcF
  have e1 : (z0 + 256 * (z1 + 256 * z2)) / 256 = z1 + 256 * z2 := by omega
  have e2 : (z0 + 256 * (z1 + 256 * z2) + (z1 + 256 * z2)) / 65536 = z2 := by omega
  rw [Nat.shiftRight_eq_div_pow, Nat.shiftRight_eq_div_pow, show (2 : Nat) ^ 8 = 256 by decide, show (2 : Nat) ^ 16 = 65536 by decide, e1, e2, show ∀ x, x &&& 63 = x % 64 from fun x => Nat.and_two_pow_sub_one_eq_mod x 6]
  omega
/-- bits of a number under 2^20, bytewise -/
theorem bcN_eq {b0 b1 b2 : Nat} (h0 : b0 < 256) (h1 : b1 < 256) (h2 : b2 < 16) : bcN (b0 + 256 * (b1 + 256 * b2)) = pc8 b0 + pc8 b1 + pc8 b2 := by
  have e1 : (b0 + 256 * (b1 + 256 * b2)) >>> 1 &&& 1431655765 = ((b0 >>> 1) &&& 85) + 256 * (((b1 >>> 1) &&& 85) + 256 * ((b2 >>> 1) &&& 21845)) := by
    rw [show (1431655765 : Nat) = 85 + 256 * (85 + 256 * 21845) by decide, lane (by decide) h0 (by decide) (by decide), lane (by decide) h1 (by decide) (by decide)]
  obtain ⟨p0, q0⟩ := b8_1 b0 h0
  obtain ⟨p1, q1⟩ := b8_1 b1 h1
  obtain ⟨p2, q2⟩ := b4_1 b2 h2
  have e2 : bcN1 (b0 + 256 * (b1 + 256 * b2)) = (b0 - ((b0 >>> 1) &&& 85)) + 256 * ((b1 - ((b1 >>> 1) &&& 85)) + 256 * (b2 - ((b2 >>> 1) &&& 21845))) := by
    unfold bcN1
    rw [e1]
    omega
  obtain ⟨s0, t0⟩ := b8_2 b0 h0
  obtain ⟨s1, t1⟩ := b8_2 b1 h1
  obtain ⟨u0, v0⟩ := b8_3 b0 h0
  obtain ⟨u1, v1⟩ := b8_3 b1 h1
  obtain ⟨u2, v2⟩ := b4_3 b2 h2
  generalize hx0 : b0 - ((b0 >>> 1) &&& 85) = x0 at *
  generalize hx1 : b1 - ((b1 >>> 1) &&& 85) = x1 at *
  generalize hx2 : b2 - ((b2 >>> 1) &&& 21845) = x2 at *
  have e3 : bcN2 (x0 + 256 * (x1 + 256 * x2)) = ((x0 &&& 51) + ((x0 >>> 2) &&& 51)) + 256 * (((x1 &&& 51) + ((x1 >>> 2) &&& 51)) + 256 * ((x2 &&& 13107) + ((x2 >>> 2) &&& 13107))) := by
    unfold bcN2
    have f1 : (x0 + 256 * (x1 + 256 * x2)) &&& 858993459 = (x0 &&& 51) + 256 * ((x1 &&& 51) + 256 * (x2 &&& 13107)) := by
      have := lane (s := 0) (l := x0) (h := x1 + 256 * x2) (ml := 51) (mh := 51 + 256 * 13107) (by decide) q0 (by decide) (by decide)
      have g2 := lane (s := 0) (l := x1) (h := x2) (ml := 51) (mh := 13107) (by decide) q1 (by decide) (by decide)
      simp only [Nat.shiftRight_zero] at this g2
      rw [show (858993459 : Nat) = 51 + 256 * (51 + 256 * 13107) by decide, this, g2]
    have f2 : (x0 + 256 * (x1 + 256 * x2)) >>> 2 &&& 858993459 = ((x0 >>> 2) &&& 51) + 256 * (((x1 >>> 2) &&& 51) + 256 * ((x2 >>> 2) &&& 13107)) := by
      rw [show (858993459 : Nat) = 51 + 256 * (51 + 256 * 13107) by decide, lane (by decide) q0 (by decide) (by decide), lane (by decide) q1 (by decide) (by decide)]
    rw [f1, f2]
    omega
  rw [u2] at e3
  generalize hy0 : (x0 &&& 51) + ((x0 >>> 2) &&& 51) = y0 at *
  generalize hy1 : (x1 &&& 51) + ((x1 >>> 2) &&& 51) = y1 at *
  generalize hz0 : pc8 b0 = z0 at *
  generalize hz1 : pc8 b1 = z1 at *
  generalize hz2 : pc8 b2 = z2 at *
  rw [show bcN (b0 + 256 * (b1 + 256 * b2)) = bcF (bcN3 (bcN2 (bcN1 (b0 + 256 * (b1 + 256 * b2))))) from rfl, e2, e3, bc3 s0 s1 t1 v2 u0 u1, bcF_eq v0 v1 v2]
theorem LL1 : (1431655765 : Int32) = iv 1431655765 := rfl
theorem LL2 : (858993459 : Int32) = iv 858993459 := rfl
theorem LL3 : (252645135 : Int32) = iv 252645135 := rfl
theorem c_bc {a : Nat} (ha : a < 1048576) (S : gS) : fJ16_bitCount (iv a) S = some (iv (bcN a)) := by
  have s1 : ∀ x j, x >>> j ≤ x := fun x j => by rw [Nat.shiftRight_eq_div_pow]; exact Nat.div_le_self _ _
  have s2 : ∀ x m, x &&& m ≤ x := fun x m => Nat.and_le_left
  have h1 : (a >>> 1) &&& 1431655765 ≤ a := Nat.le_trans (s2 _ _) (s1 _ _)
  have k1 : bcN1 a ≤ a := by unfold bcN1; omega
  have k2 : bcN2 (bcN1 a) ≤ 2 * a := by
    unfold bcN2
    have := s2 (bcN1 a) 858993459
    have := Nat.le_trans (s2 (bcN1 a >>> 2) 858993459) (s1 (bcN1 a) 2)
    omega
  have k3 : bcN3 (bcN2 (bcN1 a)) ≤ 4 * a := by
    unfold bcN3
    have := s2 (bcN2 (bcN1 a) + bcN2 (bcN1 a) >>> 4) 252645135
    have := s1 (bcN2 (bcN1 a)) 4
    omega
  have e1 : iv a - (((iv a).toUInt32 >>> ((iv 1).toUInt32 &&& Int32.toUInt32 31)).toInt32 &&& iv 1431655765) = iv (bcN1 a) := by
    rw [iv_ush (by omega) (by decide), iv_and, iv_sub h1]; rfl
  have e2 : (iv (bcN1 a) &&& iv 858993459) + (((iv (bcN1 a)).toUInt32 >>> ((iv 2).toUInt32 &&& Int32.toUInt32 31)).toInt32 &&& iv 858993459) = iv (bcN2 (bcN1 a)) := by
    rw [iv_ush (by omega) (by decide), iv_and, iv_and, iv_add]; rfl
  have e3 : (iv (bcN2 (bcN1 a)) + ((iv (bcN2 (bcN1 a))).toUInt32 >>> ((iv 4).toUInt32 &&& Int32.toUInt32 31)).toInt32) &&& iv 252645135 = iv (bcN3 (bcN2 (bcN1 a))) := by
    rw [iv_ush (by omega) (by decide), iv_add, iv_and]; rfl
  have e4 : iv (bcN3 (bcN2 (bcN1 a))) + ((iv (bcN3 (bcN2 (bcN1 a)))).toUInt32 >>> ((iv 8).toUInt32 &&& Int32.toUInt32 31)).toInt32 = iv (bcN3 (bcN2 (bcN1 a)) + bcN3 (bcN2 (bcN1 a)) >>> 8) := by
    rw [iv_ush (by omega) (by decide), iv_add]
  have h4 := s1 (bcN3 (bcN2 (bcN1 a))) 8
  have e5 : (iv (bcN3 (bcN2 (bcN1 a)) + bcN3 (bcN2 (bcN1 a)) >>> 8) + ((iv (bcN3 (bcN2 (bcN1 a)) + bcN3 (bcN2 (bcN1 a)) >>> 8)).toUInt32 >>> ((iv 16).toUInt32 &&& Int32.toUInt32 31)).toInt32) &&& iv 63 = iv (bcN a) := by
    rw [iv_ush (by omega) (by decide), iv_add, iv_and]; rfl
  unfold fJ16_bitCount
  simp only [L1, L2, L4, L8, L16, L63, LL1, LL2, LL3, e1, e2, e3, e4, e5]
/-- the bits of a number under 2^20 -/
theorem pc_add {a n : Nat} (hn : n < 20) (ha : a < 2 ^ n) : bcN (a + 2 ^ n) = bcN a + 1 := by
  have hd : ∀ x, x < 1048576 → x = x % 256 + 256 * (x / 256 % 256 + 256 * (x / 65536)) := by omega
  have hb : a < 1048576 := Nat.lt_of_lt_of_le ha (Nat.le_trans (Nat.pow_le_pow_right (by decide) (by omega : n ≤ 20)) (by decide))
  have hs : a + 2 ^ n < 1048576 := by
    have : 2 ^ (n + 1) ≤ 2 ^ 20 := Nat.pow_le_pow_right (by decide) (by omega)
    have h2 : 2 ^ (n + 1) = 2 * 2 ^ n := by rw [Nat.pow_succ]; omega
    have h3 : (2 : Nat) ^ 20 = 1048576 := by decide
    omega
  have f1 : bcN a = pc8 (a % 256) + pc8 (a / 256 % 256) + pc8 (a / 65536) := by
    have := bcN_eq (b0 := a % 256) (b1 := a / 256 % 256) (b2 := a / 65536) (by omega) (by omega) (by omega)
    rwa [← hd a hb] at this
  have f2 : bcN (a + 2 ^ n) = pc8 ((a + 2 ^ n) % 256) + pc8 ((a + 2 ^ n) / 256 % 256) + pc8 ((a + 2 ^ n) / 65536) := by
    have := bcN_eq (b0 := (a + 2 ^ n) % 256) (b1 := (a + 2 ^ n) / 256 % 256) (b2 := (a + 2 ^ n) / 65536) (by omega) (by omega) (by omega)
    rwa [← hd _ hs] at this
  rw [f1, f2]
  clear f1 f2
  have q8 : ∀ m, m < 8 → ∀ b, b < 2 ^ m → pc8 (b + 2 ^ m) = pc8 b + 1 := by decide +kernel
  have z8 : pc8 0 = 0 := rfl
  by_cases c1 : n < 8
  · have h9 : 2 ^ n ≤ 2 ^ 7 := Nat.pow_le_pow_right (by decide) (by omega)
    have h8 : (2 : Nat) ^ 7 = 128 := by decide
    have := q8 n c1 a ha
    rw [show (a + 2 ^ n) % 256 = a + 2 ^ n by omega, show (a + 2 ^ n) / 256 % 256 = 0 by omega, show (a + 2 ^ n) / 65536 = 0 by omega, show a % 256 = a by omega, show a / 256 % 256 = 0 by omega, show a / 65536 = 0 by omega]
    omega
  · by_cases c2 : n < 16
    · obtain ⟨m, rfl⟩ : ∃ m, n = 8 + m := ⟨n - 8, by omega⟩
      have h9 : 2 ^ m ≤ 2 ^ 7 := Nat.pow_le_pow_right (by decide) (by omega)
      have h8 : (2 : Nat) ^ 7 = 128 := by decide
      rw [Nat.pow_add, show (2 : Nat) ^ 8 = 256 by decide] at *
      have := q8 m (by omega) (a / 256) (by omega)
      rw [show (a + 256 * 2 ^ m) % 256 = a % 256 by omega, show (a + 256 * 2 ^ m) / 256 % 256 = a / 256 + 2 ^ m by omega, show (a + 256 * 2 ^ m) / 65536 = 0 by omega, show a / 256 % 256 = a / 256 by omega, show a / 65536 = 0 by omega]
      omega
    · obtain ⟨m, rfl⟩ : ∃ m, n = 16 + m := ⟨n - 16, by omega⟩
      have h9 : 2 ^ m ≤ 2 ^ 3 := Nat.pow_le_pow_right (by decide) (by omega)
      have h8 : (2 : Nat) ^ 3 = 8 := by decide
      rw [Nat.pow_add, show (2 : Nat) ^ 16 = 65536 by decide] at *
      have := q8 m (by omega) (a / 65536) (by omega)
      rw [show (a + 65536 * 2 ^ m) % 256 = a % 256 by omega, show (a + 65536 * 2 ^ m) / 256 % 256 = a / 256 % 256 by omega, show (a + 65536 * 2 ^ m) / 65536 = a / 65536 + 2 ^ m by omega]
      omega
theorem pw2 : ∀ m, m < 31 → iv 1 <<< (iv m &&& iv 31) = iv (2 ^ m) := by decide +kernel
theorem or_pw {a n : Nat} (ha : a < 2 ^ n) : a ||| 2 ^ n = a + 2 ^ n := by
  have := Nat.two_pow_add_eq_or_of_lt ha 1
  rw [Nat.mul_one] at this
  rw [Nat.or_comm, ← this, Nat.add_comm]
theorem iv_or (a b : Nat) : iv a ||| iv b = iv (a ||| b) := by
  apply Int32.toBitVec_inj.1
  show BitVec.ofNat 32 a ||| BitVec.ofNat 32 b = BitVec.ofNat 32 (a ||| b)
  apply BitVec.eq_of_getLsbD_eq
  intro i hi
  simp [hi]
def onS (p : Int32) (k : Nat) (x : Int32) : Int32 := x + ((p >>> (iv k &&& iv 31)) &&& iv 1)
section s38
variable {c : Nat} {td : Nat → Nat → Int32} {lw : Nat → Nat → Int32} {rw : Nat → Nat → Int32} {bf : Nat → Nat → Int32} {kp : Nat → Nat → Int32} {st : Nat → Nat → Int32} {ln : Nat → Nat → Int32} {rd : Nat → Nat → Int32} {rl : Nat → Nat → Int32} {rn : Nat → Nat → Int32} {ms : Nat → Nat → Int32} {sc : Nat → Nat → Int32} {mc : Nat → Nat → Int32} {fa : Nat → Int32} {pm : Nat → Int32} {xl : Nat → Int64} {pc : Nat → Int32} {rt : Nat → Option Nat} {ra : Nat → Nat → Option Nat} {ch : Nat → (Nat → Nat → Int32) × (Nat → Int32)} {ow : Nat → Option (Nat × Nat)} {ou : Nat → Int64} {B : gS}
theorem s_ones_l {p : Int32} : ∀ (j s fuel : Nat) (z : Int32), s + j = 7 → j < fuel → fX6_ones_l4 fuel p z (iv s) (zS c td lw rw bf kp st ln rd rl rn ms sc mc fa pm xl pc rt ra ch ow ou B) = some (foldN (onS p) j s z) := by
  intro j
  induction j with
  | zero =>
    intro s fuel z hs hf
    obtain ⟨f, rfl⟩ : ∃ f, fuel = f + 1 := ⟨fuel - 1, by omega⟩
    have hc : 7 ≤ s := by omega
    simp (maxSteps := 3000000) (disch := first | assumption | omega | (simp (disch := omega) only [okx_iv', nx_iv, iv_add, L0, L1, L2, L3, L7, L8, L14, L21, L28, L35, L55, L56, *]; try omega)) only [fX6_ones_l4, fX6_ones_i4, L0, L1, L7, L31, iv_add, no_def, nx_iv, okx_iv', iv_le, iv_lt, iv_eq, iv_no, no_iv, Nat.not_lt_zero, Nat.le_refl, vu_same, vu_ne, vu_up, ↓reduceIte, hc, foldN]
  | succ j ih =>
    intro s fuel z hs hf
    obtain ⟨f, rfl⟩ : ∃ f, fuel = f + 1 := ⟨fuel - 1, by omega⟩
    have hc : ¬ 7 ≤ s := by omega
    refine Eq.trans ?_ (ih (s + 1) f ((onS p) s z) (by omega) (by omega))
    simp (maxSteps := 3000000) (disch := first | assumption | omega | (simp (disch := omega) only [okx_iv', nx_iv, iv_add, L0, L1, L2, L3, L7, L8, L14, L21, L28, L35, L55, L56, *]; try omega)) only [fX6_ones_l4, fX6_ones_i4, L0, L1, L7, L31, iv_add, no_def, nx_iv, okx_iv', iv_le, iv_lt, iv_eq, iv_no, no_iv, Nat.not_lt_zero, Nat.le_refl, vu_same, vu_ne, vu_up, ↓reduceIte, hc, onS]
theorem ones7 : ∀ a, a < 128 → foldN (onS (iv a)) 7 0 (iv 0) = iv (bcN a) := by decide +kernel
theorem s_ones {a : Nat} (ha : a < 128) : fX6_ones (iv a) (zS c td lw rw bf kp st ln rd rl rn ms sc mc fa pm xl pc rt ra ch ow ou B) = some (iv (bcN a)) := by
  rw [← ones7 a ha]
  exact s_ones_l 7 0 gFU (iv 0) (by omega) (by unfold gFU; omega)
end s38
theorem bcN128 : ∀ a, a < 128 → bcN a ≤ 7 := by decide +kernel
