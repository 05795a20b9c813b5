set_option maxRecDepth 100000
set_option maxHeartbeats 2000000
section s21_law
variable {p : Program} {l : Launch} {e : Env} {R : Room} {s : State} {m : MethodId} {args : Array Value} {below : List Frame} {meth : Method} {c : Code} {D : gD} {K : gK} {u0 : Nat}
/-! VowelChoirLaw.law([I)Z -/
def fL_law_j232 (L : Nat) (xs : Nat → Int32) (k23 : (Option Nat) → (Option Nat) → (Option Nat) → (Int32) → gS → Option (Int32 × gS)) (a1 : Option Nat) (a2 : Option Nat) (a3 : Option Nat) (a4 : Int32) (S : gS) : Option (Int32 × gS) :=
  (oScr L xs (a4 + (1 : Int32))).bind fun x1 =>
  (oScr L xs (a4 + (2 : Int32))).bind fun x2 =>
  (oScr L xs (a4 + (3 : Int32))).bind fun x3 =>
  (oScr L xs (a4 + (4 : Int32))).bind fun x4 =>
  (oScr L xs (a4 + (5 : Int32))).bind fun x5 =>
  gB (gV [0] a1 S (fX1_feed a1 x1 x2 x3 x4 x5 S)) fun x6 S7 =>
  (oScr L xs (a4 + (1 : Int32))).bind fun x8 =>
  (oScr L xs (a4 + (2 : Int32))).bind fun x9 =>
  (oScr L xs (a4 + (3 : Int32))).bind fun x10 =>
  (oScr L xs (a4 + (4 : Int32))).bind fun x11 =>
  (oScr L xs (a4 + (5 : Int32))).bind fun x12 =>
  gB (gV [3] a2 S7 (fX6_feed a2 x8 x9 x10 x11 x12 S7)) fun x13 S14 =>
  (if x6 = x13 then
  k23 a1 a2 a3 (a4 + (9 : Int32)) S14
  else
  some ((0 : Int32), S14))
def fL_law_j305 (L : Nat) (xs : Nat → Int32) (k23 : (Option Nat) → (Option Nat) → (Option Nat) → (Int32) → gS → Option (Int32 × gS)) (a1 : Option Nat) (a2 : Option Nat) (a3 : Option Nat) (a4 : Int32) (S : gS) : Option (Int32 × gS) :=
  (oScr L xs (a4 + (1 : Int32))).bind fun x1 =>
  gB (fX0_choir a1 x1 a3 S) fun x2 S3 =>
  (oScr L xs (a4 + (1 : Int32))).bind fun x4 =>
  gB (gV [3] a2 S3 (fX6_choir a2 x4 S3)) fun x5 S6 =>
  (gV [3] a2 S6 (fX6_thrown a2 S6)).bind fun x7 =>
  (if x7 = x2 then
  (if x2 = 0 then
  (oLdL a3 (0 : Int32) S6).bind fun x8 =>
  (if (lg_cmp x8 x5.toInt64) = 0 then
  k23 a1 a2 a3 (a4 + (9 : Int32)) S6
  else
  some ((0 : Int32), S6))
  else
  k23 a1 a2 a3 (a4 + (9 : Int32)) S6)
  else
  some ((0 : Int32), S6))
def fL_law_j361 (L : Nat) (xs : Nat → Int32) (k23 : (Option Nat) → (Option Nat) → (Option Nat) → (Int32) → gS → Option (Int32 × gS)) (a1 : Option Nat) (a2 : Option Nat) (a3 : Option Nat) (a4 : Int32) (S : gS) : Option (Int32 × gS) :=
  (oScr L xs (a4 + (1 : Int32))).bind fun x1 =>
  gB (fX0_law a1 x1 a3 S) fun x2 S3 =>
  (oScr L xs (a4 + (1 : Int32))).bind fun x4 =>
  gB (gV [3] a2 S3 (fX6_law a2 x4 S3)) fun x5 S6 =>
  (gV [3] a2 S6 (fX6_thrown a2 S6)).bind fun x7 =>
  (if x7 = x2 then
  (if x2 = 0 then
  (oLdL a3 (0 : Int32) S6).bind fun x8 =>
  (if (lg_cmp x8 x5.toInt64) = 0 then
  k23 a1 a2 a3 (a4 + (9 : Int32)) S6
  else
  some ((0 : Int32), S6))
  else
  k23 a1 a2 a3 (a4 + (9 : Int32)) S6)
  else
  some ((0 : Int32), S6))
def fL_law_j417 (L : Nat) (xs : Nat → Int32) (k23 : (Option Nat) → (Option Nat) → (Option Nat) → (Int32) → gS → Option (Int32 × gS)) (a1 : Option Nat) (a2 : Option Nat) (a3 : Option Nat) (a4 : Int32) (S : gS) : Option (Int32 × gS) :=
  (oScr L xs (a4 + (1 : Int32))).bind fun x1 =>
  gB (fX0_work a1 x1 a3 S) fun x2 S3 =>
  (oScr L xs (a4 + (1 : Int32))).bind fun x4 =>
  gB (gV [3] a2 S3 (fX6_work a2 x4 S3)) fun x5 S6 =>
  (gV [3] a2 S6 (fX6_thrown a2 S6)).bind fun x7 =>
  (if x7 = x2 then
  (if x2 = 0 then
  (oLdL a3 (0 : Int32) S6).bind fun x8 =>
  (if (lg_cmp x8 x5.toInt64) = 0 then
  k23 a1 a2 a3 (a4 + (9 : Int32)) S6
  else
  some ((0 : Int32), S6))
  else
  k23 a1 a2 a3 (a4 + (9 : Int32)) S6)
  else
  some ((0 : Int32), S6))
def fL_law_j473 (L : Nat) (xs : Nat → Int32) (k23 : (Option Nat) → (Option Nat) → (Option Nat) → (Int32) → gS → Option (Int32 × gS)) (a1 : Option Nat) (a2 : Option Nat) (a3 : Option Nat) (a4 : Int32) (S : gS) : Option (Int32 × gS) :=
  (oScr L xs (a4 + (1 : Int32))).bind fun x1 =>
  gB (fX0_book a1 x1 a3 S) fun x2 S3 =>
  (oScr L xs (a4 + (1 : Int32))).bind fun x4 =>
  gB (gV [3] a2 S3 (fX6_book a2 x4 S3)) fun x5 S6 =>
  (gV [3] a2 S6 (fX6_thrown a2 S6)).bind fun x7 =>
  (if x7 = x2 then
  (if x2 = 0 then
  (oLdL a3 (0 : Int32) S6).bind fun x8 =>
  (if (lg_cmp x8 x5.toInt64) = 0 then
  k23 a1 a2 a3 (a4 + (9 : Int32)) S6
  else
  some ((0 : Int32), S6))
  else
  k23 a1 a2 a3 (a4 + (9 : Int32)) S6)
  else
  some ((0 : Int32), S6))
def fL_law_j529 (L : Nat) (xs : Nat → Int32) (k23 : (Option Nat) → (Option Nat) → (Option Nat) → (Int32) → gS → Option (Int32 × gS)) (a1 : Option Nat) (a2 : Option Nat) (a3 : Option Nat) (a4 : Int32) (S : gS) : Option (Int32 × gS) :=
  (gV [0] a1 S (fX1_fault a1 S)).bind fun x1 =>
  gB (gV [3] a2 S (fX6_fault a2 S)) fun x2 S3 =>
  (if x1 = x2 then
  k23 a1 a2 a3 (a4 + (9 : Int32)) S3
  else
  some ((0 : Int32), S3))
def fL_law_j542 (L : Nat) (xs : Nat → Int32) (k23 : (Option Nat) → (Option Nat) → (Option Nat) → (Int32) → gS → Option (Int32 × gS)) (a1 : Option Nat) (a2 : Option Nat) (a3 : Option Nat) (a4 : Int32) (S : gS) : Option (Int32 × gS) :=
  gB (gV [0] a1 S (fX1_undo a1 S)) fun x1 S2 =>
  gB (gV [3] a2 S2 (fX6_undo a2 S2)) fun x3 S4 =>
  (if x1 = x3 then
  k23 a1 a2 a3 (a4 + (9 : Int32)) S4
  else
  some ((0 : Int32), S4))
def fL_law_j555 (L : Nat) (xs : Nat → Int32) (k23 : (Option Nat) → (Option Nat) → (Option Nat) → (Int32) → gS → Option (Int32 × gS)) (a1 : Option Nat) (a2 : Option Nat) (a3 : Option Nat) (a4 : Int32) (S : gS) : Option (Int32 × gS) :=
  (oScr L xs (a4 + (1 : Int32))).bind fun x1 =>
  gB (fX0_told a1 x1 a3 S) fun x2 S3 =>
  (oScr L xs (a4 + (1 : Int32))).bind fun x4 =>
  gB (gV [3] a2 S3 (fX6_told a2 x4 S3)) fun x5 S6 =>
  (gV [3] a2 S6 (fX6_thrown a2 S6)).bind fun x7 =>
  (if x7 = x2 then
  (if x2 = 0 then
  (oLdL a3 (0 : Int32) S6).bind fun x8 =>
  (if (lg_cmp x8 x5.toInt64) = 0 then
  k23 a1 a2 a3 (a4 + (9 : Int32)) S6
  else
  some ((0 : Int32), S6))
  else
  k23 a1 a2 a3 (a4 + (9 : Int32)) S6)
  else
  some ((0 : Int32), S6))
def fL_law_j611 (L : Nat) (xs : Nat → Int32) (k23 : (Option Nat) → (Option Nat) → (Option Nat) → (Int32) → gS → Option (Int32 × gS)) (a1 : Option Nat) (a2 : Option Nat) (a3 : Option Nat) (a4 : Int32) (S : gS) : Option (Int32 × gS) :=
  (oScr L xs (a4 + (1 : Int32))).bind fun x1 =>
  (oScr L xs (a4 + (2 : Int32))).bind fun x2 =>
  gB (fX0_singer a1 x1 x2 a3 S) fun x3 S4 =>
  (oScr L xs (a4 + (1 : Int32))).bind fun x5 =>
  (oScr L xs (a4 + (2 : Int32))).bind fun x6 =>
  gB (gV [3] a2 S4 (fX6_singer a2 x5 x6 S4)) fun x7 S8 =>
  (gV [3] a2 S8 (fX6_thrown a2 S8)).bind fun x9 =>
  (if x9 = x3 then
  (if x3 = 0 then
  (oLdL a3 (0 : Int32) S8).bind fun x10 =>
  (if (lg_cmp x10 x7.toInt64) = 0 then
  k23 a1 a2 a3 (a4 + (9 : Int32)) S8
  else
  some ((0 : Int32), S8))
  else
  k23 a1 a2 a3 (a4 + (9 : Int32)) S8)
  else
  some ((0 : Int32), S8))
def fL_law_j679 (L : Nat) (xs : Nat → Int32) (k23 : (Option Nat) → (Option Nat) → (Option Nat) → (Int32) → gS → Option (Int32 × gS)) (a1 : Option Nat) (a2 : Option Nat) (a3 : Option Nat) (a4 : Int32) (S : gS) : Option (Int32 × gS) :=
  (oScr L xs (a4 + (1 : Int32))).bind fun x1 =>
  (oScr L xs (a4 + (2 : Int32))).bind fun x2 =>
  gB (fX0_note a1 x1 x2 a3 S) fun x3 S4 =>
  (oScr L xs (a4 + (1 : Int32))).bind fun x5 =>
  (oScr L xs (a4 + (2 : Int32))).bind fun x6 =>
  gB (gV [3] a2 S4 (fX6_note a2 x5 x6 S4)) fun x7 S8 =>
  (gV [3] a2 S8 (fX6_thrown a2 S8)).bind fun x9 =>
  (if x9 = x3 then
  (if x3 = 0 then
  (oLdL a3 (0 : Int32) S8).bind fun x10 =>
  (if (lg_cmp x10 x7.toInt64) = 0 then
  k23 a1 a2 a3 (a4 + (9 : Int32)) S8
  else
  some ((0 : Int32), S8))
  else
  k23 a1 a2 a3 (a4 + (9 : Int32)) S8)
  else
  some ((0 : Int32), S8))
def fL_law_j747 (L : Nat) (xs : Nat → Int32) (k23 : (Option Nat) → (Option Nat) → (Option Nat) → (Int32) → gS → Option (Int32 × gS)) (a1 : Option Nat) (a2 : Option Nat) (a3 : Option Nat) (a4 : Int32) (S : gS) : Option (Int32 × gS) :=
  (oScr L xs (a4 + (1 : Int32))).bind fun x1 =>
  (oScr L xs (a4 + (2 : Int32))).bind fun x2 =>
  gB (fX0_like a1 x1 x2 a3 S) fun x3 S4 =>
  (oScr L xs (a4 + (1 : Int32))).bind fun x5 =>
  (oScr L xs (a4 + (2 : Int32))).bind fun x6 =>
  gB (gV [3] a2 S4 (fX6_like a2 x5 x6 S4)) fun x7 S8 =>
  (gV [3] a2 S8 (fX6_thrown a2 S8)).bind fun x9 =>
  (if x9 = x3 then
  (if x3 = 0 then
  (oLdL a3 (0 : Int32) S8).bind fun x10 =>
  (if (lg_cmp x10 x7.toInt64) = 0 then
  k23 a1 a2 a3 (a4 + (9 : Int32)) S8
  else
  some ((0 : Int32), S8))
  else
  k23 a1 a2 a3 (a4 + (9 : Int32)) S8)
  else
  some ((0 : Int32), S8))
def fL_law_j815 (L : Nat) (xs : Nat → Int32) (k23 : (Option Nat) → (Option Nat) → (Option Nat) → (Int32) → gS → Option (Int32 × gS)) (a1 : Option Nat) (a2 : Option Nat) (a3 : Option Nat) (a4 : Int32) (S : gS) : Option (Int32 × gS) :=
  (oScr L xs (a4 + (1 : Int32))).bind fun x1 =>
  (oScr L xs (a4 + (2 : Int32))).bind fun x2 =>
  gB (fX0_takes a1 x1 x2 a3 S) fun x3 S4 =>
  (oScr L xs (a4 + (1 : Int32))).bind fun x5 =>
  (oScr L xs (a4 + (2 : Int32))).bind fun x6 =>
  gB (gV [3] a2 S4 (fX6_takes a2 x5 x6 S4)) fun x7 S8 =>
  (gV [3] a2 S8 (fX6_thrown a2 S8)).bind fun x9 =>
  (if x9 = x3 then
  (if x3 = 0 then
  (oLdL a3 (0 : Int32) S8).bind fun x10 =>
  (if (lg_cmp x10 x7.toInt64) = 0 then
  k23 a1 a2 a3 (a4 + (9 : Int32)) S8
  else
  some ((0 : Int32), S8))
  else
  k23 a1 a2 a3 (a4 + (9 : Int32)) S8)
  else
  some ((0 : Int32), S8))
def fL_law_j883 (L : Nat) (xs : Nat → Int32) (k23 : (Option Nat) → (Option Nat) → (Option Nat) → (Int32) → gS → Option (Int32 × gS)) (a1 : Option Nat) (a2 : Option Nat) (a3 : Option Nat) (a4 : Int32) (S : gS) : Option (Int32 × gS) :=
  (oScr L xs (a4 + (1 : Int32))).bind fun x1 =>
  (oScr L xs (a4 + (2 : Int32))).bind fun x2 =>
  (oScr L xs (a4 + (3 : Int32))).bind fun x3 =>
  (oScr L xs (a4 + (4 : Int32))).bind fun x4 =>
  (oScr L xs (a4 + (5 : Int32))).bind fun x5 =>
  (oScr L xs (a4 + (6 : Int32))).bind fun x6 =>
  (oScr L xs (a4 + (7 : Int32))).bind fun x7 =>
  (oScr L xs (a4 + (8 : Int32))).bind fun x8 =>
  gB (fX0_would a1 x1 x2 x3 x4 x5 x6 x7 x8 a3 S) fun x9 S10 =>
  (oScr L xs (a4 + (1 : Int32))).bind fun x11 =>
  (oScr L xs (a4 + (2 : Int32))).bind fun x12 =>
  (oScr L xs (a4 + (3 : Int32))).bind fun x13 =>
  (oScr L xs (a4 + (4 : Int32))).bind fun x14 =>
  (oScr L xs (a4 + (5 : Int32))).bind fun x15 =>
  (oScr L xs (a4 + (6 : Int32))).bind fun x16 =>
  (oScr L xs (a4 + (7 : Int32))).bind fun x17 =>
  (oScr L xs (a4 + (8 : Int32))).bind fun x18 =>
  gB (gV [3] a2 S10 (fX6_would a2 x11 x12 x13 x14 x15 x16 x17 x18 S10)) fun x19 S20 =>
  (gV [3] a2 S20 (fX6_thrown a2 S20)).bind fun x21 =>
  (if x21 = x9 then
  (if x9 = 0 then
  (oLdL a3 (0 : Int32) S20).bind fun x22 =>
  (if (lg_cmp x22 x19.toInt64) = 0 then
  k23 a1 a2 a3 (a4 + (9 : Int32)) S20
  else
  some ((0 : Int32), S20))
  else
  k23 a1 a2 a3 (a4 + (9 : Int32)) S20)
  else
  some ((0 : Int32), S20))
def fL_law_j1029 (L : Nat) (xs : Nat → Int32) (k23 : (Option Nat) → (Option Nat) → (Option Nat) → (Int32) → gS → Option (Int32 × gS)) (a1 : Option Nat) (a2 : Option Nat) (a3 : Option Nat) (a4 : Int32) (S : gS) : Option (Int32 × gS) :=
  (oScr L xs (a4 + (1 : Int32))).bind fun x1 =>
  (oScr L xs (a4 + (2 : Int32))).bind fun x2 =>
  gB (fX0_ahead a1 x1 x2 a3 S) fun x3 S4 =>
  (oScr L xs (a4 + (1 : Int32))).bind fun x5 =>
  (oScr L xs (a4 + (2 : Int32))).bind fun x6 =>
  gB (gV [3] a2 S4 (fX6_ahead a2 x5 x6 S4)) fun x7 S8 =>
  (gV [3] a2 S8 (fX6_thrown a2 S8)).bind fun x9 =>
  (if x9 = x3 then
  (if x3 = 0 then
  (oLdL a3 (0 : Int32) S8).bind fun x10 =>
  (if (lg_cmp x10 x7.toInt64) = 0 then
  k23 a1 a2 a3 (a4 + (9 : Int32)) S8
  else
  some ((0 : Int32), S8))
  else
  k23 a1 a2 a3 (a4 + (9 : Int32)) S8)
  else
  some ((0 : Int32), S8))
def fL_law_j1097 (L : Nat) (xs : Nat → Int32) (k23 : (Option Nat) → (Option Nat) → (Option Nat) → (Int32) → gS → Option (Int32 × gS)) (a1 : Option Nat) (a2 : Option Nat) (a3 : Option Nat) (a4 : Int32) (S : gS) : Option (Int32 × gS) :=
  gB (gV [0] a1 S (fX1_cast a1 S)) fun x1 S2 =>
  gB (gV [3] a2 S2 (fX6_cast a2 S2)) fun x3 S4 =>
  (if x1 = x3 then
  k23 a1 a2 a3 (a4 + (9 : Int32)) S4
  else
  some ((0 : Int32), S4))
def fL_law_j1110 (L : Nat) (xs : Nat → Int32) (k23 : (Option Nat) → (Option Nat) → (Option Nat) → (Int32) → gS → Option (Int32 × gS)) (a1 : Option Nat) (a2 : Option Nat) (a3 : Option Nat) (a4 : Int32) (S : gS) : Option (Int32 × gS) :=
  (oScr L xs (a4 + (1 : Int32))).bind fun x1 =>
  (oScr L xs (a4 + (2 : Int32))).bind fun x2 =>
  gB (fX0_handed a1 x1 x2 a3 S) fun x3 S4 =>
  (oScr L xs (a4 + (1 : Int32))).bind fun x5 =>
  (oScr L xs (a4 + (2 : Int32))).bind fun x6 =>
  gB (gV [3] a2 S4 (fX6_handed a2 x5 x6 S4)) fun x7 S8 =>
  (gV [3] a2 S8 (fX6_thrown a2 S8)).bind fun x9 =>
  (if x9 = x3 then
  (if x3 = 0 then
  (oLdL a3 (0 : Int32) S8).bind fun x10 =>
  (if (lg_cmp x10 x7.toInt64) = 0 then
  k23 a1 a2 a3 (a4 + (9 : Int32)) S8
  else
  some ((0 : Int32), S8))
  else
  k23 a1 a2 a3 (a4 + (9 : Int32)) S8)
  else
  some ((0 : Int32), S8))
def fL_law_j1178 (L : Nat) (xs : Nat → Int32) (k23 : (Option Nat) → (Option Nat) → (Option Nat) → (Int32) → gS → Option (Int32 × gS)) (a1 : Option Nat) (a2 : Option Nat) (a3 : Option Nat) (a4 : Int32) (S : gS) : Option (Int32 × gS) :=
  gB (gV [0] a1 S (fX1_bench a1 S)) fun x1 S2 =>
  gB (gV [3] a2 S2 (fX6_bench a2 S2)) fun x3 S4 =>
  (if x1 = x3 then
  k23 a1 a2 a3 (a4 + (9 : Int32)) S4
  else
  some ((0 : Int32), S4))
def fL_law_j1191 (L : Nat) (xs : Nat → Int32) (k23 : (Option Nat) → (Option Nat) → (Option Nat) → (Int32) → gS → Option (Int32 × gS)) (a1 : Option Nat) (a2 : Option Nat) (a3 : Option Nat) (a4 : Int32) (S : gS) : Option (Int32 × gS) :=
  (oScr L xs (a4 + (1 : Int32))).bind fun x1 =>
  gB (fX0_benched a1 x1 a3 S) fun x2 S3 =>
  (oScr L xs (a4 + (1 : Int32))).bind fun x4 =>
  gB (gV [3] a2 S3 (fX6_benched a2 x4 S3)) fun x5 S6 =>
  (gV [3] a2 S6 (fX6_thrown a2 S6)).bind fun x7 =>
  (if x7 = x2 then
  (if x2 = 0 then
  (oLdL a3 (0 : Int32) S6).bind fun x8 =>
  (if (lg_cmp x8 x5.toInt64) = 0 then
  k23 a1 a2 a3 (a4 + (9 : Int32)) S6
  else
  some ((0 : Int32), S6))
  else
  k23 a1 a2 a3 (a4 + (9 : Int32)) S6)
  else
  some ((0 : Int32), S6))
def fL_law_j1247 (L : Nat) (xs : Nat → Int32) (k23 : (Option Nat) → (Option Nat) → (Option Nat) → (Int32) → gS → Option (Int32 × gS)) (a1 : Option Nat) (a2 : Option Nat) (a3 : Option Nat) (a4 : Int32) (S : gS) : Option (Int32 × gS) :=
  (gV [0] a1 S (fX1_wording a1 S)).bind fun x1 =>
  gB (gV [3] a2 S (fX6_wording a2 S)) fun x2 S3 =>
  (if x1 = x2 then
  k23 a1 a2 a3 (a4 + (9 : Int32)) S3
  else
  some ((0 : Int32), S3))
def fL_law_j1260 (L : Nat) (xs : Nat → Int32) (k23 : (Option Nat) → (Option Nat) → (Option Nat) → (Int32) → gS → Option (Int32 × gS)) (a1 : Option Nat) (a2 : Option Nat) (a3 : Option Nat) (a4 : Int32) (S : gS) : Option (Int32 × gS) :=
  (oScr L xs (a4 + (1 : Int32))).bind fun x1 =>
  gB (fX0_wordings a1 x1 a3 S) fun x2 S3 =>
  (oScr L xs (a4 + (1 : Int32))).bind fun x4 =>
  gB (gV [3] a2 S3 (fX6_wordings a2 x4 S3)) fun x5 S6 =>
  (gV [3] a2 S6 (fX6_thrown a2 S6)).bind fun x7 =>
  (if x7 = x2 then
  (if x2 = 0 then
  (oLdL a3 (0 : Int32) S6).bind fun x8 =>
  (if (lg_cmp x8 x5) = 0 then
  k23 a1 a2 a3 (a4 + (9 : Int32)) S6
  else
  some ((0 : Int32), S6))
  else
  k23 a1 a2 a3 (a4 + (9 : Int32)) S6)
  else
  some ((0 : Int32), S6))
def fL_law_j1315 (L : Nat) (xs : Nat → Int32) (k23 : (Option Nat) → (Option Nat) → (Option Nat) → (Int32) → gS → Option (Int32 × gS)) (a1 : Option Nat) (a2 : Option Nat) (a3 : Option Nat) (a4 : Int32) (S : gS) : Option (Int32 × gS) :=
  (oScr L xs (a4 + (1 : Int32))).bind fun x1 =>
  gB (fX0_who a1 x1 a3 S) fun x2 S3 =>
  (oScr L xs (a4 + (1 : Int32))).bind fun x4 =>
  gB (gV [3] a2 S3 (fX6_who a2 x4 S3)) fun x5 S6 =>
  (gV [3] a2 S6 (fX6_thrown a2 S6)).bind fun x7 =>
  (if x7 = x2 then
  (if x2 = 0 then
  (oLdL a3 (0 : Int32) S6).bind fun x8 =>
  (if (lg_cmp x8 x5.toInt64) = 0 then
  k23 a1 a2 a3 (a4 + (9 : Int32)) S6
  else
  some ((0 : Int32), S6))
  else
  k23 a1 a2 a3 (a4 + (9 : Int32)) S6)
  else
  some ((0 : Int32), S6))
def fL_law_j1371 (L : Nat) (xs : Nat → Int32) (k23 : (Option Nat) → (Option Nat) → (Option Nat) → (Int32) → gS → Option (Int32 × gS)) (a1 : Option Nat) (a2 : Option Nat) (a3 : Option Nat) (a4 : Int32) (S : gS) : Option (Int32 × gS) :=
  (oScr L xs (a4 + (1 : Int32))).bind fun x1 =>
  gB (fX0_listen a1 x1 a3 S) fun x2 S3 =>
  (oScr L xs (a4 + (1 : Int32))).bind fun x4 =>
  gB (gV [3] a2 S3 (fX6_listen a2 x4 S3)) fun x5 S6 =>
  (gV [3] a2 S6 (fX6_thrown a2 S6)).bind fun x7 =>
  (if x7 = x2 then
  (if x2 = 0 then
  (oLdL a3 (0 : Int32) S6).bind fun x8 =>
  (if (lg_cmp x8 x5.toInt64) = 0 then
  k23 a1 a2 a3 (a4 + (9 : Int32)) S6
  else
  some ((0 : Int32), S6))
  else
  k23 a1 a2 a3 (a4 + (9 : Int32)) S6)
  else
  some ((0 : Int32), S6))
def fL_law_j1427 (L : Nat) (xs : Nat → Int32) (k23 : (Option Nat) → (Option Nat) → (Option Nat) → (Int32) → gS → Option (Int32 × gS)) (a1 : Option Nat) (a2 : Option Nat) (a3 : Option Nat) (a4 : Int32) (S : gS) : Option (Int32 × gS) :=
  (oScr L xs (a4 + (1 : Int32))).bind fun x1 =>
  gB (fX0_duty a1 x1 a3 S) fun x2 S3 =>
  (oScr L xs (a4 + (1 : Int32))).bind fun x4 =>
  gB (gV [3] a2 S3 (fX6_duty a2 x4 S3)) fun x5 S6 =>
  (gV [3] a2 S6 (fX6_thrown a2 S6)).bind fun x7 =>
  (if x7 = x2 then
  (if x2 = 0 then
  (oLdL a3 (0 : Int32) S6).bind fun x8 =>
  (if (lg_cmp x8 x5.toInt64) = 0 then
  k23 a1 a2 a3 (a4 + (9 : Int32)) S6
  else
  some ((0 : Int32), S6))
  else
  k23 a1 a2 a3 (a4 + (9 : Int32)) S6)
  else
  some ((0 : Int32), S6))
def fL_law_j1483 (L : Nat) (xs : Nat → Int32) (k23 : (Option Nat) → (Option Nat) → (Option Nat) → (Int32) → gS → Option (Int32 × gS)) (a1 : Option Nat) (a2 : Option Nat) (a3 : Option Nat) (a4 : Int32) (S : gS) : Option (Int32 × gS) :=
  (oScr L xs (a4 + (1 : Int32))).bind fun x1 =>
  gB (fX0_range a1 x1 a3 S) fun x2 S3 =>
  (oScr L xs (a4 + (1 : Int32))).bind fun x4 =>
  gB (gV [3] a2 S3 (fX6_range a2 x4 S3)) fun x5 S6 =>
  (gV [3] a2 S6 (fX6_thrown a2 S6)).bind fun x7 =>
  (if x7 = x2 then
  (if x2 = 0 then
  (oLdL a3 (0 : Int32) S6).bind fun x8 =>
  (if (lg_cmp x8 x5.toInt64) = 0 then
  k23 a1 a2 a3 (a4 + (9 : Int32)) S6
  else
  some ((0 : Int32), S6))
  else
  k23 a1 a2 a3 (a4 + (9 : Int32)) S6)
  else
  some ((0 : Int32), S6))
def fL_law_j1539 (L : Nat) (xs : Nat → Int32) (k23 : (Option Nat) → (Option Nat) → (Option Nat) → (Int32) → gS → Option (Int32 × gS)) (a1 : Option Nat) (a2 : Option Nat) (a3 : Option Nat) (a4 : Int32) (S : gS) : Option (Int32 × gS) :=
  (oScr L xs (a4 + (1 : Int32))).bind fun x1 =>
  (oScr L xs (a4 + (2 : Int32))).bind fun x2 =>
  (oScr L xs (a4 + (3 : Int32))).bind fun x3 =>
  gB (fX0_quarrel a1 x1 x2 x3 a3 S) fun x4 S5 =>
  (oScr L xs (a4 + (1 : Int32))).bind fun x6 =>
  (oScr L xs (a4 + (2 : Int32))).bind fun x7 =>
  (oScr L xs (a4 + (3 : Int32))).bind fun x8 =>
  gB (gV [3] a2 S5 (fX6_quarrel a2 x6 x7 x8 S5)) fun x9 S10 =>
  (gV [3] a2 S10 (fX6_thrown a2 S10)).bind fun x11 =>
  (if x11 = x4 then
  (if x4 = 0 then
  (oLdL a3 (0 : Int32) S10).bind fun x12 =>
  (if (lg_cmp x12 x9.toInt64) = 0 then
  k23 a1 a2 a3 (a4 + (9 : Int32)) S10
  else
  some ((0 : Int32), S10))
  else
  k23 a1 a2 a3 (a4 + (9 : Int32)) S10)
  else
  some ((0 : Int32), S10))
def fL_law_j1619 (L : Nat) (xs : Nat → Int32) (k23 : (Option Nat) → (Option Nat) → (Option Nat) → (Int32) → gS → Option (Int32 × gS)) (a1 : Option Nat) (a2 : Option Nat) (a3 : Option Nat) (a4 : Int32) (S : gS) : Option (Int32 × gS) :=
  (oScr L xs (a4 + (1 : Int32))).bind fun x1 =>
  (oScr L xs (a4 + (2 : Int32))).bind fun x2 =>
  (oScr L xs (a4 + (3 : Int32))).bind fun x3 =>
  (oScr L xs (a4 + (4 : Int32))).bind fun x4 =>
  gB (fX0_enough a1 x1 x2 x3 x4 a3 S) fun x5 S6 =>
  (oScr L xs (a4 + (1 : Int32))).bind fun x7 =>
  (oScr L xs (a4 + (2 : Int32))).bind fun x8 =>
  (oScr L xs (a4 + (3 : Int32))).bind fun x9 =>
  (oScr L xs (a4 + (4 : Int32))).bind fun x10 =>
  gB (gV [3] a2 S6 (fX6_enough a2 x7 x8 x9 x10 S6)) fun x11 S12 =>
  (gV [3] a2 S12 (fX6_thrown a2 S12)).bind fun x13 =>
  (if x13 = x5 then
  (if x5 = 0 then
  (oLdL a3 (0 : Int32) S12).bind fun x14 =>
  (if (lg_cmp x14 x11) = 0 then
  k23 a1 a2 a3 (a4 + (9 : Int32)) S12
  else
  some ((0 : Int32), S12))
  else
  k23 a1 a2 a3 (a4 + (9 : Int32)) S12)
  else
  some ((0 : Int32), S12))
def fL_law_j1710 (L : Nat) (xs : Nat → Int32) (k23 : (Option Nat) → (Option Nat) → (Option Nat) → (Int32) → gS → Option (Int32 × gS)) (a1 : Option Nat) (a2 : Option Nat) (a3 : Option Nat) (a4 : Int32) (S : gS) : Option (Int32 × gS) :=
  (oScr L xs (a4 + (1 : Int32))).bind fun x1 =>
  (oScr L xs (a4 + (2 : Int32))).bind fun x2 =>
  (oScr L xs (a4 + (3 : Int32))).bind fun x3 =>
  gB (fX0_rent a1 x1 x2 x3 a3 S) fun x4 S5 =>
  (oScr L xs (a4 + (1 : Int32))).bind fun x6 =>
  (oScr L xs (a4 + (2 : Int32))).bind fun x7 =>
  (oScr L xs (a4 + (3 : Int32))).bind fun x8 =>
  gB (gV [3] a2 S5 (fX6_rent a2 x6 x7 x8 S5)) fun x9 S10 =>
  (gV [3] a2 S10 (fX6_thrown a2 S10)).bind fun x11 =>
  (if x11 = x4 then
  (if x4 = 0 then
  (oLdL a3 (0 : Int32) S10).bind fun x12 =>
  (if (lg_cmp x12 x9.toInt64) = 0 then
  k23 a1 a2 a3 (a4 + (9 : Int32)) S10
  else
  some ((0 : Int32), S10))
  else
  k23 a1 a2 a3 (a4 + (9 : Int32)) S10)
  else
  some ((0 : Int32), S10))
def fL_law_j1790 (L : Nat) (xs : Nat → Int32) (k23 : (Option Nat) → (Option Nat) → (Option Nat) → (Int32) → gS → Option (Int32 × gS)) (a1 : Option Nat) (a2 : Option Nat) (a3 : Option Nat) (a4 : Int32) (S : gS) : Option (Int32 × gS) :=
  (oScr L xs (a4 + (1 : Int32))).bind fun x1 =>
  gB (fX0_dearest a1 x1 a3 S) fun x2 S3 =>
  (oScr L xs (a4 + (1 : Int32))).bind fun x4 =>
  gB (gV [3] a2 S3 (fX6_dearest a2 x4 S3)) fun x5 S6 =>
  (gV [3] a2 S6 (fX6_thrown a2 S6)).bind fun x7 =>
  (if x7 = x2 then
  (if x2 = 0 then
  (oLdL a3 (0 : Int32) S6).bind fun x8 =>
  (if (lg_cmp x8 x5.toInt64) = 0 then
  k23 a1 a2 a3 (a4 + (9 : Int32)) S6
  else
  some ((0 : Int32), S6))
  else
  k23 a1 a2 a3 (a4 + (9 : Int32)) S6)
  else
  some ((0 : Int32), S6))
def fL_law_j1846 (L : Nat) (xs : Nat → Int32) (k23 : (Option Nat) → (Option Nat) → (Option Nat) → (Int32) → gS → Option (Int32 × gS)) (a1 : Option Nat) (a2 : Option Nat) (a3 : Option Nat) (a4 : Int32) (S : gS) : Option (Int32 × gS) :=
  (oScr L xs (a4 + (1 : Int32))).bind fun x1 =>
  gB (fX0_voices a1 x1 a3 S) fun x2 S3 =>
  (oScr L xs (a4 + (1 : Int32))).bind fun x4 =>
  gB (gV [3] a2 S3 (fX6_voices a2 x4 S3)) fun x5 S6 =>
  (gV [3] a2 S6 (fX6_thrown a2 S6)).bind fun x7 =>
  (if x7 = x2 then
  (if x2 = 0 then
  (oLdL a3 (0 : Int32) S6).bind fun x8 =>
  (if (lg_cmp x8 x5.toInt64) = 0 then
  k23 a1 a2 a3 (a4 + (9 : Int32)) S6
  else
  some ((0 : Int32), S6))
  else
  k23 a1 a2 a3 (a4 + (9 : Int32)) S6)
  else
  some ((0 : Int32), S6))
def fL_law_j1902 (L : Nat) (xs : Nat → Int32) (k23 : (Option Nat) → (Option Nat) → (Option Nat) → (Int32) → gS → Option (Int32 × gS)) (a1 : Option Nat) (a2 : Option Nat) (a3 : Option Nat) (a4 : Int32) (S : gS) : Option (Int32 × gS) :=
  (oScr L xs (a4 + (1 : Int32))).bind fun x1 =>
  gB (fX0_sounds a1 x1 a3 S) fun x2 S3 =>
  (oScr L xs (a4 + (1 : Int32))).bind fun x4 =>
  gB (gV [3] a2 S3 (fX6_sounds a2 x4 S3)) fun x5 S6 =>
  (gV [3] a2 S6 (fX6_thrown a2 S6)).bind fun x7 =>
  (if x7 = x2 then
  (if x2 = 0 then
  (oLdL a3 (0 : Int32) S6).bind fun x8 =>
  (if (lg_cmp x8 x5.toInt64) = 0 then
  k23 a1 a2 a3 (a4 + (9 : Int32)) S6
  else
  some ((0 : Int32), S6))
  else
  k23 a1 a2 a3 (a4 + (9 : Int32)) S6)
  else
  some ((0 : Int32), S6))
def fL_law_j1958 (L : Nat) (xs : Nat → Int32) (k23 : (Option Nat) → (Option Nat) → (Option Nat) → (Int32) → gS → Option (Int32 × gS)) (a1 : Option Nat) (a2 : Option Nat) (a3 : Option Nat) (a4 : Int32) (S : gS) : Option (Int32 × gS) :=
  (oScr L xs (a4 + (1 : Int32))).bind fun x1 =>
  gB (fX0_beats a1 x1 a3 S) fun x2 S3 =>
  (oScr L xs (a4 + (1 : Int32))).bind fun x4 =>
  gB (gV [3] a2 S3 (fX6_beats a2 x4 S3)) fun x5 S6 =>
  (gV [3] a2 S6 (fX6_thrown a2 S6)).bind fun x7 =>
  (if x7 = x2 then
  (if x2 = 0 then
  (oLdL a3 (0 : Int32) S6).bind fun x8 =>
  (if (lg_cmp x8 x5.toInt64) = 0 then
  k23 a1 a2 a3 (a4 + (9 : Int32)) S6
  else
  some ((0 : Int32), S6))
  else
  k23 a1 a2 a3 (a4 + (9 : Int32)) S6)
  else
  some ((0 : Int32), S6))
def fL_law_j2014 (L : Nat) (xs : Nat → Int32) (k23 : (Option Nat) → (Option Nat) → (Option Nat) → (Int32) → gS → Option (Int32 × gS)) (a1 : Option Nat) (a2 : Option Nat) (a3 : Option Nat) (a4 : Int32) (S : gS) : Option (Int32 × gS) :=
  (oScr L xs (a4 + (1 : Int32))).bind fun x1 =>
  gB (fX0_words a1 x1 a3 S) fun x2 S3 =>
  (oScr L xs (a4 + (1 : Int32))).bind fun x4 =>
  gB (gV [3] a2 S3 (fX6_words a2 x4 S3)) fun x5 S6 =>
  (gV [3] a2 S6 (fX6_thrown a2 S6)).bind fun x7 =>
  (if x7 = x2 then
  (if x2 = 0 then
  (oLdL a3 (0 : Int32) S6).bind fun x8 =>
  (if (lg_cmp x8 x5.toInt64) = 0 then
  k23 a1 a2 a3 (a4 + (9 : Int32)) S6
  else
  some ((0 : Int32), S6))
  else
  k23 a1 a2 a3 (a4 + (9 : Int32)) S6)
  else
  some ((0 : Int32), S6))
def fL_law_j2070 (L : Nat) (xs : Nat → Int32) (k23 : (Option Nat) → (Option Nat) → (Option Nat) → (Int32) → gS → Option (Int32 × gS)) (a1 : Option Nat) (a2 : Option Nat) (a3 : Option Nat) (a4 : Int32) (S : gS) : Option (Int32 × gS) :=
  gB (gV [0] a1 S (fX1_mute a1 S)) fun x1 S2 =>
  gB (gV [3] a2 S2 (fX6_mute a2 S2)) fun x3 S4 =>
  (if x1 = x3 then
  k23 a1 a2 a3 (a4 + (9 : Int32)) S4
  else
  some ((0 : Int32), S4))
def fL_law_j2083 (L : Nat) (xs : Nat → Int32) (k23 : (Option Nat) → (Option Nat) → (Option Nat) → (Int32) → gS → Option (Int32 × gS)) (a1 : Option Nat) (a2 : Option Nat) (a3 : Option Nat) (a4 : Int32) (S : gS) : Option (Int32 × gS) :=
  gB (gV [0] a1 S (fX1_idle a1 S)) fun x1 S2 =>
  gB (gV [3] a2 S2 (fX6_idle a2 S2)) fun x3 S4 =>
  (if x1 = x3 then
  k23 a1 a2 a3 (a4 + (9 : Int32)) S4
  else
  some ((0 : Int32), S4))
def fL_law_j2096 (L : Nat) (xs : Nat → Int32) (k23 : (Option Nat) → (Option Nat) → (Option Nat) → (Int32) → gS → Option (Int32 × gS)) (a1 : Option Nat) (a2 : Option Nat) (a3 : Option Nat) (a4 : Int32) (S : gS) : Option (Int32 × gS) :=
  (oScr L xs (a4 + (1 : Int32))).bind fun x1 =>
  gB (fX0_alone a1 x1 a3 S) fun x2 S3 =>
  (oScr L xs (a4 + (1 : Int32))).bind fun x4 =>
  gB (gV [3] a2 S3 (fX6_alone a2 x4 S3)) fun x5 S6 =>
  (gV [3] a2 S6 (fX6_thrown a2 S6)).bind fun x7 =>
  (if x7 = x2 then
  (if x2 = 0 then
  (oLdL a3 (0 : Int32) S6).bind fun x8 =>
  (if (lg_cmp x8 x5.toInt64) = 0 then
  k23 a1 a2 a3 (a4 + (9 : Int32)) S6
  else
  some ((0 : Int32), S6))
  else
  k23 a1 a2 a3 (a4 + (9 : Int32)) S6)
  else
  some ((0 : Int32), S6))
def fL_law_j2152 (L : Nat) (xs : Nat → Int32) (k23 : (Option Nat) → (Option Nat) → (Option Nat) → (Int32) → gS → Option (Int32 × gS)) (a1 : Option Nat) (a2 : Option Nat) (a3 : Option Nat) (a4 : Int32) (S : gS) : Option (Int32 × gS) :=
  (oScr L xs (a4 + (1 : Int32))).bind fun x1 =>
  gB (fX0_longest a1 x1 a3 S) fun x2 S3 =>
  (oScr L xs (a4 + (1 : Int32))).bind fun x4 =>
  gB (gV [3] a2 S3 (fX6_longest a2 x4 S3)) fun x5 S6 =>
  (gV [3] a2 S6 (fX6_thrown a2 S6)).bind fun x7 =>
  (if x7 = x2 then
  (if x2 = 0 then
  (oLdL a3 (0 : Int32) S6).bind fun x8 =>
  (if (lg_cmp x8 x5.toInt64) = 0 then
  k23 a1 a2 a3 (a4 + (9 : Int32)) S6
  else
  some ((0 : Int32), S6))
  else
  k23 a1 a2 a3 (a4 + (9 : Int32)) S6)
  else
  some ((0 : Int32), S6))
def fL_law_j2208 (L : Nat) (xs : Nat → Int32) (k23 : (Option Nat) → (Option Nat) → (Option Nat) → (Int32) → gS → Option (Int32 × gS)) (a1 : Option Nat) (a2 : Option Nat) (a3 : Option Nat) (a4 : Int32) (S : gS) : Option (Int32 × gS) :=
  (oScr L xs (a4 + (1 : Int32))).bind fun x1 =>
  gB (fX0_chorus a1 x1 a3 S) fun x2 S3 =>
  (oScr L xs (a4 + (1 : Int32))).bind fun x4 =>
  gB (gV [3] a2 S3 (fX6_chorus a2 x4 S3)) fun x5 S6 =>
  (gV [3] a2 S6 (fX6_thrown a2 S6)).bind fun x7 =>
  (if x7 = x2 then
  (if x2 = 0 then
  (oLdL a3 (0 : Int32) S6).bind fun x8 =>
  (if (lg_cmp x8 x5.toInt64) = 0 then
  k23 a1 a2 a3 (a4 + (9 : Int32)) S6
  else
  some ((0 : Int32), S6))
  else
  k23 a1 a2 a3 (a4 + (9 : Int32)) S6)
  else
  some ((0 : Int32), S6))
def fL_law_j2264 (L : Nat) (xs : Nat → Int32) (k23 : (Option Nat) → (Option Nat) → (Option Nat) → (Int32) → gS → Option (Int32 × gS)) (a1 : Option Nat) (a2 : Option Nat) (a3 : Option Nat) (a4 : Int32) (S : gS) : Option (Int32 × gS) :=
  (oScr L xs (a4 + (1 : Int32))).bind fun x1 =>
  gB (fX0_spare a1 x1 a3 S) fun x2 S3 =>
  (oScr L xs (a4 + (1 : Int32))).bind fun x4 =>
  gB (gV [3] a2 S3 (fX6_spare a2 x4 S3)) fun x5 S6 =>
  (gV [3] a2 S6 (fX6_thrown a2 S6)).bind fun x7 =>
  (if x7 = x2 then
  (if x2 = 0 then
  (oLdL a3 (0 : Int32) S6).bind fun x8 =>
  (if (lg_cmp x8 x5.toInt64) = 0 then
  k23 a1 a2 a3 (a4 + (9 : Int32)) S6
  else
  some ((0 : Int32), S6))
  else
  k23 a1 a2 a3 (a4 + (9 : Int32)) S6)
  else
  some ((0 : Int32), S6))
def fL_law_j2320 (L : Nat) (xs : Nat → Int32) (k23 : (Option Nat) → (Option Nat) → (Option Nat) → (Int32) → gS → Option (Int32 × gS)) (a1 : Option Nat) (a2 : Option Nat) (a3 : Option Nat) (a4 : Int32) (S : gS) : Option (Int32 × gS) :=
  (oScr L xs (a4 + (1 : Int32))).bind fun x1 =>
  (oScr L xs (a4 + (2 : Int32))).bind fun x2 =>
  (oScr L xs (a4 + (3 : Int32))).bind fun x3 =>
  (oScr L xs (a4 + (4 : Int32))).bind fun x4 =>
  gB (fX0_sunday a1 x1 x2 x3 x4 a3 S) fun x5 S6 =>
  (oScr L xs (a4 + (1 : Int32))).bind fun x7 =>
  (oScr L xs (a4 + (2 : Int32))).bind fun x8 =>
  (oScr L xs (a4 + (3 : Int32))).bind fun x9 =>
  (oScr L xs (a4 + (4 : Int32))).bind fun x10 =>
  gB (gV [3] a2 S6 (fX6_sunday a2 x7 x8 x9 x10 S6)) fun x11 S12 =>
  (gV [3] a2 S12 (fX6_thrown a2 S12)).bind fun x13 =>
  (if x13 = x5 then
  (if x5 = 0 then
  (oLdL a3 (0 : Int32) S12).bind fun x14 =>
  (if (lg_cmp x14 x11.toInt64) = 0 then
  k23 a1 a2 a3 (a4 + (9 : Int32)) S12
  else
  some ((0 : Int32), S12))
  else
  k23 a1 a2 a3 (a4 + (9 : Int32)) S12)
  else
  some ((0 : Int32), S12))
def fL_law_j2412 (L : Nat) (xs : Nat → Int32) (k23 : (Option Nat) → (Option Nat) → (Option Nat) → (Int32) → gS → Option (Int32 × gS)) (a1 : Option Nat) (a2 : Option Nat) (a3 : Option Nat) (a4 : Int32) (S : gS) : Option (Int32 × gS) :=
  (oScr L xs (a4 + (1 : Int32))).bind fun x1 =>
  (oScr L xs (a4 + (2 : Int32))).bind fun x2 =>
  (oScr L xs (a4 + (3 : Int32))).bind fun x3 =>
  (oScr L xs (a4 + (4 : Int32))).bind fun x4 =>
  (oScr L xs (a4 + (5 : Int32))).bind fun x5 =>
  (oScr L xs (a4 + (6 : Int32))).bind fun x6 =>
  gB (fX0_span a1 x1 x2 x3 x4 x5 x6 a3 S) fun x7 S8 =>
  (oScr L xs (a4 + (1 : Int32))).bind fun x9 =>
  (oScr L xs (a4 + (2 : Int32))).bind fun x10 =>
  (oScr L xs (a4 + (3 : Int32))).bind fun x11 =>
  (oScr L xs (a4 + (4 : Int32))).bind fun x12 =>
  (oScr L xs (a4 + (5 : Int32))).bind fun x13 =>
  (oScr L xs (a4 + (6 : Int32))).bind fun x14 =>
  gB (gV [3] a2 S8 (fX6_span a2 x9 x10 x11 x12 x13 x14 S8)) fun x15 S16 =>
  (gV [3] a2 S16 (fX6_thrown a2 S16)).bind fun x17 =>
  (if x17 = x7 then
  (if x7 = 0 then
  (oLdL a3 (0 : Int32) S16).bind fun x18 =>
  (if (lg_cmp x18 x15.toInt64) = 0 then
  k23 a1 a2 a3 (a4 + (9 : Int32)) S16
  else
  some ((0 : Int32), S16))
  else
  k23 a1 a2 a3 (a4 + (9 : Int32)) S16)
  else
  some ((0 : Int32), S16))
def fL_law_j2530 (L : Nat) (xs : Nat → Int32) (k23 : (Option Nat) → (Option Nat) → (Option Nat) → (Int32) → gS → Option (Int32 × gS)) (a1 : Option Nat) (a2 : Option Nat) (a3 : Option Nat) (a4 : Int32) (S : gS) : Option (Int32 × gS) :=
  gB (gV [0] a1 S (fX1_image a1 S)) fun x1 S2 =>
  gB (gV [3] a2 S2 (fX6_image a2 S2)) fun x3 S4 =>
  (if x1 = x3 then
  k23 a1 a2 a3 (a4 + (9 : Int32)) S4
  else
  some ((0 : Int32), S4))
def fL_law_j2543 (L : Nat) (xs : Nat → Int32) (k23 : (Option Nat) → (Option Nat) → (Option Nat) → (Int32) → gS → Option (Int32 × gS)) (a1 : Option Nat) (a2 : Option Nat) (a3 : Option Nat) (a4 : Int32) (S : gS) : Option (Int32 × gS) :=
  gB (gV [0] a1 S (fX1_restore a1 S)) fun x1 S2 =>
  gB (gV [3] a2 S2 (fX6_restore a2 S2)) fun x3 S4 =>
  (if x1 = x3 then
  k23 a1 a2 a3 (a4 + (9 : Int32)) S4
  else
  some ((0 : Int32), S4))
def fL_law_j2556 (L : Nat) (xs : Nat → Int32) (k23 : (Option Nat) → (Option Nat) → (Option Nat) → (Int32) → gS → Option (Int32 × gS)) (a1 : Option Nat) (a2 : Option Nat) (a3 : Option Nat) (a4 : Int32) (S : gS) : Option (Int32 × gS) :=
  (oScr L xs (a4 + (1 : Int32))).bind fun x1 =>
  (gV [0] a1 S (fX1_status a1 x1 S)).bind fun x2 =>
  (oScr L xs (a4 + (1 : Int32))).bind fun x3 =>
  gB (gV [3] a2 S (fX6_status a2 x3 S)) fun x4 S5 =>
  (if x2 = x4 then
  k23 a1 a2 a3 (a4 + (9 : Int32)) S5
  else
  some ((0 : Int32), S5))
def fL_law_j2581 (L : Nat) (xs : Nat → Int32) (k23 : (Option Nat) → (Option Nat) → (Option Nat) → (Int32) → gS → Option (Int32 × gS)) (a1 : Option Nat) (a2 : Option Nat) (a3 : Option Nat) (a4 : Int32) (S : gS) : Option (Int32 × gS) :=
  (oScr L xs (a4 + (1 : Int32))).bind fun x1 =>
  (gV [0] a1 S (fX1_count a1 x1 S)).bind fun x2 =>
  (oScr L xs (a4 + (1 : Int32))).bind fun x3 =>
  gB (gV [3] a2 S (fX6_count a2 x3 S)) fun x4 S5 =>
  (if x2 = x4 then
  k23 a1 a2 a3 (a4 + (9 : Int32)) S5
  else
  some ((0 : Int32), S5))
def fL_law_i23 (L : Nat) (xs : Nat → Int32) (ih : (Option Nat) → (Option Nat) → (Option Nat) → (Int32) → gS → Option (Int32 × gS)) (a1 : Option Nat) (a2 : Option Nat) (a3 : Option Nat) (a4 : Int32) (S : gS) : Option (Int32 × gS) :=
  (if ((Int32.ofNat L) - (9 : Int32)) < a4 then
  some ((1 : Int32), S)
  else
  (oScr L xs a4).bind fun x1 =>
  (if (x1 &&& (63 : Int32)) = (0 : Int32) then
  fL_law_j232 L xs ih a1 a2 a3 a4 S
  else
  if (x1 &&& (63 : Int32)) = (1 : Int32) then
  fL_law_j305 L xs ih a1 a2 a3 a4 S
  else
  if (x1 &&& (63 : Int32)) = (2 : Int32) then
  fL_law_j361 L xs ih a1 a2 a3 a4 S
  else
  if (x1 &&& (63 : Int32)) = (3 : Int32) then
  fL_law_j417 L xs ih a1 a2 a3 a4 S
  else
  if (x1 &&& (63 : Int32)) = (4 : Int32) then
  fL_law_j473 L xs ih a1 a2 a3 a4 S
  else
  if (x1 &&& (63 : Int32)) = (5 : Int32) then
  fL_law_j529 L xs ih a1 a2 a3 a4 S
  else
  if (x1 &&& (63 : Int32)) = (6 : Int32) then
  fL_law_j542 L xs ih a1 a2 a3 a4 S
  else
  if (x1 &&& (63 : Int32)) = (7 : Int32) then
  fL_law_j555 L xs ih a1 a2 a3 a4 S
  else
  if (x1 &&& (63 : Int32)) = (8 : Int32) then
  fL_law_j611 L xs ih a1 a2 a3 a4 S
  else
  if (x1 &&& (63 : Int32)) = (9 : Int32) then
  fL_law_j679 L xs ih a1 a2 a3 a4 S
  else
  if (x1 &&& (63 : Int32)) = (10 : Int32) then
  fL_law_j747 L xs ih a1 a2 a3 a4 S
  else
  if (x1 &&& (63 : Int32)) = (11 : Int32) then
  fL_law_j815 L xs ih a1 a2 a3 a4 S
  else
  if (x1 &&& (63 : Int32)) = (12 : Int32) then
  fL_law_j883 L xs ih a1 a2 a3 a4 S
  else
  if (x1 &&& (63 : Int32)) = (13 : Int32) then
  fL_law_j1029 L xs ih a1 a2 a3 a4 S
  else
  if (x1 &&& (63 : Int32)) = (14 : Int32) then
  fL_law_j1097 L xs ih a1 a2 a3 a4 S
  else
  if (x1 &&& (63 : Int32)) = (15 : Int32) then
  fL_law_j1110 L xs ih a1 a2 a3 a4 S
  else
  if (x1 &&& (63 : Int32)) = (16 : Int32) then
  fL_law_j1178 L xs ih a1 a2 a3 a4 S
  else
  if (x1 &&& (63 : Int32)) = (17 : Int32) then
  fL_law_j1191 L xs ih a1 a2 a3 a4 S
  else
  if (x1 &&& (63 : Int32)) = (18 : Int32) then
  fL_law_j1247 L xs ih a1 a2 a3 a4 S
  else
  if (x1 &&& (63 : Int32)) = (19 : Int32) then
  fL_law_j1260 L xs ih a1 a2 a3 a4 S
  else
  if (x1 &&& (63 : Int32)) = (20 : Int32) then
  fL_law_j1315 L xs ih a1 a2 a3 a4 S
  else
  if (x1 &&& (63 : Int32)) = (21 : Int32) then
  fL_law_j1371 L xs ih a1 a2 a3 a4 S
  else
  if (x1 &&& (63 : Int32)) = (22 : Int32) then
  fL_law_j1427 L xs ih a1 a2 a3 a4 S
  else
  if (x1 &&& (63 : Int32)) = (23 : Int32) then
  fL_law_j1483 L xs ih a1 a2 a3 a4 S
  else
  if (x1 &&& (63 : Int32)) = (24 : Int32) then
  fL_law_j1539 L xs ih a1 a2 a3 a4 S
  else
  if (x1 &&& (63 : Int32)) = (25 : Int32) then
  fL_law_j1619 L xs ih a1 a2 a3 a4 S
  else
  if (x1 &&& (63 : Int32)) = (26 : Int32) then
  fL_law_j1710 L xs ih a1 a2 a3 a4 S
  else
  if (x1 &&& (63 : Int32)) = (27 : Int32) then
  fL_law_j1790 L xs ih a1 a2 a3 a4 S
  else
  if (x1 &&& (63 : Int32)) = (28 : Int32) then
  fL_law_j1846 L xs ih a1 a2 a3 a4 S
  else
  if (x1 &&& (63 : Int32)) = (29 : Int32) then
  fL_law_j1902 L xs ih a1 a2 a3 a4 S
  else
  if (x1 &&& (63 : Int32)) = (30 : Int32) then
  fL_law_j1958 L xs ih a1 a2 a3 a4 S
  else
  if (x1 &&& (63 : Int32)) = (31 : Int32) then
  fL_law_j2014 L xs ih a1 a2 a3 a4 S
  else
  if (x1 &&& (63 : Int32)) = (32 : Int32) then
  fL_law_j2070 L xs ih a1 a2 a3 a4 S
  else
  if (x1 &&& (63 : Int32)) = (33 : Int32) then
  fL_law_j2083 L xs ih a1 a2 a3 a4 S
  else
  if (x1 &&& (63 : Int32)) = (34 : Int32) then
  fL_law_j2096 L xs ih a1 a2 a3 a4 S
  else
  if (x1 &&& (63 : Int32)) = (35 : Int32) then
  fL_law_j2152 L xs ih a1 a2 a3 a4 S
  else
  if (x1 &&& (63 : Int32)) = (36 : Int32) then
  fL_law_j2208 L xs ih a1 a2 a3 a4 S
  else
  if (x1 &&& (63 : Int32)) = (37 : Int32) then
  fL_law_j2264 L xs ih a1 a2 a3 a4 S
  else
  if (x1 &&& (63 : Int32)) = (38 : Int32) then
  fL_law_j2320 L xs ih a1 a2 a3 a4 S
  else
  if (x1 &&& (63 : Int32)) = (39 : Int32) then
  fL_law_j2412 L xs ih a1 a2 a3 a4 S
  else
  if (x1 &&& (63 : Int32)) = (40 : Int32) then
  fL_law_j2530 L xs ih a1 a2 a3 a4 S
  else
  if (x1 &&& (63 : Int32)) = (41 : Int32) then
  fL_law_j2543 L xs ih a1 a2 a3 a4 S
  else
  if (x1 &&& (63 : Int32)) = (42 : Int32) then
  fL_law_j2556 L xs ih a1 a2 a3 a4 S
  else
  if (x1 &&& (63 : Int32)) = (43 : Int32) then
  fL_law_j2581 L xs ih a1 a2 a3 a4 S
  else
  ih a1 a2 a3 (a4 + (9 : Int32)) S))
def fL_law_l23 (L : Nat) (xs : Nat → Int32) : Nat → (Option Nat) → (Option Nat) → (Option Nat) → (Int32) → gS → Option (Int32 × gS)
  | 0 => fun _ _ _ _ _ => none
  | n + 1 => fun a1 a2 a3 a4 S => fL_law_i23 L xs (fL_law_l23 L xs n) a1 a2 a3 a4 S
def fL_law (L : Nat) (xs : Nat → Int32) (S : gS) : Option (Int32 × gS) :=
  gB (oNew 0 [.null, .null, .null, .null, .null, .null, .null, .null, .null, .null, .null, .int 0, .int 0, .int 0, .int 0, .int 0, .int 0, .int 0, .null, .null, .null, .null] S) fun q1 S2 =>
  gB (fX1_init (some q1) S2) fun x3 S4 =>
  gB (oNew 3 [.int 0, .int 0, .int 0, .int 0, .int 0, .int 0, .int 0, .int 0, .int 0, .null, .null, .null, .null, .null, .null, .null, .null, .null, .null, .int 0, .int 0, .null, .null, .null, .null, .null, .null, .null, .int 0, .null, .null, .null, .null, .int 0, .int 0, .int 0, .int 0, .int 0, .int 0, .int 0, .int 0, .null, .null, .int 0, .null, .int 0] S4) fun q5 S6 =>
  gB (fX6_init (some q5) S6) fun x7 S8 =>
  gB (oNewA 2 (1 : Int32) S8) fun q9 S10 =>
  fL_law_l23 L xs gFU (some q1) (some q5) (some q9) (0 : Int32) S10
theorem wfL_law_j232 {S1 : gS} {hh : List (Nat × Nat × Nat × Nat)} {nm : String} (C : gCx p l R s m args meth c D K RX0 cL_law 8 (Option.some Jvm.ClassFile.FieldType.boolean) hh nm u0) {b L : Nat} {xs : Nat → Int32} (hLaw : gLaw R K s u0 args b L xs) (hRf : R.frames = 8192) (hRl : R.locals = 100000) (k23 : (Option Nat) → (Option Nat) → (Option Nat) → (Int32) → gS → Option (Int32 × gS)) (hk23 : ∀ (a1 : Option Nat) (a2 : Option Nat) (a3 : Option Nat) (a4 : Int32) (S : gS), k23 a1 a2 a3 a4 S = some ((1 : Int32), S1) → gW p l e R s m args below meth c D K 8 u0 (lw_Z below args s) S 23 [(0, va_rf (some b)), (1, va_rf a1), (2, va_rf a2), (3, va_rf a3), (4, .int a4)] []) : ∀ (a1 : Option Nat) (a2 : Option Nat) (a3 : Option Nat) (a4 : Int32) (S : gS), fL_law_j232 L xs k23 a1 a2 a3 a4 S = some ((1 : Int32), S1) → gW p l e R s m args below meth c D K 8 u0 (lw_Z below args s) S 232 [(0, va_rf ((some b))), (1, va_rf a1), (2, va_rf a2), (3, va_rf a3), (4, .int a4)] [] := by
  intro a1 a2 a3 a4 S hF
  unfold fL_law_j232 at hF
  refine g_aload_n C 1 dL_law_232 rfl ?_
  refine g_aload_n C 0 dL_law_233 rfl ?_
  refine g_iload C 4 dL_law_234 rfl ?_
  refine g_iconst (v := (1 : Int32)) C dL_law_236 rfl ?_
  refine g_iadd C dL_law_237 ?_
  refine g_sld C hLaw dL_law_238 hF (fun x1 hF => ?_)
  refine g_aload_n C 0 dL_law_239 rfl ?_
  refine g_iload C 4 dL_law_240 rfl ?_
  refine g_iconst (v := (2 : Int32)) C dL_law_242 rfl ?_
  refine g_iadd C dL_law_243 ?_
  refine g_sld C hLaw dL_law_244 hF (fun x2 hF => ?_)
  refine g_aload_n C 0 dL_law_245 rfl ?_
  refine g_iload C 4 dL_law_246 rfl ?_
  refine g_iconst (v := (3 : Int32)) C dL_law_248 rfl ?_
  refine g_iadd C dL_law_249 ?_
  refine g_sld C hLaw dL_law_250 hF (fun x3 hF => ?_)
  refine g_aload_n C 0 dL_law_251 rfl ?_
  refine g_iload C 4 dL_law_252 rfl ?_
  refine g_iconst (v := (4 : Int32)) C dL_law_254 rfl ?_
  refine g_iadd C dL_law_255 ?_
  refine g_sld C hLaw dL_law_256 hF (fun x4 hF => ?_)
  refine g_aload_n C 0 dL_law_257 rfl ?_
  refine g_iload C 4 dL_law_258 rfl ?_
  refine g_iconst (v := (5 : Int32)) C dL_law_260 rfl ?_
  refine g_iadd C dL_law_261 ?_
  refine g_sld C hLaw dL_law_262 hF (fun x5 hF => ?_)
  obtain ⟨x6, S7, h, hF⟩ := gB_some hF
  obtain ⟨hi, h⟩ := gV_some h
  refine g_after (g_runV (n := 5) C dL_law_263 rfl hi (mX1_feed C.2.2.2.2.2.2.2.2.2.2.2.1 a1 x1 x2 x3 x4 x5 S _ _ h) (lw_V q724 q725 q726 q99 q727) (by decide +kernel) ⟨by rw [hRf]; exact Nat.le_of_ble_eq_true rfl, by rw [hRl]; exact Nat.le_of_ble_eq_true rfl⟩ rfl rfl (gle gc_0 (by decide))) ?_
  refine g_aload_n C 2 dL_law_266 rfl ?_
  refine g_aload_n C 0 dL_law_267 rfl ?_
  refine g_iload C 4 dL_law_268 rfl ?_
  refine g_iconst (v := (1 : Int32)) C dL_law_270 rfl ?_
  refine g_iadd C dL_law_271 ?_
  refine g_sld C hLaw dL_law_272 hF (fun x8 hF => ?_)
  refine g_aload_n C 0 dL_law_273 rfl ?_
  refine g_iload C 4 dL_law_274 rfl ?_
  refine g_iconst (v := (2 : Int32)) C dL_law_276 rfl ?_
  refine g_iadd C dL_law_277 ?_
  refine g_sld C hLaw dL_law_278 hF (fun x9 hF => ?_)
  refine g_aload_n C 0 dL_law_279 rfl ?_
  refine g_iload C 4 dL_law_280 rfl ?_
  refine g_iconst (v := (3 : Int32)) C dL_law_282 rfl ?_
  refine g_iadd C dL_law_283 ?_
  refine g_sld C hLaw dL_law_284 hF (fun x10 hF => ?_)
  refine g_aload_n C 0 dL_law_285 rfl ?_
  refine g_iload C 4 dL_law_286 rfl ?_
  refine g_iconst (v := (4 : Int32)) C dL_law_288 rfl ?_
  refine g_iadd C dL_law_289 ?_
  refine g_sld C hLaw dL_law_290 hF (fun x11 hF => ?_)
  refine g_aload_n C 0 dL_law_291 rfl ?_
  refine g_iload C 4 dL_law_292 rfl ?_
  refine g_iconst (v := (5 : Int32)) C dL_law_294 rfl ?_
  refine g_iadd C dL_law_295 ?_
  refine g_sld C hLaw dL_law_296 hF (fun x12 hF => ?_)
  obtain ⟨x13, S14, h, hF⟩ := gB_some hF
  obtain ⟨hi, h⟩ := gV_some h
  refine g_after (g_runV (n := 5) C dL_law_297 rfl hi (mX6_feed C.2.2.2.2.2.2.2.2.2.2.2.1 a2 x8 x9 x10 x11 x12 S7 _ _ h) (lw_V q2172 q2173 q2174 q124 q2175) (by decide +kernel) ⟨by rw [hRf]; exact Nat.le_of_ble_eq_true rfl, by rw [hRl]; exact Nat.le_of_ble_eq_true rfl⟩ rfl rfl (gle (gc_i gc_0) (by decide))) ?_
  refine g_icmp_eq C 2606 dL_law_300 rfl hF (fun c hF => ?_) (fun c hF => ?_)
  · refine g_iinc (v := (9 : Int32)) C 4 dL_law_2606 rfl rfl (by decide) (gcons rfl (gfk rfl rfl (gfk rfl rfl (gfk rfl rfl (gfr rfl (gfd rfl gf0)))))) ?_
    refine g_goto C 23 dL_law_2609 rfl ?_
    exact g_sub [1, 2, 3, 4, 0] rfl (hk23 a1 a2 a3 (a4 + (9 : Int32)) S14 hF)
  · refine g_iconst (v := (0 : Int32)) C dL_law_303 rfl ?_
    exact g_law0 hF
theorem wfL_law_j305 {S1 : gS} {hh : List (Nat × Nat × Nat × Nat)} {nm : String} (C : gCx p l R s m args meth c D K RX0 cL_law 8 (Option.some Jvm.ClassFile.FieldType.boolean) hh nm u0) {b L : Nat} {xs : Nat → Int32} (hLaw : gLaw R K s u0 args b L xs) (hRf : R.frames = 8192) (hRl : R.locals = 100000) (k23 : (Option Nat) → (Option Nat) → (Option Nat) → (Int32) → gS → Option (Int32 × gS)) (hk23 : ∀ (a1 : Option Nat) (a2 : Option Nat) (a3 : Option Nat) (a4 : Int32) (S : gS), k23 a1 a2 a3 a4 S = some ((1 : Int32), S1) → gW p l e R s m args below meth c D K 8 u0 (lw_Z below args s) S 23 [(0, va_rf (some b)), (1, va_rf a1), (2, va_rf a2), (3, va_rf a3), (4, .int a4)] []) : ∀ (a1 : Option Nat) (a2 : Option Nat) (a3 : Option Nat) (a4 : Int32) (S : gS), fL_law_j305 L xs k23 a1 a2 a3 a4 S = some ((1 : Int32), S1) → gW p l e R s m args below meth c D K 8 u0 (lw_Z below args s) S 305 [(0, va_rf ((some b))), (1, va_rf a1), (2, va_rf a2), (3, va_rf a3), (4, .int a4)] [] := by
  intro a1 a2 a3 a4 S hF
  unfold fL_law_j305 at hF
  refine g_aload_n C 1 dL_law_305 rfl ?_
  refine g_aload_n C 0 dL_law_306 rfl ?_
  refine g_iload C 4 dL_law_307 rfl ?_
  refine g_iconst (v := (1 : Int32)) C dL_law_309 rfl ?_
  refine g_iadd C dL_law_310 ?_
  refine g_sld C hLaw dL_law_311 hF (fun x1 hF => ?_)
  refine g_aload_n C 3 dL_law_312 rfl ?_
  obtain ⟨x2, S3, h, hF⟩ := gB_some hF
  refine g_after (g_runSX (n := 3) C dL_law_313 (mX0_choir C.2.2.2.2.2.2.2.2.2.2.2.1 a1 x1 a3 S _ _ h) (lw_SW q912 q913 q98 q914) (by decide +kernel) ⟨by rw [hRf]; exact Nat.le_of_ble_eq_true rfl, by rw [hRl]; exact Nat.le_of_ble_eq_true rfl⟩ rfl rfl (gle gc_0 (by decide))) ?_
  refine g_istore C dL_law_316 (by decide) rfl ?_
  refine g_aload_n C 3 dL_law_318 rfl ?_
  refine g_aload_n C 1 dL_law_319 rfl ?_
  refine g_iload C 5 dL_law_320 rfl ?_
  refine g_iconst (v := (1 : Int32)) C dL_law_322 rfl ?_
  refine g_iadd C dL_law_323 ?_
  refine g_sld C hLaw dL_law_324 hF (fun x4 hF => ?_)
  obtain ⟨x5, S6, h, hF⟩ := gB_some hF
  obtain ⟨hi, h⟩ := gV_some h
  refine g_after (g_runV (n := 1) C dL_law_325 rfl hi (mX6_choir C.2.2.2.2.2.2.2.2.2.2.2.1 a2 x4 S3 _ _ h) (lw_V q2176 q2177 q2178 q124 q2179) (by decide +kernel) ⟨by rw [hRf]; exact Nat.le_of_ble_eq_true rfl, by rw [hRl]; exact Nat.le_of_ble_eq_true rfl⟩ rfl rfl (gle gc_0 (by decide))) ?_
  refine g_istore C dL_law_328 (by decide) rfl ?_
  refine g_aload_n C 4 dL_law_330 rfl ?_
  obtain ⟨x7, h, hF⟩ := oB hF
  obtain ⟨hi, h⟩ := gV_some h
  refine g_after (g_runV (n := 0) C dL_law_331 rfl hi (mX6_thrown C.2.2.2.2.2.2.2.2.2.2.2.1 a2 S6 _ h) (lw_V q2168 q2169 q2170 q124 q2171) (by decide +kernel) ⟨by rw [hRf]; exact Nat.le_of_ble_eq_true rfl, by rw [hRl]; exact Nat.le_of_ble_eq_true rfl⟩ rfl rfl (gle gc_0 (by decide))) ?_
  refine g_iload C 1 dL_law_334 rfl ?_
  refine g_icmp_eq C 341 dL_law_336 rfl hF (fun c hF => ?_) (fun c hF => ?_)
  · refine g_iload C 1 dL_law_341 rfl ?_
    refine g_if_ne C 358 dL_law_343 rfl hF (fun c hF => ?_) (fun c hF => ?_)
    · refine g_goto C 2606 dL_law_358 rfl ?_
      refine g_iinc (v := (9 : Int32)) C 6 dL_law_2606 rfl rfl (by decide) (gcons rfl (gfk rfl rfl (gfk rfl rfl (gfk rfl rfl (gfk rfl rfl (gfk rfl rfl (gfr rfl (gfd rfl gf0)))))))) ?_
      refine g_goto C 23 dL_law_2609 rfl ?_
      exact g_sub [3, 4, 5, 6, 0] rfl (hk23 a1 a2 a3 (a4 + (9 : Int32)) S6 hF)
    · refine g_aload_n C 5 dL_law_346 rfl ?_
      refine g_iconst (v := (0 : Int32)) C dL_law_347 rfl ?_
      refine g_lald C dL_law_348 hF (fun x8 hF => ?_)
      refine g_iload C 0 dL_law_349 rfl ?_
      refine g_i2l C dL_law_351 ?_
      refine g_lcmp C dL_law_352 ?_
      refine g_if_eq C 358 dL_law_353 rfl hF (fun c hF => ?_) (fun c hF => ?_)
      · refine g_goto C 2606 dL_law_358 rfl ?_
        refine g_iinc (v := (9 : Int32)) C 6 dL_law_2606 rfl rfl (by decide) (gcons rfl (gfk rfl rfl (gfk rfl rfl (gfk rfl rfl (gfk rfl rfl (gfk rfl rfl (gfr rfl (gfd rfl gf0)))))))) ?_
        refine g_goto C 23 dL_law_2609 rfl ?_
        exact g_sub [3, 4, 5, 6, 0] rfl (hk23 a1 a2 a3 (a4 + (9 : Int32)) S6 hF)
      · refine g_iconst (v := (0 : Int32)) C dL_law_356 rfl ?_
        exact g_law0 hF
  · refine g_iconst (v := (0 : Int32)) C dL_law_339 rfl ?_
    exact g_law0 hF
theorem wfL_law_j361 {S1 : gS} {hh : List (Nat × Nat × Nat × Nat)} {nm : String} (C : gCx p l R s m args meth c D K RX0 cL_law 8 (Option.some Jvm.ClassFile.FieldType.boolean) hh nm u0) {b L : Nat} {xs : Nat → Int32} (hLaw : gLaw R K s u0 args b L xs) (hRf : R.frames = 8192) (hRl : R.locals = 100000) (k23 : (Option Nat) → (Option Nat) → (Option Nat) → (Int32) → gS → Option (Int32 × gS)) (hk23 : ∀ (a1 : Option Nat) (a2 : Option Nat) (a3 : Option Nat) (a4 : Int32) (S : gS), k23 a1 a2 a3 a4 S = some ((1 : Int32), S1) → gW p l e R s m args below meth c D K 8 u0 (lw_Z below args s) S 23 [(0, va_rf (some b)), (1, va_rf a1), (2, va_rf a2), (3, va_rf a3), (4, .int a4)] []) : ∀ (a1 : Option Nat) (a2 : Option Nat) (a3 : Option Nat) (a4 : Int32) (S : gS), fL_law_j361 L xs k23 a1 a2 a3 a4 S = some ((1 : Int32), S1) → gW p l e R s m args below meth c D K 8 u0 (lw_Z below args s) S 361 [(0, va_rf ((some b))), (1, va_rf a1), (2, va_rf a2), (3, va_rf a3), (4, .int a4)] [] := by
  intro a1 a2 a3 a4 S hF
  unfold fL_law_j361 at hF
  refine g_aload_n C 1 dL_law_361 rfl ?_
  refine g_aload_n C 0 dL_law_362 rfl ?_
  refine g_iload C 4 dL_law_363 rfl ?_
  refine g_iconst (v := (1 : Int32)) C dL_law_365 rfl ?_
  refine g_iadd C dL_law_366 ?_
  refine g_sld C hLaw dL_law_367 hF (fun x1 hF => ?_)
  refine g_aload_n C 3 dL_law_368 rfl ?_
  obtain ⟨x2, S3, h, hF⟩ := gB_some hF
  refine g_after (g_runSX (n := 3) C dL_law_369 (mX0_law C.2.2.2.2.2.2.2.2.2.2.2.1 a1 x1 a3 S _ _ h) (lw_SW q1287 q1288 q98 q1289) (by decide +kernel) ⟨by rw [hRf]; exact Nat.le_of_ble_eq_true rfl, by rw [hRl]; exact Nat.le_of_ble_eq_true rfl⟩ rfl rfl (gle gc_0 (by decide))) ?_
  refine g_istore C dL_law_372 (by decide) rfl ?_
  refine g_aload_n C 3 dL_law_374 rfl ?_
  refine g_aload_n C 1 dL_law_375 rfl ?_
  refine g_iload C 5 dL_law_376 rfl ?_
  refine g_iconst (v := (1 : Int32)) C dL_law_378 rfl ?_
  refine g_iadd C dL_law_379 ?_
  refine g_sld C hLaw dL_law_380 hF (fun x4 hF => ?_)
  obtain ⟨x5, S6, h, hF⟩ := gB_some hF
  obtain ⟨hi, h⟩ := gV_some h
  refine g_after (g_runV (n := 1) C dL_law_381 rfl hi (mX6_law C.2.2.2.2.2.2.2.2.2.2.2.1 a2 x4 S3 _ _ h) (lw_V q2248 q2249 q2250 q124 q2251) (by decide +kernel) ⟨by rw [hRf]; exact Nat.le_of_ble_eq_true rfl, by rw [hRl]; exact Nat.le_of_ble_eq_true rfl⟩ rfl rfl (gle gc_0 (by decide))) ?_
  refine g_istore C dL_law_384 (by decide) rfl ?_
  refine g_aload_n C 4 dL_law_386 rfl ?_
  obtain ⟨x7, h, hF⟩ := oB hF
  obtain ⟨hi, h⟩ := gV_some h
  refine g_after (g_runV (n := 0) C dL_law_387 rfl hi (mX6_thrown C.2.2.2.2.2.2.2.2.2.2.2.1 a2 S6 _ h) (lw_V q2168 q2169 q2170 q124 q2171) (by decide +kernel) ⟨by rw [hRf]; exact Nat.le_of_ble_eq_true rfl, by rw [hRl]; exact Nat.le_of_ble_eq_true rfl⟩ rfl rfl (gle gc_0 (by decide))) ?_
  refine g_iload C 1 dL_law_390 rfl ?_
  refine g_icmp_eq C 397 dL_law_392 rfl hF (fun c hF => ?_) (fun c hF => ?_)
  · refine g_iload C 1 dL_law_397 rfl ?_
    refine g_if_ne C 414 dL_law_399 rfl hF (fun c hF => ?_) (fun c hF => ?_)
    · refine g_goto C 2606 dL_law_414 rfl ?_
      refine g_iinc (v := (9 : Int32)) C 6 dL_law_2606 rfl rfl (by decide) (gcons rfl (gfk rfl rfl (gfk rfl rfl (gfk rfl rfl (gfk rfl rfl (gfk rfl rfl (gfr rfl (gfd rfl gf0)))))))) ?_
      refine g_goto C 23 dL_law_2609 rfl ?_
      exact g_sub [3, 4, 5, 6, 0] rfl (hk23 a1 a2 a3 (a4 + (9 : Int32)) S6 hF)
    · refine g_aload_n C 5 dL_law_402 rfl ?_
      refine g_iconst (v := (0 : Int32)) C dL_law_403 rfl ?_
      refine g_lald C dL_law_404 hF (fun x8 hF => ?_)
      refine g_iload C 0 dL_law_405 rfl ?_
      refine g_i2l C dL_law_407 ?_
      refine g_lcmp C dL_law_408 ?_
      refine g_if_eq C 414 dL_law_409 rfl hF (fun c hF => ?_) (fun c hF => ?_)
      · refine g_goto C 2606 dL_law_414 rfl ?_
        refine g_iinc (v := (9 : Int32)) C 6 dL_law_2606 rfl rfl (by decide) (gcons rfl (gfk rfl rfl (gfk rfl rfl (gfk rfl rfl (gfk rfl rfl (gfk rfl rfl (gfr rfl (gfd rfl gf0)))))))) ?_
        refine g_goto C 23 dL_law_2609 rfl ?_
        exact g_sub [3, 4, 5, 6, 0] rfl (hk23 a1 a2 a3 (a4 + (9 : Int32)) S6 hF)
      · refine g_iconst (v := (0 : Int32)) C dL_law_412 rfl ?_
        exact g_law0 hF
  · refine g_iconst (v := (0 : Int32)) C dL_law_395 rfl ?_
    exact g_law0 hF
theorem wfL_law_j417 {S1 : gS} {hh : List (Nat × Nat × Nat × Nat)} {nm : String} (C : gCx p l R s m args meth c D K RX0 cL_law 8 (Option.some Jvm.ClassFile.FieldType.boolean) hh nm u0) {b L : Nat} {xs : Nat → Int32} (hLaw : gLaw R K s u0 args b L xs) (hRf : R.frames = 8192) (hRl : R.locals = 100000) (k23 : (Option Nat) → (Option Nat) → (Option Nat) → (Int32) → gS → Option (Int32 × gS)) (hk23 : ∀ (a1 : Option Nat) (a2 : Option Nat) (a3 : Option Nat) (a4 : Int32) (S : gS), k23 a1 a2 a3 a4 S = some ((1 : Int32), S1) → gW p l e R s m args below meth c D K 8 u0 (lw_Z below args s) S 23 [(0, va_rf (some b)), (1, va_rf a1), (2, va_rf a2), (3, va_rf a3), (4, .int a4)] []) : ∀ (a1 : Option Nat) (a2 : Option Nat) (a3 : Option Nat) (a4 : Int32) (S : gS), fL_law_j417 L xs k23 a1 a2 a3 a4 S = some ((1 : Int32), S1) → gW p l e R s m args below meth c D K 8 u0 (lw_Z below args s) S 417 [(0, va_rf ((some b))), (1, va_rf a1), (2, va_rf a2), (3, va_rf a3), (4, .int a4)] [] := by
  intro a1 a2 a3 a4 S hF
  unfold fL_law_j417 at hF
  refine g_aload_n C 1 dL_law_417 rfl ?_
  refine g_aload_n C 0 dL_law_418 rfl ?_
  refine g_iload C 4 dL_law_419 rfl ?_
  refine g_iconst (v := (1 : Int32)) C dL_law_421 rfl ?_
  refine g_iadd C dL_law_422 ?_
  refine g_sld C hLaw dL_law_423 hF (fun x1 hF => ?_)
  refine g_aload_n C 3 dL_law_424 rfl ?_
  obtain ⟨x2, S3, h, hF⟩ := gB_some hF
  refine g_after (g_runSX (n := 3) C dL_law_425 (mX0_work C.2.2.2.2.2.2.2.2.2.2.2.1 a1 x1 a3 S _ _ h) (lw_SW q1446 q1447 q98 q1448) (by decide +kernel) ⟨by rw [hRf]; exact Nat.le_of_ble_eq_true rfl, by rw [hRl]; exact Nat.le_of_ble_eq_true rfl⟩ rfl rfl (gle gc_0 (by decide))) ?_
  refine g_istore C dL_law_428 (by decide) rfl ?_
  refine g_aload_n C 3 dL_law_430 rfl ?_
  refine g_aload_n C 1 dL_law_431 rfl ?_
  refine g_iload C 5 dL_law_432 rfl ?_
  refine g_iconst (v := (1 : Int32)) C dL_law_434 rfl ?_
  refine g_iadd C dL_law_435 ?_
  refine g_sld C hLaw dL_law_436 hF (fun x4 hF => ?_)
  obtain ⟨x5, S6, h, hF⟩ := gB_some hF
  obtain ⟨hi, h⟩ := gV_some h
  refine g_after (g_runV (n := 1) C dL_law_437 rfl hi (mX6_work C.2.2.2.2.2.2.2.2.2.2.2.1 a2 x4 S3 _ _ h) (lw_V q2295 q2296 q2297 q124 q2298) (by decide +kernel) ⟨by rw [hRf]; exact Nat.le_of_ble_eq_true rfl, by rw [hRl]; exact Nat.le_of_ble_eq_true rfl⟩ rfl rfl (gle gc_0 (by decide))) ?_
  refine g_istore C dL_law_440 (by decide) rfl ?_
  refine g_aload_n C 4 dL_law_442 rfl ?_
  obtain ⟨x7, h, hF⟩ := oB hF
  obtain ⟨hi, h⟩ := gV_some h
  refine g_after (g_runV (n := 0) C dL_law_443 rfl hi (mX6_thrown C.2.2.2.2.2.2.2.2.2.2.2.1 a2 S6 _ h) (lw_V q2168 q2169 q2170 q124 q2171) (by decide +kernel) ⟨by rw [hRf]; exact Nat.le_of_ble_eq_true rfl, by rw [hRl]; exact Nat.le_of_ble_eq_true rfl⟩ rfl rfl (gle gc_0 (by decide))) ?_
  refine g_iload C 1 dL_law_446 rfl ?_
  refine g_icmp_eq C 453 dL_law_448 rfl hF (fun c hF => ?_) (fun c hF => ?_)
  · refine g_iload C 1 dL_law_453 rfl ?_
    refine g_if_ne C 470 dL_law_455 rfl hF (fun c hF => ?_) (fun c hF => ?_)
    · refine g_goto C 2606 dL_law_470 rfl ?_
      refine g_iinc (v := (9 : Int32)) C 6 dL_law_2606 rfl rfl (by decide) (gcons rfl (gfk rfl rfl (gfk rfl rfl (gfk rfl rfl (gfk rfl rfl (gfk rfl rfl (gfr rfl (gfd rfl gf0)))))))) ?_
      refine g_goto C 23 dL_law_2609 rfl ?_
      exact g_sub [3, 4, 5, 6, 0] rfl (hk23 a1 a2 a3 (a4 + (9 : Int32)) S6 hF)
    · refine g_aload_n C 5 dL_law_458 rfl ?_
      refine g_iconst (v := (0 : Int32)) C dL_law_459 rfl ?_
      refine g_lald C dL_law_460 hF (fun x8 hF => ?_)
      refine g_iload C 0 dL_law_461 rfl ?_
      refine g_i2l C dL_law_463 ?_
      refine g_lcmp C dL_law_464 ?_
      refine g_if_eq C 470 dL_law_465 rfl hF (fun c hF => ?_) (fun c hF => ?_)
      · refine g_goto C 2606 dL_law_470 rfl ?_
        refine g_iinc (v := (9 : Int32)) C 6 dL_law_2606 rfl rfl (by decide) (gcons rfl (gfk rfl rfl (gfk rfl rfl (gfk rfl rfl (gfk rfl rfl (gfk rfl rfl (gfr rfl (gfd rfl gf0)))))))) ?_
        refine g_goto C 23 dL_law_2609 rfl ?_
        exact g_sub [3, 4, 5, 6, 0] rfl (hk23 a1 a2 a3 (a4 + (9 : Int32)) S6 hF)
      · refine g_iconst (v := (0 : Int32)) C dL_law_468 rfl ?_
        exact g_law0 hF
  · refine g_iconst (v := (0 : Int32)) C dL_law_451 rfl ?_
    exact g_law0 hF
theorem wfL_law_j473 {S1 : gS} {hh : List (Nat × Nat × Nat × Nat)} {nm : String} (C : gCx p l R s m args meth c D K RX0 cL_law 8 (Option.some Jvm.ClassFile.FieldType.boolean) hh nm u0) {b L : Nat} {xs : Nat → Int32} (hLaw : gLaw R K s u0 args b L xs) (hRf : R.frames = 8192) (hRl : R.locals = 100000) (k23 : (Option Nat) → (Option Nat) → (Option Nat) → (Int32) → gS → Option (Int32 × gS)) (hk23 : ∀ (a1 : Option Nat) (a2 : Option Nat) (a3 : Option Nat) (a4 : Int32) (S : gS), k23 a1 a2 a3 a4 S = some ((1 : Int32), S1) → gW p l e R s m args below meth c D K 8 u0 (lw_Z below args s) S 23 [(0, va_rf (some b)), (1, va_rf a1), (2, va_rf a2), (3, va_rf a3), (4, .int a4)] []) : ∀ (a1 : Option Nat) (a2 : Option Nat) (a3 : Option Nat) (a4 : Int32) (S : gS), fL_law_j473 L xs k23 a1 a2 a3 a4 S = some ((1 : Int32), S1) → gW p l e R s m args below meth c D K 8 u0 (lw_Z below args s) S 473 [(0, va_rf ((some b))), (1, va_rf a1), (2, va_rf a2), (3, va_rf a3), (4, .int a4)] [] := by
  intro a1 a2 a3 a4 S hF
  unfold fL_law_j473 at hF
  refine g_aload_n C 1 dL_law_473 rfl ?_
  refine g_aload_n C 0 dL_law_474 rfl ?_
  refine g_iload C 4 dL_law_475 rfl ?_
  refine g_iconst (v := (1 : Int32)) C dL_law_477 rfl ?_
  refine g_iadd C dL_law_478 ?_
  refine g_sld C hLaw dL_law_479 hF (fun x1 hF => ?_)
  refine g_aload_n C 3 dL_law_480 rfl ?_
  obtain ⟨x2, S3, h, hF⟩ := gB_some hF
  refine g_after (g_runSX (n := 3) C dL_law_481 (mX0_book C.2.2.2.2.2.2.2.2.2.2.2.1 a1 x1 a3 S _ _ h) (lw_SW q1670 q1671 q98 q1672) (by decide +kernel) ⟨by rw [hRf]; exact Nat.le_of_ble_eq_true rfl, by rw [hRl]; exact Nat.le_of_ble_eq_true rfl⟩ rfl rfl (gle gc_0 (by decide))) ?_
  refine g_istore C dL_law_484 (by decide) rfl ?_
  refine g_aload_n C 3 dL_law_486 rfl ?_
  refine g_aload_n C 1 dL_law_487 rfl ?_
  refine g_iload C 5 dL_law_488 rfl ?_
  refine g_iconst (v := (1 : Int32)) C dL_law_490 rfl ?_
  refine g_iadd C dL_law_491 ?_
  refine g_sld C hLaw dL_law_492 hF (fun x4 hF => ?_)
  obtain ⟨x5, S6, h, hF⟩ := gB_some hF
  obtain ⟨hi, h⟩ := gV_some h
  refine g_after (g_runV (n := 1) C dL_law_493 rfl hi (mX6_book C.2.2.2.2.2.2.2.2.2.2.2.1 a2 x4 S3 _ _ h) (lw_V q2284 q2285 q2286 q124 q2287) (by decide +kernel) ⟨by rw [hRf]; exact Nat.le_of_ble_eq_true rfl, by rw [hRl]; exact Nat.le_of_ble_eq_true rfl⟩ rfl rfl (gle gc_0 (by decide))) ?_
  refine g_istore C dL_law_496 (by decide) rfl ?_
  refine g_aload_n C 4 dL_law_498 rfl ?_
  obtain ⟨x7, h, hF⟩ := oB hF
  obtain ⟨hi, h⟩ := gV_some h
  refine g_after (g_runV (n := 0) C dL_law_499 rfl hi (mX6_thrown C.2.2.2.2.2.2.2.2.2.2.2.1 a2 S6 _ h) (lw_V q2168 q2169 q2170 q124 q2171) (by decide +kernel) ⟨by rw [hRf]; exact Nat.le_of_ble_eq_true rfl, by rw [hRl]; exact Nat.le_of_ble_eq_true rfl⟩ rfl rfl (gle gc_0 (by decide))) ?_
  refine g_iload C 1 dL_law_502 rfl ?_
  refine g_icmp_eq C 509 dL_law_504 rfl hF (fun c hF => ?_) (fun c hF => ?_)
  · refine g_iload C 1 dL_law_509 rfl ?_
    refine g_if_ne C 526 dL_law_511 rfl hF (fun c hF => ?_) (fun c hF => ?_)
    · refine g_goto C 2606 dL_law_526 rfl ?_
      refine g_iinc (v := (9 : Int32)) C 6 dL_law_2606 rfl rfl (by decide) (gcons rfl (gfk rfl rfl (gfk rfl rfl (gfk rfl rfl (gfk rfl rfl (gfk rfl rfl (gfr rfl (gfd rfl gf0)))))))) ?_
      refine g_goto C 23 dL_law_2609 rfl ?_
      exact g_sub [3, 4, 5, 6, 0] rfl (hk23 a1 a2 a3 (a4 + (9 : Int32)) S6 hF)
    · refine g_aload_n C 5 dL_law_514 rfl ?_
      refine g_iconst (v := (0 : Int32)) C dL_law_515 rfl ?_
      refine g_lald C dL_law_516 hF (fun x8 hF => ?_)
      refine g_iload C 0 dL_law_517 rfl ?_
      refine g_i2l C dL_law_519 ?_
      refine g_lcmp C dL_law_520 ?_
      refine g_if_eq C 526 dL_law_521 rfl hF (fun c hF => ?_) (fun c hF => ?_)
      · refine g_goto C 2606 dL_law_526 rfl ?_
        refine g_iinc (v := (9 : Int32)) C 6 dL_law_2606 rfl rfl (by decide) (gcons rfl (gfk rfl rfl (gfk rfl rfl (gfk rfl rfl (gfk rfl rfl (gfk rfl rfl (gfr rfl (gfd rfl gf0)))))))) ?_
        refine g_goto C 23 dL_law_2609 rfl ?_
        exact g_sub [3, 4, 5, 6, 0] rfl (hk23 a1 a2 a3 (a4 + (9 : Int32)) S6 hF)
      · refine g_iconst (v := (0 : Int32)) C dL_law_524 rfl ?_
        exact g_law0 hF
  · refine g_iconst (v := (0 : Int32)) C dL_law_507 rfl ?_
    exact g_law0 hF
theorem wfL_law_j529 {S1 : gS} {hh : List (Nat × Nat × Nat × Nat)} {nm : String} (C : gCx p l R s m args meth c D K RX0 cL_law 8 (Option.some Jvm.ClassFile.FieldType.boolean) hh nm u0) {b L : Nat} {xs : Nat → Int32} (hLaw : gLaw R K s u0 args b L xs) (hRf : R.frames = 8192) (hRl : R.locals = 100000) (k23 : (Option Nat) → (Option Nat) → (Option Nat) → (Int32) → gS → Option (Int32 × gS)) (hk23 : ∀ (a1 : Option Nat) (a2 : Option Nat) (a3 : Option Nat) (a4 : Int32) (S : gS), k23 a1 a2 a3 a4 S = some ((1 : Int32), S1) → gW p l e R s m args below meth c D K 8 u0 (lw_Z below args s) S 23 [(0, va_rf (some b)), (1, va_rf a1), (2, va_rf a2), (3, va_rf a3), (4, .int a4)] []) : ∀ (a1 : Option Nat) (a2 : Option Nat) (a3 : Option Nat) (a4 : Int32) (S : gS), fL_law_j529 L xs k23 a1 a2 a3 a4 S = some ((1 : Int32), S1) → gW p l e R s m args below meth c D K 8 u0 (lw_Z below args s) S 529 [(0, va_rf ((some b))), (1, va_rf a1), (2, va_rf a2), (3, va_rf a3), (4, .int a4)] [] := by
  intro a1 a2 a3 a4 S hF
  unfold fL_law_j529 at hF
  refine g_aload_n C 1 dL_law_529 rfl ?_
  obtain ⟨x1, h, hF⟩ := oB hF
  obtain ⟨hi, h⟩ := gV_some h
  refine g_after (g_runV (n := 0) C dL_law_530 rfl hi (mX1_fault C.2.2.2.2.2.2.2.2.2.2.2.1 a1 S _ h) (lw_V q732 q733 q734 q99 q735) (by decide +kernel) ⟨by rw [hRf]; exact Nat.le_of_ble_eq_true rfl, by rw [hRl]; exact Nat.le_of_ble_eq_true rfl⟩ rfl rfl (gle gc_0 (by decide))) ?_
  refine g_aload_n C 2 dL_law_533 rfl ?_
  obtain ⟨x2, S3, h, hF⟩ := gB_some hF
  obtain ⟨hi, h⟩ := gV_some h
  refine g_after (g_runV (n := 0) C dL_law_534 rfl hi (mX6_fault C.2.2.2.2.2.2.2.2.2.2.2.1 a2 S _ _ h) (lw_V q2291 q2292 q2293 q124 q2294) (by decide +kernel) ⟨by rw [hRf]; exact Nat.le_of_ble_eq_true rfl, by rw [hRl]; exact Nat.le_of_ble_eq_true rfl⟩ rfl rfl (gle (gc_i gc_0) (by decide))) ?_
  refine g_icmp_eq C 2606 dL_law_537 rfl hF (fun c hF => ?_) (fun c hF => ?_)
  · refine g_iinc (v := (9 : Int32)) C 4 dL_law_2606 rfl rfl (by decide) (gcons rfl (gfk rfl rfl (gfk rfl rfl (gfk rfl rfl (gfr rfl (gfd rfl gf0)))))) ?_
    refine g_goto C 23 dL_law_2609 rfl ?_
    exact g_sub [1, 2, 3, 4, 0] rfl (hk23 a1 a2 a3 (a4 + (9 : Int32)) S3 hF)
  · refine g_iconst (v := (0 : Int32)) C dL_law_540 rfl ?_
    exact g_law0 hF
theorem wfL_law_j542 {S1 : gS} {hh : List (Nat × Nat × Nat × Nat)} {nm : String} (C : gCx p l R s m args meth c D K RX0 cL_law 8 (Option.some Jvm.ClassFile.FieldType.boolean) hh nm u0) {b L : Nat} {xs : Nat → Int32} (hLaw : gLaw R K s u0 args b L xs) (hRf : R.frames = 8192) (hRl : R.locals = 100000) (k23 : (Option Nat) → (Option Nat) → (Option Nat) → (Int32) → gS → Option (Int32 × gS)) (hk23 : ∀ (a1 : Option Nat) (a2 : Option Nat) (a3 : Option Nat) (a4 : Int32) (S : gS), k23 a1 a2 a3 a4 S = some ((1 : Int32), S1) → gW p l e R s m args below meth c D K 8 u0 (lw_Z below args s) S 23 [(0, va_rf (some b)), (1, va_rf a1), (2, va_rf a2), (3, va_rf a3), (4, .int a4)] []) : ∀ (a1 : Option Nat) (a2 : Option Nat) (a3 : Option Nat) (a4 : Int32) (S : gS), fL_law_j542 L xs k23 a1 a2 a3 a4 S = some ((1 : Int32), S1) → gW p l e R s m args below meth c D K 8 u0 (lw_Z below args s) S 542 [(0, va_rf ((some b))), (1, va_rf a1), (2, va_rf a2), (3, va_rf a3), (4, .int a4)] [] := by
  intro a1 a2 a3 a4 S hF
  unfold fL_law_j542 at hF
  refine g_aload_n C 1 dL_law_542 rfl ?_
  obtain ⟨x1, S2, h, hF⟩ := gB_some hF
  obtain ⟨hi, h⟩ := gV_some h
  refine g_after (g_runV (n := 0) C dL_law_543 rfl hi (mX1_undo C.2.2.2.2.2.2.2.2.2.2.2.1 a1 S _ _ h) (lw_V q736 q737 q738 q99 q739) (by decide +kernel) ⟨by rw [hRf]; exact Nat.le_of_ble_eq_true rfl, by rw [hRl]; exact Nat.le_of_ble_eq_true rfl⟩ rfl rfl (gle gc_0 (by decide))) ?_
  refine g_aload_n C 2 dL_law_546 rfl ?_
  obtain ⟨x3, S4, h, hF⟩ := gB_some hF
  obtain ⟨hi, h⟩ := gV_some h
  refine g_after (g_runV (n := 0) C dL_law_547 rfl hi (mX6_undo C.2.2.2.2.2.2.2.2.2.2.2.1 a2 S2 _ _ h) (lw_V q2366 q2367 q2368 q124 q2369) (by decide +kernel) ⟨by rw [hRf]; exact Nat.le_of_ble_eq_true rfl, by rw [hRl]; exact Nat.le_of_ble_eq_true rfl⟩ rfl rfl (gle (gc_i gc_0) (by decide))) ?_
  refine g_icmp_eq C 2606 dL_law_550 rfl hF (fun c hF => ?_) (fun c hF => ?_)
  · refine g_iinc (v := (9 : Int32)) C 4 dL_law_2606 rfl rfl (by decide) (gcons rfl (gfk rfl rfl (gfk rfl rfl (gfk rfl rfl (gfr rfl (gfd rfl gf0)))))) ?_
    refine g_goto C 23 dL_law_2609 rfl ?_
    exact g_sub [1, 2, 3, 4, 0] rfl (hk23 a1 a2 a3 (a4 + (9 : Int32)) S4 hF)
  · refine g_iconst (v := (0 : Int32)) C dL_law_553 rfl ?_
    exact g_law0 hF
theorem wfL_law_j555 {S1 : gS} {hh : List (Nat × Nat × Nat × Nat)} {nm : String} (C : gCx p l R s m args meth c D K RX0 cL_law 8 (Option.some Jvm.ClassFile.FieldType.boolean) hh nm u0) {b L : Nat} {xs : Nat → Int32} (hLaw : gLaw R K s u0 args b L xs) (hRf : R.frames = 8192) (hRl : R.locals = 100000) (k23 : (Option Nat) → (Option Nat) → (Option Nat) → (Int32) → gS → Option (Int32 × gS)) (hk23 : ∀ (a1 : Option Nat) (a2 : Option Nat) (a3 : Option Nat) (a4 : Int32) (S : gS), k23 a1 a2 a3 a4 S = some ((1 : Int32), S1) → gW p l e R s m args below meth c D K 8 u0 (lw_Z below args s) S 23 [(0, va_rf (some b)), (1, va_rf a1), (2, va_rf a2), (3, va_rf a3), (4, .int a4)] []) : ∀ (a1 : Option Nat) (a2 : Option Nat) (a3 : Option Nat) (a4 : Int32) (S : gS), fL_law_j555 L xs k23 a1 a2 a3 a4 S = some ((1 : Int32), S1) → gW p l e R s m args below meth c D K 8 u0 (lw_Z below args s) S 555 [(0, va_rf ((some b))), (1, va_rf a1), (2, va_rf a2), (3, va_rf a3), (4, .int a4)] [] := by
  intro a1 a2 a3 a4 S hF
  unfold fL_law_j555 at hF
  refine g_aload_n C 1 dL_law_555 rfl ?_
  refine g_aload_n C 0 dL_law_556 rfl ?_
  refine g_iload C 4 dL_law_557 rfl ?_
  refine g_iconst (v := (1 : Int32)) C dL_law_559 rfl ?_
  refine g_iadd C dL_law_560 ?_
  refine g_sld C hLaw dL_law_561 hF (fun x1 hF => ?_)
  refine g_aload_n C 3 dL_law_562 rfl ?_
  obtain ⟨x2, S3, h, hF⟩ := gB_some hF
  refine g_after (g_runSX (n := 3) C dL_law_563 (mX0_told C.2.2.2.2.2.2.2.2.2.2.2.1 a1 x1 a3 S _ _ h) (lw_SW q1715 q1716 q98 q1717) (by decide +kernel) ⟨by rw [hRf]; exact Nat.le_of_ble_eq_true rfl, by rw [hRl]; exact Nat.le_of_ble_eq_true rfl⟩ rfl rfl (gle gc_0 (by decide))) ?_
  refine g_istore C dL_law_566 (by decide) rfl ?_
  refine g_aload_n C 3 dL_law_568 rfl ?_
  refine g_aload_n C 1 dL_law_569 rfl ?_
  refine g_iload C 5 dL_law_570 rfl ?_
  refine g_iconst (v := (1 : Int32)) C dL_law_572 rfl ?_
  refine g_iadd C dL_law_573 ?_
  refine g_sld C hLaw dL_law_574 hF (fun x4 hF => ?_)
  obtain ⟨x5, S6, h, hF⟩ := gB_some hF
  obtain ⟨hi, h⟩ := gV_some h
  refine g_after (g_runV (n := 1) C dL_law_575 rfl hi (mX6_told C.2.2.2.2.2.2.2.2.2.2.2.1 a2 x4 S3 _ _ h) (lw_V q2370 q2371 q2372 q124 q2373) (by decide +kernel) ⟨by rw [hRf]; exact Nat.le_of_ble_eq_true rfl, by rw [hRl]; exact Nat.le_of_ble_eq_true rfl⟩ rfl rfl (gle gc_0 (by decide))) ?_
  refine g_istore C dL_law_578 (by decide) rfl ?_
  refine g_aload_n C 4 dL_law_580 rfl ?_
  obtain ⟨x7, h, hF⟩ := oB hF
  obtain ⟨hi, h⟩ := gV_some h
  refine g_after (g_runV (n := 0) C dL_law_581 rfl hi (mX6_thrown C.2.2.2.2.2.2.2.2.2.2.2.1 a2 S6 _ h) (lw_V q2168 q2169 q2170 q124 q2171) (by decide +kernel) ⟨by rw [hRf]; exact Nat.le_of_ble_eq_true rfl, by rw [hRl]; exact Nat.le_of_ble_eq_true rfl⟩ rfl rfl (gle gc_0 (by decide))) ?_
  refine g_iload C 1 dL_law_584 rfl ?_
  refine g_icmp_eq C 591 dL_law_586 rfl hF (fun c hF => ?_) (fun c hF => ?_)
  · refine g_iload C 1 dL_law_591 rfl ?_
    refine g_if_ne C 608 dL_law_593 rfl hF (fun c hF => ?_) (fun c hF => ?_)
    · refine g_goto C 2606 dL_law_608 rfl ?_
      refine g_iinc (v := (9 : Int32)) C 6 dL_law_2606 rfl rfl (by decide) (gcons rfl (gfk rfl rfl (gfk rfl rfl (gfk rfl rfl (gfk rfl rfl (gfk rfl rfl (gfr rfl (gfd rfl gf0)))))))) ?_
      refine g_goto C 23 dL_law_2609 rfl ?_
      exact g_sub [3, 4, 5, 6, 0] rfl (hk23 a1 a2 a3 (a4 + (9 : Int32)) S6 hF)
    · refine g_aload_n C 5 dL_law_596 rfl ?_
      refine g_iconst (v := (0 : Int32)) C dL_law_597 rfl ?_
      refine g_lald C dL_law_598 hF (fun x8 hF => ?_)
      refine g_iload C 0 dL_law_599 rfl ?_
      refine g_i2l C dL_law_601 ?_
      refine g_lcmp C dL_law_602 ?_
      refine g_if_eq C 608 dL_law_603 rfl hF (fun c hF => ?_) (fun c hF => ?_)
      · refine g_goto C 2606 dL_law_608 rfl ?_
        refine g_iinc (v := (9 : Int32)) C 6 dL_law_2606 rfl rfl (by decide) (gcons rfl (gfk rfl rfl (gfk rfl rfl (gfk rfl rfl (gfk rfl rfl (gfk rfl rfl (gfr rfl (gfd rfl gf0)))))))) ?_
        refine g_goto C 23 dL_law_2609 rfl ?_
        exact g_sub [3, 4, 5, 6, 0] rfl (hk23 a1 a2 a3 (a4 + (9 : Int32)) S6 hF)
      · refine g_iconst (v := (0 : Int32)) C dL_law_606 rfl ?_
        exact g_law0 hF
  · refine g_iconst (v := (0 : Int32)) C dL_law_589 rfl ?_
    exact g_law0 hF
theorem wfL_law_j611 {S1 : gS} {hh : List (Nat × Nat × Nat × Nat)} {nm : String} (C : gCx p l R s m args meth c D K RX0 cL_law 8 (Option.some Jvm.ClassFile.FieldType.boolean) hh nm u0) {b L : Nat} {xs : Nat → Int32} (hLaw : gLaw R K s u0 args b L xs) (hRf : R.frames = 8192) (hRl : R.locals = 100000) (k23 : (Option Nat) → (Option Nat) → (Option Nat) → (Int32) → gS → Option (Int32 × gS)) (hk23 : ∀ (a1 : Option Nat) (a2 : Option Nat) (a3 : Option Nat) (a4 : Int32) (S : gS), k23 a1 a2 a3 a4 S = some ((1 : Int32), S1) → gW p l e R s m args below meth c D K 8 u0 (lw_Z below args s) S 23 [(0, va_rf (some b)), (1, va_rf a1), (2, va_rf a2), (3, va_rf a3), (4, .int a4)] []) : ∀ (a1 : Option Nat) (a2 : Option Nat) (a3 : Option Nat) (a4 : Int32) (S : gS), fL_law_j611 L xs k23 a1 a2 a3 a4 S = some ((1 : Int32), S1) → gW p l e R s m args below meth c D K 8 u0 (lw_Z below args s) S 611 [(0, va_rf ((some b))), (1, va_rf a1), (2, va_rf a2), (3, va_rf a3), (4, .int a4)] [] := by
  intro a1 a2 a3 a4 S hF
  unfold fL_law_j611 at hF
  refine g_aload_n C 1 dL_law_611 rfl ?_
  refine g_aload_n C 0 dL_law_612 rfl ?_
  refine g_iload C 4 dL_law_613 rfl ?_
  refine g_iconst (v := (1 : Int32)) C dL_law_615 rfl ?_
  refine g_iadd C dL_law_616 ?_
  refine g_sld C hLaw dL_law_617 hF (fun x1 hF => ?_)
  refine g_aload_n C 0 dL_law_618 rfl ?_
  refine g_iload C 4 dL_law_619 rfl ?_
  refine g_iconst (v := (2 : Int32)) C dL_law_621 rfl ?_
  refine g_iadd C dL_law_622 ?_
  refine g_sld C hLaw dL_law_623 hF (fun x2 hF => ?_)
  refine g_aload_n C 3 dL_law_624 rfl ?_
  obtain ⟨x3, S4, h, hF⟩ := gB_some hF
  refine g_after (g_runSX (n := 4) C dL_law_625 (mX0_singer C.2.2.2.2.2.2.2.2.2.2.2.1 a1 x1 x2 a3 S _ _ h) (lw_SW q1733 q1734 q98 q1735) (by decide +kernel) ⟨by rw [hRf]; exact Nat.le_of_ble_eq_true rfl, by rw [hRl]; exact Nat.le_of_ble_eq_true rfl⟩ rfl rfl (gle gc_0 (by decide))) ?_
  refine g_istore C dL_law_628 (by decide) rfl ?_
  refine g_aload_n C 3 dL_law_630 rfl ?_
  refine g_aload_n C 1 dL_law_631 rfl ?_
  refine g_iload C 5 dL_law_632 rfl ?_
  refine g_iconst (v := (1 : Int32)) C dL_law_634 rfl ?_
  refine g_iadd C dL_law_635 ?_
  refine g_sld C hLaw dL_law_636 hF (fun x5 hF => ?_)
  refine g_aload_n C 1 dL_law_637 rfl ?_
  refine g_iload C 5 dL_law_638 rfl ?_
  refine g_iconst (v := (2 : Int32)) C dL_law_640 rfl ?_
  refine g_iadd C dL_law_641 ?_
  refine g_sld C hLaw dL_law_642 hF (fun x6 hF => ?_)
  obtain ⟨x7, S8, h, hF⟩ := gB_some hF
  obtain ⟨hi, h⟩ := gV_some h
  refine g_after (g_runV (n := 2) C dL_law_643 rfl hi (mX6_singer C.2.2.2.2.2.2.2.2.2.2.2.1 a2 x5 x6 S4 _ _ h) (lw_V q2382 q2383 q2384 q124 q2385) (by decide +kernel) ⟨by rw [hRf]; exact Nat.le_of_ble_eq_true rfl, by rw [hRl]; exact Nat.le_of_ble_eq_true rfl⟩ rfl rfl (gle gc_0 (by decide))) ?_
  refine g_istore C dL_law_646 (by decide) rfl ?_
  refine g_aload_n C 4 dL_law_648 rfl ?_
  obtain ⟨x9, h, hF⟩ := oB hF
  obtain ⟨hi, h⟩ := gV_some h
  refine g_after (g_runV (n := 0) C dL_law_649 rfl hi (mX6_thrown C.2.2.2.2.2.2.2.2.2.2.2.1 a2 S8 _ h) (lw_V q2168 q2169 q2170 q124 q2171) (by decide +kernel) ⟨by rw [hRf]; exact Nat.le_of_ble_eq_true rfl, by rw [hRl]; exact Nat.le_of_ble_eq_true rfl⟩ rfl rfl (gle gc_0 (by decide))) ?_
  refine g_iload C 1 dL_law_652 rfl ?_
  refine g_icmp_eq C 659 dL_law_654 rfl hF (fun c hF => ?_) (fun c hF => ?_)
  · refine g_iload C 1 dL_law_659 rfl ?_
    refine g_if_ne C 676 dL_law_661 rfl hF (fun c hF => ?_) (fun c hF => ?_)
    · refine g_goto C 2606 dL_law_676 rfl ?_
      refine g_iinc (v := (9 : Int32)) C 6 dL_law_2606 rfl rfl (by decide) (gcons rfl (gfk rfl rfl (gfk rfl rfl (gfk rfl rfl (gfk rfl rfl (gfk rfl rfl (gfr rfl (gfd rfl gf0)))))))) ?_
      refine g_goto C 23 dL_law_2609 rfl ?_
      exact g_sub [3, 4, 5, 6, 0] rfl (hk23 a1 a2 a3 (a4 + (9 : Int32)) S8 hF)
    · refine g_aload_n C 5 dL_law_664 rfl ?_
      refine g_iconst (v := (0 : Int32)) C dL_law_665 rfl ?_
      refine g_lald C dL_law_666 hF (fun x10 hF => ?_)
      refine g_iload C 0 dL_law_667 rfl ?_
      refine g_i2l C dL_law_669 ?_
      refine g_lcmp C dL_law_670 ?_
      refine g_if_eq C 676 dL_law_671 rfl hF (fun c hF => ?_) (fun c hF => ?_)
      · refine g_goto C 2606 dL_law_676 rfl ?_
        refine g_iinc (v := (9 : Int32)) C 6 dL_law_2606 rfl rfl (by decide) (gcons rfl (gfk rfl rfl (gfk rfl rfl (gfk rfl rfl (gfk rfl rfl (gfk rfl rfl (gfr rfl (gfd rfl gf0)))))))) ?_
        refine g_goto C 23 dL_law_2609 rfl ?_
        exact g_sub [3, 4, 5, 6, 0] rfl (hk23 a1 a2 a3 (a4 + (9 : Int32)) S8 hF)
      · refine g_iconst (v := (0 : Int32)) C dL_law_674 rfl ?_
        exact g_law0 hF
  · refine g_iconst (v := (0 : Int32)) C dL_law_657 rfl ?_
    exact g_law0 hF
theorem wfL_law_j679 {S1 : gS} {hh : List (Nat × Nat × Nat × Nat)} {nm : String} (C : gCx p l R s m args meth c D K RX0 cL_law 8 (Option.some Jvm.ClassFile.FieldType.boolean) hh nm u0) {b L : Nat} {xs : Nat → Int32} (hLaw : gLaw R K s u0 args b L xs) (hRf : R.frames = 8192) (hRl : R.locals = 100000) (k23 : (Option Nat) → (Option Nat) → (Option Nat) → (Int32) → gS → Option (Int32 × gS)) (hk23 : ∀ (a1 : Option Nat) (a2 : Option Nat) (a3 : Option Nat) (a4 : Int32) (S : gS), k23 a1 a2 a3 a4 S = some ((1 : Int32), S1) → gW p l e R s m args below meth c D K 8 u0 (lw_Z below args s) S 23 [(0, va_rf (some b)), (1, va_rf a1), (2, va_rf a2), (3, va_rf a3), (4, .int a4)] []) : ∀ (a1 : Option Nat) (a2 : Option Nat) (a3 : Option Nat) (a4 : Int32) (S : gS), fL_law_j679 L xs k23 a1 a2 a3 a4 S = some ((1 : Int32), S1) → gW p l e R s m args below meth c D K 8 u0 (lw_Z below args s) S 679 [(0, va_rf ((some b))), (1, va_rf a1), (2, va_rf a2), (3, va_rf a3), (4, .int a4)] [] := by
  intro a1 a2 a3 a4 S hF
  unfold fL_law_j679 at hF
  refine g_aload_n C 1 dL_law_679 rfl ?_
  refine g_aload_n C 0 dL_law_680 rfl ?_
  refine g_iload C 4 dL_law_681 rfl ?_
  refine g_iconst (v := (1 : Int32)) C dL_law_683 rfl ?_
  refine g_iadd C dL_law_684 ?_
  refine g_sld C hLaw dL_law_685 hF (fun x1 hF => ?_)
  refine g_aload_n C 0 dL_law_686 rfl ?_
  refine g_iload C 4 dL_law_687 rfl ?_
  refine g_iconst (v := (2 : Int32)) C dL_law_689 rfl ?_
  refine g_iadd C dL_law_690 ?_
  refine g_sld C hLaw dL_law_691 hF (fun x2 hF => ?_)
  refine g_aload_n C 3 dL_law_692 rfl ?_
  obtain ⟨x3, S4, h, hF⟩ := gB_some hF
  refine g_after (g_runSX (n := 4) C dL_law_693 (mX0_note C.2.2.2.2.2.2.2.2.2.2.2.1 a1 x1 x2 a3 S _ _ h) (lw_SW q1764 q1765 q98 q1766) (by decide +kernel) ⟨by rw [hRf]; exact Nat.le_of_ble_eq_true rfl, by rw [hRl]; exact Nat.le_of_ble_eq_true rfl⟩ rfl rfl (gle gc_0 (by decide))) ?_
  refine g_istore C dL_law_696 (by decide) rfl ?_
  refine g_aload_n C 3 dL_law_698 rfl ?_
  refine g_aload_n C 1 dL_law_699 rfl ?_
  refine g_iload C 5 dL_law_700 rfl ?_
  refine g_iconst (v := (1 : Int32)) C dL_law_702 rfl ?_
  refine g_iadd C dL_law_703 ?_
  refine g_sld C hLaw dL_law_704 hF (fun x5 hF => ?_)
  refine g_aload_n C 1 dL_law_705 rfl ?_
  refine g_iload C 5 dL_law_706 rfl ?_
  refine g_iconst (v := (2 : Int32)) C dL_law_708 rfl ?_
  refine g_iadd C dL_law_709 ?_
  refine g_sld C hLaw dL_law_710 hF (fun x6 hF => ?_)
  obtain ⟨x7, S8, h, hF⟩ := gB_some hF
  obtain ⟨hi, h⟩ := gV_some h
  refine g_after (g_runV (n := 2) C dL_law_711 rfl hi (mX6_note C.2.2.2.2.2.2.2.2.2.2.2.1 a2 x5 x6 S4 _ _ h) (lw_V q2390 q2391 q2392 q124 q2393) (by decide +kernel) ⟨by rw [hRf]; exact Nat.le_of_ble_eq_true rfl, by rw [hRl]; exact Nat.le_of_ble_eq_true rfl⟩ rfl rfl (gle gc_0 (by decide))) ?_
  refine g_istore C dL_law_714 (by decide) rfl ?_
  refine g_aload_n C 4 dL_law_716 rfl ?_
  obtain ⟨x9, h, hF⟩ := oB hF
  obtain ⟨hi, h⟩ := gV_some h
  refine g_after (g_runV (n := 0) C dL_law_717 rfl hi (mX6_thrown C.2.2.2.2.2.2.2.2.2.2.2.1 a2 S8 _ h) (lw_V q2168 q2169 q2170 q124 q2171) (by decide +kernel) ⟨by rw [hRf]; exact Nat.le_of_ble_eq_true rfl, by rw [hRl]; exact Nat.le_of_ble_eq_true rfl⟩ rfl rfl (gle gc_0 (by decide))) ?_
  refine g_iload C 1 dL_law_720 rfl ?_
  refine g_icmp_eq C 727 dL_law_722 rfl hF (fun c hF => ?_) (fun c hF => ?_)
  · refine g_iload C 1 dL_law_727 rfl ?_
    refine g_if_ne C 744 dL_law_729 rfl hF (fun c hF => ?_) (fun c hF => ?_)
    · refine g_goto C 2606 dL_law_744 rfl ?_
      refine g_iinc (v := (9 : Int32)) C 6 dL_law_2606 rfl rfl (by decide) (gcons rfl (gfk rfl rfl (gfk rfl rfl (gfk rfl rfl (gfk rfl rfl (gfk rfl rfl (gfr rfl (gfd rfl gf0)))))))) ?_
      refine g_goto C 23 dL_law_2609 rfl ?_
      exact g_sub [3, 4, 5, 6, 0] rfl (hk23 a1 a2 a3 (a4 + (9 : Int32)) S8 hF)
    · refine g_aload_n C 5 dL_law_732 rfl ?_
      refine g_iconst (v := (0 : Int32)) C dL_law_733 rfl ?_
      refine g_lald C dL_law_734 hF (fun x10 hF => ?_)
      refine g_iload C 0 dL_law_735 rfl ?_
      refine g_i2l C dL_law_737 ?_
      refine g_lcmp C dL_law_738 ?_
      refine g_if_eq C 744 dL_law_739 rfl hF (fun c hF => ?_) (fun c hF => ?_)
      · refine g_goto C 2606 dL_law_744 rfl ?_
        refine g_iinc (v := (9 : Int32)) C 6 dL_law_2606 rfl rfl (by decide) (gcons rfl (gfk rfl rfl (gfk rfl rfl (gfk rfl rfl (gfk rfl rfl (gfk rfl rfl (gfr rfl (gfd rfl gf0)))))))) ?_
        refine g_goto C 23 dL_law_2609 rfl ?_
        exact g_sub [3, 4, 5, 6, 0] rfl (hk23 a1 a2 a3 (a4 + (9 : Int32)) S8 hF)
      · refine g_iconst (v := (0 : Int32)) C dL_law_742 rfl ?_
        exact g_law0 hF
  · refine g_iconst (v := (0 : Int32)) C dL_law_725 rfl ?_
    exact g_law0 hF
theorem wfL_law_j747 {S1 : gS} {hh : List (Nat × Nat × Nat × Nat)} {nm : String} (C : gCx p l R s m args meth c D K RX0 cL_law 8 (Option.some Jvm.ClassFile.FieldType.boolean) hh nm u0) {b L : Nat} {xs : Nat → Int32} (hLaw : gLaw R K s u0 args b L xs) (hRf : R.frames = 8192) (hRl : R.locals = 100000) (k23 : (Option Nat) → (Option Nat) → (Option Nat) → (Int32) → gS → Option (Int32 × gS)) (hk23 : ∀ (a1 : Option Nat) (a2 : Option Nat) (a3 : Option Nat) (a4 : Int32) (S : gS), k23 a1 a2 a3 a4 S = some ((1 : Int32), S1) → gW p l e R s m args below meth c D K 8 u0 (lw_Z below args s) S 23 [(0, va_rf (some b)), (1, va_rf a1), (2, va_rf a2), (3, va_rf a3), (4, .int a4)] []) : ∀ (a1 : Option Nat) (a2 : Option Nat) (a3 : Option Nat) (a4 : Int32) (S : gS), fL_law_j747 L xs k23 a1 a2 a3 a4 S = some ((1 : Int32), S1) → gW p l e R s m args below meth c D K 8 u0 (lw_Z below args s) S 747 [(0, va_rf ((some b))), (1, va_rf a1), (2, va_rf a2), (3, va_rf a3), (4, .int a4)] [] := by
  intro a1 a2 a3 a4 S hF
  unfold fL_law_j747 at hF
  refine g_aload_n C 1 dL_law_747 rfl ?_
  refine g_aload_n C 0 dL_law_748 rfl ?_
  refine g_iload C 4 dL_law_749 rfl ?_
  refine g_iconst (v := (1 : Int32)) C dL_law_751 rfl ?_
  refine g_iadd C dL_law_752 ?_
  refine g_sld C hLaw dL_law_753 hF (fun x1 hF => ?_)
  refine g_aload_n C 0 dL_law_754 rfl ?_
  refine g_iload C 4 dL_law_755 rfl ?_
  refine g_iconst (v := (2 : Int32)) C dL_law_757 rfl ?_
  refine g_iadd C dL_law_758 ?_
  refine g_sld C hLaw dL_law_759 hF (fun x2 hF => ?_)
  refine g_aload_n C 3 dL_law_760 rfl ?_
  obtain ⟨x3, S4, h, hF⟩ := gB_some hF
  refine g_after (g_runSX (n := 4) C dL_law_761 (mX0_like C.2.2.2.2.2.2.2.2.2.2.2.1 a1 x1 x2 a3 S _ _ h) (lw_SW q1775 q1776 q98 q1777) (by decide +kernel) ⟨by rw [hRf]; exact Nat.le_of_ble_eq_true rfl, by rw [hRl]; exact Nat.le_of_ble_eq_true rfl⟩ rfl rfl (gle gc_0 (by decide))) ?_
  refine g_istore C dL_law_764 (by decide) rfl ?_
  refine g_aload_n C 3 dL_law_766 rfl ?_
  refine g_aload_n C 1 dL_law_767 rfl ?_
  refine g_iload C 5 dL_law_768 rfl ?_
  refine g_iconst (v := (1 : Int32)) C dL_law_770 rfl ?_
  refine g_iadd C dL_law_771 ?_
  refine g_sld C hLaw dL_law_772 hF (fun x5 hF => ?_)
  refine g_aload_n C 1 dL_law_773 rfl ?_
  refine g_iload C 5 dL_law_774 rfl ?_
  refine g_iconst (v := (2 : Int32)) C dL_law_776 rfl ?_
  refine g_iadd C dL_law_777 ?_
  refine g_sld C hLaw dL_law_778 hF (fun x6 hF => ?_)
  obtain ⟨x7, S8, h, hF⟩ := gB_some hF
  obtain ⟨hi, h⟩ := gV_some h
  refine g_after (g_runV (n := 2) C dL_law_779 rfl hi (mX6_like C.2.2.2.2.2.2.2.2.2.2.2.1 a2 x5 x6 S4 _ _ h) (lw_V q2398 q2399 q2400 q124 q2401) (by decide +kernel) ⟨by rw [hRf]; exact Nat.le_of_ble_eq_true rfl, by rw [hRl]; exact Nat.le_of_ble_eq_true rfl⟩ rfl rfl (gle gc_0 (by decide))) ?_
  refine g_istore C dL_law_782 (by decide) rfl ?_
  refine g_aload_n C 4 dL_law_784 rfl ?_
  obtain ⟨x9, h, hF⟩ := oB hF
  obtain ⟨hi, h⟩ := gV_some h
  refine g_after (g_runV (n := 0) C dL_law_785 rfl hi (mX6_thrown C.2.2.2.2.2.2.2.2.2.2.2.1 a2 S8 _ h) (lw_V q2168 q2169 q2170 q124 q2171) (by decide +kernel) ⟨by rw [hRf]; exact Nat.le_of_ble_eq_true rfl, by rw [hRl]; exact Nat.le_of_ble_eq_true rfl⟩ rfl rfl (gle gc_0 (by decide))) ?_
  refine g_iload C 1 dL_law_788 rfl ?_
  refine g_icmp_eq C 795 dL_law_790 rfl hF (fun c hF => ?_) (fun c hF => ?_)
  · refine g_iload C 1 dL_law_795 rfl ?_
    refine g_if_ne C 812 dL_law_797 rfl hF (fun c hF => ?_) (fun c hF => ?_)
    · refine g_goto C 2606 dL_law_812 rfl ?_
      refine g_iinc (v := (9 : Int32)) C 6 dL_law_2606 rfl rfl (by decide) (gcons rfl (gfk rfl rfl (gfk rfl rfl (gfk rfl rfl (gfk rfl rfl (gfk rfl rfl (gfr rfl (gfd rfl gf0)))))))) ?_
      refine g_goto C 23 dL_law_2609 rfl ?_
      exact g_sub [3, 4, 5, 6, 0] rfl (hk23 a1 a2 a3 (a4 + (9 : Int32)) S8 hF)
    · refine g_aload_n C 5 dL_law_800 rfl ?_
      refine g_iconst (v := (0 : Int32)) C dL_law_801 rfl ?_
      refine g_lald C dL_law_802 hF (fun x10 hF => ?_)
      refine g_iload C 0 dL_law_803 rfl ?_
      refine g_i2l C dL_law_805 ?_
      refine g_lcmp C dL_law_806 ?_
      refine g_if_eq C 812 dL_law_807 rfl hF (fun c hF => ?_) (fun c hF => ?_)
      · refine g_goto C 2606 dL_law_812 rfl ?_
        refine g_iinc (v := (9 : Int32)) C 6 dL_law_2606 rfl rfl (by decide) (gcons rfl (gfk rfl rfl (gfk rfl rfl (gfk rfl rfl (gfk rfl rfl (gfk rfl rfl (gfr rfl (gfd rfl gf0)))))))) ?_
        refine g_goto C 23 dL_law_2609 rfl ?_
        exact g_sub [3, 4, 5, 6, 0] rfl (hk23 a1 a2 a3 (a4 + (9 : Int32)) S8 hF)
      · refine g_iconst (v := (0 : Int32)) C dL_law_810 rfl ?_
        exact g_law0 hF
  · refine g_iconst (v := (0 : Int32)) C dL_law_793 rfl ?_
    exact g_law0 hF
theorem wfL_law_j815 {S1 : gS} {hh : List (Nat × Nat × Nat × Nat)} {nm : String} (C : gCx p l R s m args meth c D K RX0 cL_law 8 (Option.some Jvm.ClassFile.FieldType.boolean) hh nm u0) {b L : Nat} {xs : Nat → Int32} (hLaw : gLaw R K s u0 args b L xs) (hRf : R.frames = 8192) (hRl : R.locals = 100000) (k23 : (Option Nat) → (Option Nat) → (Option Nat) → (Int32) → gS → Option (Int32 × gS)) (hk23 : ∀ (a1 : Option Nat) (a2 : Option Nat) (a3 : Option Nat) (a4 : Int32) (S : gS), k23 a1 a2 a3 a4 S = some ((1 : Int32), S1) → gW p l e R s m args below meth c D K 8 u0 (lw_Z below args s) S 23 [(0, va_rf (some b)), (1, va_rf a1), (2, va_rf a2), (3, va_rf a3), (4, .int a4)] []) : ∀ (a1 : Option Nat) (a2 : Option Nat) (a3 : Option Nat) (a4 : Int32) (S : gS), fL_law_j815 L xs k23 a1 a2 a3 a4 S = some ((1 : Int32), S1) → gW p l e R s m args below meth c D K 8 u0 (lw_Z below args s) S 815 [(0, va_rf ((some b))), (1, va_rf a1), (2, va_rf a2), (3, va_rf a3), (4, .int a4)] [] := by
  intro a1 a2 a3 a4 S hF
  unfold fL_law_j815 at hF
  refine g_aload_n C 1 dL_law_815 rfl ?_
  refine g_aload_n C 0 dL_law_816 rfl ?_
  refine g_iload C 4 dL_law_817 rfl ?_
  refine g_iconst (v := (1 : Int32)) C dL_law_819 rfl ?_
  refine g_iadd C dL_law_820 ?_
  refine g_sld C hLaw dL_law_821 hF (fun x1 hF => ?_)
  refine g_aload_n C 0 dL_law_822 rfl ?_
  refine g_iload C 4 dL_law_823 rfl ?_
  refine g_iconst (v := (2 : Int32)) C dL_law_825 rfl ?_
  refine g_iadd C dL_law_826 ?_
  refine g_sld C hLaw dL_law_827 hF (fun x2 hF => ?_)
  refine g_aload_n C 3 dL_law_828 rfl ?_
  obtain ⟨x3, S4, h, hF⟩ := gB_some hF
  refine g_after (g_runSX (n := 4) C dL_law_829 (mX0_takes C.2.2.2.2.2.2.2.2.2.2.2.1 a1 x1 x2 a3 S _ _ h) (lw_SW q1782 q1783 q98 q1784) (by decide +kernel) ⟨by rw [hRf]; exact Nat.le_of_ble_eq_true rfl, by rw [hRl]; exact Nat.le_of_ble_eq_true rfl⟩ rfl rfl (gle gc_0 (by decide))) ?_
  refine g_istore C dL_law_832 (by decide) rfl ?_
  refine g_aload_n C 3 dL_law_834 rfl ?_
  refine g_aload_n C 1 dL_law_835 rfl ?_
  refine g_iload C 5 dL_law_836 rfl ?_
  refine g_iconst (v := (1 : Int32)) C dL_law_838 rfl ?_
  refine g_iadd C dL_law_839 ?_
  refine g_sld C hLaw dL_law_840 hF (fun x5 hF => ?_)
  refine g_aload_n C 1 dL_law_841 rfl ?_
  refine g_iload C 5 dL_law_842 rfl ?_
  refine g_iconst (v := (2 : Int32)) C dL_law_844 rfl ?_
  refine g_iadd C dL_law_845 ?_
  refine g_sld C hLaw dL_law_846 hF (fun x6 hF => ?_)
  obtain ⟨x7, S8, h, hF⟩ := gB_some hF
  obtain ⟨hi, h⟩ := gV_some h
  refine g_after (g_runV (n := 2) C dL_law_847 rfl hi (mX6_takes C.2.2.2.2.2.2.2.2.2.2.2.1 a2 x5 x6 S4 _ _ h) (lw_V q2402 q2403 q2404 q124 q2405) (by decide +kernel) ⟨by rw [hRf]; exact Nat.le_of_ble_eq_true rfl, by rw [hRl]; exact Nat.le_of_ble_eq_true rfl⟩ rfl rfl (gle gc_0 (by decide))) ?_
  refine g_istore C dL_law_850 (by decide) rfl ?_
  refine g_aload_n C 4 dL_law_852 rfl ?_
  obtain ⟨x9, h, hF⟩ := oB hF
  obtain ⟨hi, h⟩ := gV_some h
  refine g_after (g_runV (n := 0) C dL_law_853 rfl hi (mX6_thrown C.2.2.2.2.2.2.2.2.2.2.2.1 a2 S8 _ h) (lw_V q2168 q2169 q2170 q124 q2171) (by decide +kernel) ⟨by rw [hRf]; exact Nat.le_of_ble_eq_true rfl, by rw [hRl]; exact Nat.le_of_ble_eq_true rfl⟩ rfl rfl (gle gc_0 (by decide))) ?_
  refine g_iload C 1 dL_law_856 rfl ?_
  refine g_icmp_eq C 863 dL_law_858 rfl hF (fun c hF => ?_) (fun c hF => ?_)
  · refine g_iload C 1 dL_law_863 rfl ?_
    refine g_if_ne C 880 dL_law_865 rfl hF (fun c hF => ?_) (fun c hF => ?_)
    · refine g_goto C 2606 dL_law_880 rfl ?_
      refine g_iinc (v := (9 : Int32)) C 6 dL_law_2606 rfl rfl (by decide) (gcons rfl (gfk rfl rfl (gfk rfl rfl (gfk rfl rfl (gfk rfl rfl (gfk rfl rfl (gfr rfl (gfd rfl gf0)))))))) ?_
      refine g_goto C 23 dL_law_2609 rfl ?_
      exact g_sub [3, 4, 5, 6, 0] rfl (hk23 a1 a2 a3 (a4 + (9 : Int32)) S8 hF)
    · refine g_aload_n C 5 dL_law_868 rfl ?_
      refine g_iconst (v := (0 : Int32)) C dL_law_869 rfl ?_
      refine g_lald C dL_law_870 hF (fun x10 hF => ?_)
      refine g_iload C 0 dL_law_871 rfl ?_
      refine g_i2l C dL_law_873 ?_
      refine g_lcmp C dL_law_874 ?_
      refine g_if_eq C 880 dL_law_875 rfl hF (fun c hF => ?_) (fun c hF => ?_)
      · refine g_goto C 2606 dL_law_880 rfl ?_
        refine g_iinc (v := (9 : Int32)) C 6 dL_law_2606 rfl rfl (by decide) (gcons rfl (gfk rfl rfl (gfk rfl rfl (gfk rfl rfl (gfk rfl rfl (gfk rfl rfl (gfr rfl (gfd rfl gf0)))))))) ?_
        refine g_goto C 23 dL_law_2609 rfl ?_
        exact g_sub [3, 4, 5, 6, 0] rfl (hk23 a1 a2 a3 (a4 + (9 : Int32)) S8 hF)
      · refine g_iconst (v := (0 : Int32)) C dL_law_878 rfl ?_
        exact g_law0 hF
  · refine g_iconst (v := (0 : Int32)) C dL_law_861 rfl ?_
    exact g_law0 hF
theorem wfL_law_j883 {S1 : gS} {hh : List (Nat × Nat × Nat × Nat)} {nm : String} (C : gCx p l R s m args meth c D K RX0 cL_law 8 (Option.some Jvm.ClassFile.FieldType.boolean) hh nm u0) {b L : Nat} {xs : Nat → Int32} (hLaw : gLaw R K s u0 args b L xs) (hRf : R.frames = 8192) (hRl : R.locals = 100000) (k23 : (Option Nat) → (Option Nat) → (Option Nat) → (Int32) → gS → Option (Int32 × gS)) (hk23 : ∀ (a1 : Option Nat) (a2 : Option Nat) (a3 : Option Nat) (a4 : Int32) (S : gS), k23 a1 a2 a3 a4 S = some ((1 : Int32), S1) → gW p l e R s m args below meth c D K 8 u0 (lw_Z below args s) S 23 [(0, va_rf (some b)), (1, va_rf a1), (2, va_rf a2), (3, va_rf a3), (4, .int a4)] []) : ∀ (a1 : Option Nat) (a2 : Option Nat) (a3 : Option Nat) (a4 : Int32) (S : gS), fL_law_j883 L xs k23 a1 a2 a3 a4 S = some ((1 : Int32), S1) → gW p l e R s m args below meth c D K 8 u0 (lw_Z below args s) S 883 [(0, va_rf ((some b))), (1, va_rf a1), (2, va_rf a2), (3, va_rf a3), (4, .int a4)] [] := by
  intro a1 a2 a3 a4 S hF
  unfold fL_law_j883 at hF
  refine g_aload_n C 1 dL_law_883 rfl ?_
  refine g_aload_n C 0 dL_law_884 rfl ?_
  refine g_iload C 4 dL_law_885 rfl ?_
  refine g_iconst (v := (1 : Int32)) C dL_law_887 rfl ?_
  refine g_iadd C dL_law_888 ?_
  refine g_sld C hLaw dL_law_889 hF (fun x1 hF => ?_)
  refine g_aload_n C 0 dL_law_890 rfl ?_
  refine g_iload C 4 dL_law_891 rfl ?_
  refine g_iconst (v := (2 : Int32)) C dL_law_893 rfl ?_
  refine g_iadd C dL_law_894 ?_
  refine g_sld C hLaw dL_law_895 hF (fun x2 hF => ?_)
  refine g_aload_n C 0 dL_law_896 rfl ?_
  refine g_iload C 4 dL_law_897 rfl ?_
  refine g_iconst (v := (3 : Int32)) C dL_law_899 rfl ?_
  refine g_iadd C dL_law_900 ?_
  refine g_sld C hLaw dL_law_901 hF (fun x3 hF => ?_)
  refine g_aload_n C 0 dL_law_902 rfl ?_
  refine g_iload C 4 dL_law_903 rfl ?_
  refine g_iconst (v := (4 : Int32)) C dL_law_905 rfl ?_
  refine g_iadd C dL_law_906 ?_
  refine g_sld C hLaw dL_law_907 hF (fun x4 hF => ?_)
  refine g_aload_n C 0 dL_law_908 rfl ?_
  refine g_iload C 4 dL_law_909 rfl ?_
  refine g_iconst (v := (5 : Int32)) C dL_law_911 rfl ?_
  refine g_iadd C dL_law_912 ?_
  refine g_sld C hLaw dL_law_913 hF (fun x5 hF => ?_)
  refine g_aload_n C 0 dL_law_914 rfl ?_
  refine g_iload C 4 dL_law_915 rfl ?_
  refine g_bipush (v := (6 : Int32)) C dL_law_917 rfl ?_
  refine g_iadd C dL_law_919 ?_
  refine g_sld C hLaw dL_law_920 hF (fun x6 hF => ?_)
  refine g_aload_n C 0 dL_law_921 rfl ?_
  refine g_iload C 4 dL_law_922 rfl ?_
  refine g_bipush (v := (7 : Int32)) C dL_law_924 rfl ?_
  refine g_iadd C dL_law_926 ?_
  refine g_sld C hLaw dL_law_927 hF (fun x7 hF => ?_)
  refine g_aload_n C 0 dL_law_928 rfl ?_
  refine g_iload C 4 dL_law_929 rfl ?_
  refine g_bipush (v := (8 : Int32)) C dL_law_931 rfl ?_
  refine g_iadd C dL_law_933 ?_
  refine g_sld C hLaw dL_law_934 hF (fun x8 hF => ?_)
  refine g_aload_n C 3 dL_law_935 rfl ?_
  obtain ⟨x9, S10, h, hF⟩ := gB_some hF
  refine g_after (g_runSX (n := 10) C dL_law_936 (mX0_would C.2.2.2.2.2.2.2.2.2.2.2.1 a1 x1 x2 x3 x4 x5 x6 x7 x8 a3 S _ _ h) (lw_SW q1790 q1791 q98 q1792) (by decide +kernel) ⟨by rw [hRf]; exact Nat.le_of_ble_eq_true rfl, by rw [hRl]; exact Nat.le_of_ble_eq_true rfl⟩ rfl rfl (gle gc_0 (by decide))) ?_
  refine g_istore C dL_law_939 (by decide) rfl ?_
  refine g_aload_n C 3 dL_law_941 rfl ?_
  refine g_aload_n C 1 dL_law_942 rfl ?_
  refine g_iload C 5 dL_law_943 rfl ?_
  refine g_iconst (v := (1 : Int32)) C dL_law_945 rfl ?_
  refine g_iadd C dL_law_946 ?_
  refine g_sld C hLaw dL_law_947 hF (fun x11 hF => ?_)
  refine g_aload_n C 1 dL_law_948 rfl ?_
  refine g_iload C 5 dL_law_949 rfl ?_
  refine g_iconst (v := (2 : Int32)) C dL_law_951 rfl ?_
  refine g_iadd C dL_law_952 ?_
  refine g_sld C hLaw dL_law_953 hF (fun x12 hF => ?_)
  refine g_aload_n C 1 dL_law_954 rfl ?_
  refine g_iload C 5 dL_law_955 rfl ?_
  refine g_iconst (v := (3 : Int32)) C dL_law_957 rfl ?_
  refine g_iadd C dL_law_958 ?_
  refine g_sld C hLaw dL_law_959 hF (fun x13 hF => ?_)
  refine g_aload_n C 1 dL_law_960 rfl ?_
  refine g_iload C 5 dL_law_961 rfl ?_
  refine g_iconst (v := (4 : Int32)) C dL_law_963 rfl ?_
  refine g_iadd C dL_law_964 ?_
  refine g_sld C hLaw dL_law_965 hF (fun x14 hF => ?_)
  refine g_aload_n C 1 dL_law_966 rfl ?_
  refine g_iload C 5 dL_law_967 rfl ?_
  refine g_iconst (v := (5 : Int32)) C dL_law_969 rfl ?_
  refine g_iadd C dL_law_970 ?_
  refine g_sld C hLaw dL_law_971 hF (fun x15 hF => ?_)
  refine g_aload_n C 1 dL_law_972 rfl ?_
  refine g_iload C 5 dL_law_973 rfl ?_
  refine g_bipush (v := (6 : Int32)) C dL_law_975 rfl ?_
  refine g_iadd C dL_law_977 ?_
  refine g_sld C hLaw dL_law_978 hF (fun x16 hF => ?_)
  refine g_aload_n C 1 dL_law_979 rfl ?_
  refine g_iload C 5 dL_law_980 rfl ?_
  refine g_bipush (v := (7 : Int32)) C dL_law_982 rfl ?_
  refine g_iadd C dL_law_984 ?_
  refine g_sld C hLaw dL_law_985 hF (fun x17 hF => ?_)
  refine g_aload_n C 1 dL_law_986 rfl ?_
  refine g_iload C 5 dL_law_987 rfl ?_
  refine g_bipush (v := (8 : Int32)) C dL_law_989 rfl ?_
  refine g_iadd C dL_law_991 ?_
  refine g_sld C hLaw dL_law_992 hF (fun x18 hF => ?_)
  obtain ⟨x19, S20, h, hF⟩ := gB_some hF
  obtain ⟨hi, h⟩ := gV_some h
  refine g_after (g_runV (n := 8) C dL_law_993 rfl hi (mX6_would C.2.2.2.2.2.2.2.2.2.2.2.1 a2 x11 x12 x13 x14 x15 x16 x17 x18 S10 _ _ h) (lw_V q2406 q2407 q2408 q124 q2409) (by decide +kernel) ⟨by rw [hRf]; exact Nat.le_of_ble_eq_true rfl, by rw [hRl]; exact Nat.le_of_ble_eq_true rfl⟩ rfl rfl (gle gc_0 (by decide))) ?_
  refine g_istore C dL_law_996 (by decide) rfl ?_
  refine g_aload_n C 4 dL_law_998 rfl ?_
  obtain ⟨x21, h, hF⟩ := oB hF
  obtain ⟨hi, h⟩ := gV_some h
  refine g_after (g_runV (n := 0) C dL_law_999 rfl hi (mX6_thrown C.2.2.2.2.2.2.2.2.2.2.2.1 a2 S20 _ h) (lw_V q2168 q2169 q2170 q124 q2171) (by decide +kernel) ⟨by rw [hRf]; exact Nat.le_of_ble_eq_true rfl, by rw [hRl]; exact Nat.le_of_ble_eq_true rfl⟩ rfl rfl (gle gc_0 (by decide))) ?_
  refine g_iload C 1 dL_law_1002 rfl ?_
  refine g_icmp_eq C 1009 dL_law_1004 rfl hF (fun c hF => ?_) (fun c hF => ?_)
  · refine g_iload C 1 dL_law_1009 rfl ?_
    refine g_if_ne C 1026 dL_law_1011 rfl hF (fun c hF => ?_) (fun c hF => ?_)
    · refine g_goto C 2606 dL_law_1026 rfl ?_
      refine g_iinc (v := (9 : Int32)) C 6 dL_law_2606 rfl rfl (by decide) (gcons rfl (gfk rfl rfl (gfk rfl rfl (gfk rfl rfl (gfk rfl rfl (gfk rfl rfl (gfr rfl (gfd rfl gf0)))))))) ?_
      refine g_goto C 23 dL_law_2609 rfl ?_
      exact g_sub [3, 4, 5, 6, 0] rfl (hk23 a1 a2 a3 (a4 + (9 : Int32)) S20 hF)
    · refine g_aload_n C 5 dL_law_1014 rfl ?_
      refine g_iconst (v := (0 : Int32)) C dL_law_1015 rfl ?_
      refine g_lald C dL_law_1016 hF (fun x22 hF => ?_)
      refine g_iload C 0 dL_law_1017 rfl ?_
      refine g_i2l C dL_law_1019 ?_
      refine g_lcmp C dL_law_1020 ?_
      refine g_if_eq C 1026 dL_law_1021 rfl hF (fun c hF => ?_) (fun c hF => ?_)
      · refine g_goto C 2606 dL_law_1026 rfl ?_
        refine g_iinc (v := (9 : Int32)) C 6 dL_law_2606 rfl rfl (by decide) (gcons rfl (gfk rfl rfl (gfk rfl rfl (gfk rfl rfl (gfk rfl rfl (gfk rfl rfl (gfr rfl (gfd rfl gf0)))))))) ?_
        refine g_goto C 23 dL_law_2609 rfl ?_
        exact g_sub [3, 4, 5, 6, 0] rfl (hk23 a1 a2 a3 (a4 + (9 : Int32)) S20 hF)
      · refine g_iconst (v := (0 : Int32)) C dL_law_1024 rfl ?_
        exact g_law0 hF
  · refine g_iconst (v := (0 : Int32)) C dL_law_1007 rfl ?_
    exact g_law0 hF
theorem wfL_law_j1029 {S1 : gS} {hh : List (Nat × Nat × Nat × Nat)} {nm : String} (C : gCx p l R s m args meth c D K RX0 cL_law 8 (Option.some Jvm.ClassFile.FieldType.boolean) hh nm u0) {b L : Nat} {xs : Nat → Int32} (hLaw : gLaw R K s u0 args b L xs) (hRf : R.frames = 8192) (hRl : R.locals = 100000) (k23 : (Option Nat) → (Option Nat) → (Option Nat) → (Int32) → gS → Option (Int32 × gS)) (hk23 : ∀ (a1 : Option Nat) (a2 : Option Nat) (a3 : Option Nat) (a4 : Int32) (S : gS), k23 a1 a2 a3 a4 S = some ((1 : Int32), S1) → gW p l e R s m args below meth c D K 8 u0 (lw_Z below args s) S 23 [(0, va_rf (some b)), (1, va_rf a1), (2, va_rf a2), (3, va_rf a3), (4, .int a4)] []) : ∀ (a1 : Option Nat) (a2 : Option Nat) (a3 : Option Nat) (a4 : Int32) (S : gS), fL_law_j1029 L xs k23 a1 a2 a3 a4 S = some ((1 : Int32), S1) → gW p l e R s m args below meth c D K 8 u0 (lw_Z below args s) S 1029 [(0, va_rf ((some b))), (1, va_rf a1), (2, va_rf a2), (3, va_rf a3), (4, .int a4)] [] := by
  intro a1 a2 a3 a4 S hF
  unfold fL_law_j1029 at hF
  refine g_aload_n C 1 dL_law_1029 rfl ?_
  refine g_aload_n C 0 dL_law_1030 rfl ?_
  refine g_iload C 4 dL_law_1031 rfl ?_
  refine g_iconst (v := (1 : Int32)) C dL_law_1033 rfl ?_
  refine g_iadd C dL_law_1034 ?_
  refine g_sld C hLaw dL_law_1035 hF (fun x1 hF => ?_)
  refine g_aload_n C 0 dL_law_1036 rfl ?_
  refine g_iload C 4 dL_law_1037 rfl ?_
  refine g_iconst (v := (2 : Int32)) C dL_law_1039 rfl ?_
  refine g_iadd C dL_law_1040 ?_
  refine g_sld C hLaw dL_law_1041 hF (fun x2 hF => ?_)
  refine g_aload_n C 3 dL_law_1042 rfl ?_
  obtain ⟨x3, S4, h, hF⟩ := gB_some hF
  refine g_after (g_runSX (n := 4) C dL_law_1043 (mX0_ahead C.2.2.2.2.2.2.2.2.2.2.2.1 a1 x1 x2 a3 S _ _ h) (lw_SW q1801 q1802 q98 q1803) (by decide +kernel) ⟨by rw [hRf]; exact Nat.le_of_ble_eq_true rfl, by rw [hRl]; exact Nat.le_of_ble_eq_true rfl⟩ rfl rfl (gle gc_0 (by decide))) ?_
  refine g_istore C dL_law_1046 (by decide) rfl ?_
  refine g_aload_n C 3 dL_law_1048 rfl ?_
  refine g_aload_n C 1 dL_law_1049 rfl ?_
  refine g_iload C 5 dL_law_1050 rfl ?_
  refine g_iconst (v := (1 : Int32)) C dL_law_1052 rfl ?_
  refine g_iadd C dL_law_1053 ?_
  refine g_sld C hLaw dL_law_1054 hF (fun x5 hF => ?_)
  refine g_aload_n C 1 dL_law_1055 rfl ?_
  refine g_iload C 5 dL_law_1056 rfl ?_
  refine g_iconst (v := (2 : Int32)) C dL_law_1058 rfl ?_
  refine g_iadd C dL_law_1059 ?_
  refine g_sld C hLaw dL_law_1060 hF (fun x6 hF => ?_)
  obtain ⟨x7, S8, h, hF⟩ := gB_some hF
  obtain ⟨hi, h⟩ := gV_some h
  refine g_after (g_runV (n := 2) C dL_law_1061 rfl hi (mX6_ahead C.2.2.2.2.2.2.2.2.2.2.2.1 a2 x5 x6 S4 _ _ h) (lw_V q2413 q2414 q2415 q124 q2416) (by decide +kernel) ⟨by rw [hRf]; exact Nat.le_of_ble_eq_true rfl, by rw [hRl]; exact Nat.le_of_ble_eq_true rfl⟩ rfl rfl (gle gc_0 (by decide))) ?_
  refine g_istore C dL_law_1064 (by decide) rfl ?_
  refine g_aload_n C 4 dL_law_1066 rfl ?_
  obtain ⟨x9, h, hF⟩ := oB hF
  obtain ⟨hi, h⟩ := gV_some h
  refine g_after (g_runV (n := 0) C dL_law_1067 rfl hi (mX6_thrown C.2.2.2.2.2.2.2.2.2.2.2.1 a2 S8 _ h) (lw_V q2168 q2169 q2170 q124 q2171) (by decide +kernel) ⟨by rw [hRf]; exact Nat.le_of_ble_eq_true rfl, by rw [hRl]; exact Nat.le_of_ble_eq_true rfl⟩ rfl rfl (gle gc_0 (by decide))) ?_
  refine g_iload C 1 dL_law_1070 rfl ?_
  refine g_icmp_eq C 1077 dL_law_1072 rfl hF (fun c hF => ?_) (fun c hF => ?_)
  · refine g_iload C 1 dL_law_1077 rfl ?_
    refine g_if_ne C 1094 dL_law_1079 rfl hF (fun c hF => ?_) (fun c hF => ?_)
    · refine g_goto C 2606 dL_law_1094 rfl ?_
      refine g_iinc (v := (9 : Int32)) C 6 dL_law_2606 rfl rfl (by decide) (gcons rfl (gfk rfl rfl (gfk rfl rfl (gfk rfl rfl (gfk rfl rfl (gfk rfl rfl (gfr rfl (gfd rfl gf0)))))))) ?_
      refine g_goto C 23 dL_law_2609 rfl ?_
      exact g_sub [3, 4, 5, 6, 0] rfl (hk23 a1 a2 a3 (a4 + (9 : Int32)) S8 hF)
    · refine g_aload_n C 5 dL_law_1082 rfl ?_
      refine g_iconst (v := (0 : Int32)) C dL_law_1083 rfl ?_
      refine g_lald C dL_law_1084 hF (fun x10 hF => ?_)
      refine g_iload C 0 dL_law_1085 rfl ?_
      refine g_i2l C dL_law_1087 ?_
      refine g_lcmp C dL_law_1088 ?_
      refine g_if_eq C 1094 dL_law_1089 rfl hF (fun c hF => ?_) (fun c hF => ?_)
      · refine g_goto C 2606 dL_law_1094 rfl ?_
        refine g_iinc (v := (9 : Int32)) C 6 dL_law_2606 rfl rfl (by decide) (gcons rfl (gfk rfl rfl (gfk rfl rfl (gfk rfl rfl (gfk rfl rfl (gfk rfl rfl (gfr rfl (gfd rfl gf0)))))))) ?_
        refine g_goto C 23 dL_law_2609 rfl ?_
        exact g_sub [3, 4, 5, 6, 0] rfl (hk23 a1 a2 a3 (a4 + (9 : Int32)) S8 hF)
      · refine g_iconst (v := (0 : Int32)) C dL_law_1092 rfl ?_
        exact g_law0 hF
  · refine g_iconst (v := (0 : Int32)) C dL_law_1075 rfl ?_
    exact g_law0 hF
theorem wfL_law_j1097 {S1 : gS} {hh : List (Nat × Nat × Nat × Nat)} {nm : String} (C : gCx p l R s m args meth c D K RX0 cL_law 8 (Option.some Jvm.ClassFile.FieldType.boolean) hh nm u0) {b L : Nat} {xs : Nat → Int32} (hLaw : gLaw R K s u0 args b L xs) (hRf : R.frames = 8192) (hRl : R.locals = 100000) (k23 : (Option Nat) → (Option Nat) → (Option Nat) → (Int32) → gS → Option (Int32 × gS)) (hk23 : ∀ (a1 : Option Nat) (a2 : Option Nat) (a3 : Option Nat) (a4 : Int32) (S : gS), k23 a1 a2 a3 a4 S = some ((1 : Int32), S1) → gW p l e R s m args below meth c D K 8 u0 (lw_Z below args s) S 23 [(0, va_rf (some b)), (1, va_rf a1), (2, va_rf a2), (3, va_rf a3), (4, .int a4)] []) : ∀ (a1 : Option Nat) (a2 : Option Nat) (a3 : Option Nat) (a4 : Int32) (S : gS), fL_law_j1097 L xs k23 a1 a2 a3 a4 S = some ((1 : Int32), S1) → gW p l e R s m args below meth c D K 8 u0 (lw_Z below args s) S 1097 [(0, va_rf ((some b))), (1, va_rf a1), (2, va_rf a2), (3, va_rf a3), (4, .int a4)] [] := by
  intro a1 a2 a3 a4 S hF
  unfold fL_law_j1097 at hF
  refine g_aload_n C 1 dL_law_1097 rfl ?_
  obtain ⟨x1, S2, h, hF⟩ := gB_some hF
  obtain ⟨hi, h⟩ := gV_some h
  refine g_after (g_runV (n := 0) C dL_law_1098 rfl hi (mX1_cast C.2.2.2.2.2.2.2.2.2.2.2.1 a1 S _ _ h) (lw_V q830 q831 q832 q99 q833) (by decide +kernel) ⟨by rw [hRf]; exact Nat.le_of_ble_eq_true rfl, by rw [hRl]; exact Nat.le_of_ble_eq_true rfl⟩ rfl rfl (gle gc_0 (by decide))) ?_
  refine g_aload_n C 2 dL_law_1101 rfl ?_
  obtain ⟨x3, S4, h, hF⟩ := gB_some hF
  obtain ⟨hi, h⟩ := gV_some h
  refine g_after (g_runV (n := 0) C dL_law_1102 rfl hi (mX6_cast C.2.2.2.2.2.2.2.2.2.2.2.1 a2 S2 _ _ h) (lw_V q2417 q2418 q2419 q124 q2420) (by decide +kernel) ⟨by rw [hRf]; exact Nat.le_of_ble_eq_true rfl, by rw [hRl]; exact Nat.le_of_ble_eq_true rfl⟩ rfl rfl (gle (gc_i gc_0) (by decide))) ?_
  refine g_icmp_eq C 2606 dL_law_1105 rfl hF (fun c hF => ?_) (fun c hF => ?_)
  · refine g_iinc (v := (9 : Int32)) C 4 dL_law_2606 rfl rfl (by decide) (gcons rfl (gfk rfl rfl (gfk rfl rfl (gfk rfl rfl (gfr rfl (gfd rfl gf0)))))) ?_
    refine g_goto C 23 dL_law_2609 rfl ?_
    exact g_sub [1, 2, 3, 4, 0] rfl (hk23 a1 a2 a3 (a4 + (9 : Int32)) S4 hF)
  · refine g_iconst (v := (0 : Int32)) C dL_law_1108 rfl ?_
    exact g_law0 hF
theorem wfL_law_j1110 {S1 : gS} {hh : List (Nat × Nat × Nat × Nat)} {nm : String} (C : gCx p l R s m args meth c D K RX0 cL_law 8 (Option.some Jvm.ClassFile.FieldType.boolean) hh nm u0) {b L : Nat} {xs : Nat → Int32} (hLaw : gLaw R K s u0 args b L xs) (hRf : R.frames = 8192) (hRl : R.locals = 100000) (k23 : (Option Nat) → (Option Nat) → (Option Nat) → (Int32) → gS → Option (Int32 × gS)) (hk23 : ∀ (a1 : Option Nat) (a2 : Option Nat) (a3 : Option Nat) (a4 : Int32) (S : gS), k23 a1 a2 a3 a4 S = some ((1 : Int32), S1) → gW p l e R s m args below meth c D K 8 u0 (lw_Z below args s) S 23 [(0, va_rf (some b)), (1, va_rf a1), (2, va_rf a2), (3, va_rf a3), (4, .int a4)] []) : ∀ (a1 : Option Nat) (a2 : Option Nat) (a3 : Option Nat) (a4 : Int32) (S : gS), fL_law_j1110 L xs k23 a1 a2 a3 a4 S = some ((1 : Int32), S1) → gW p l e R s m args below meth c D K 8 u0 (lw_Z below args s) S 1110 [(0, va_rf ((some b))), (1, va_rf a1), (2, va_rf a2), (3, va_rf a3), (4, .int a4)] [] := by
  intro a1 a2 a3 a4 S hF
  unfold fL_law_j1110 at hF
  refine g_aload_n C 1 dL_law_1110 rfl ?_
  refine g_aload_n C 0 dL_law_1111 rfl ?_
  refine g_iload C 4 dL_law_1112 rfl ?_
  refine g_iconst (v := (1 : Int32)) C dL_law_1114 rfl ?_
  refine g_iadd C dL_law_1115 ?_
  refine g_sld C hLaw dL_law_1116 hF (fun x1 hF => ?_)
  refine g_aload_n C 0 dL_law_1117 rfl ?_
  refine g_iload C 4 dL_law_1118 rfl ?_
  refine g_iconst (v := (2 : Int32)) C dL_law_1120 rfl ?_
  refine g_iadd C dL_law_1121 ?_
  refine g_sld C hLaw dL_law_1122 hF (fun x2 hF => ?_)
  refine g_aload_n C 3 dL_law_1123 rfl ?_
  obtain ⟨x3, S4, h, hF⟩ := gB_some hF
  refine g_after (g_runSX (n := 4) C dL_law_1124 (mX0_handed C.2.2.2.2.2.2.2.2.2.2.2.1 a1 x1 x2 a3 S _ _ h) (lw_SW q1808 q1809 q98 q1810) (by decide +kernel) ⟨by rw [hRf]; exact Nat.le_of_ble_eq_true rfl, by rw [hRl]; exact Nat.le_of_ble_eq_true rfl⟩ rfl rfl (gle gc_0 (by decide))) ?_
  refine g_istore C dL_law_1127 (by decide) rfl ?_
  refine g_aload_n C 3 dL_law_1129 rfl ?_
  refine g_aload_n C 1 dL_law_1130 rfl ?_
  refine g_iload C 5 dL_law_1131 rfl ?_
  refine g_iconst (v := (1 : Int32)) C dL_law_1133 rfl ?_
  refine g_iadd C dL_law_1134 ?_
  refine g_sld C hLaw dL_law_1135 hF (fun x5 hF => ?_)
  refine g_aload_n C 1 dL_law_1136 rfl ?_
  refine g_iload C 5 dL_law_1137 rfl ?_
  refine g_iconst (v := (2 : Int32)) C dL_law_1139 rfl ?_
  refine g_iadd C dL_law_1140 ?_
  refine g_sld C hLaw dL_law_1141 hF (fun x6 hF => ?_)
  obtain ⟨x7, S8, h, hF⟩ := gB_some hF
  obtain ⟨hi, h⟩ := gV_some h
  refine g_after (g_runV (n := 2) C dL_law_1142 rfl hi (mX6_handed C.2.2.2.2.2.2.2.2.2.2.2.1 a2 x5 x6 S4 _ _ h) (lw_V q2436 q2437 q2438 q124 q2439) (by decide +kernel) ⟨by rw [hRf]; exact Nat.le_of_ble_eq_true rfl, by rw [hRl]; exact Nat.le_of_ble_eq_true rfl⟩ rfl rfl (gle gc_0 (by decide))) ?_
  refine g_istore C dL_law_1145 (by decide) rfl ?_
  refine g_aload_n C 4 dL_law_1147 rfl ?_
  obtain ⟨x9, h, hF⟩ := oB hF
  obtain ⟨hi, h⟩ := gV_some h
  refine g_after (g_runV (n := 0) C dL_law_1148 rfl hi (mX6_thrown C.2.2.2.2.2.2.2.2.2.2.2.1 a2 S8 _ h) (lw_V q2168 q2169 q2170 q124 q2171) (by decide +kernel) ⟨by rw [hRf]; exact Nat.le_of_ble_eq_true rfl, by rw [hRl]; exact Nat.le_of_ble_eq_true rfl⟩ rfl rfl (gle gc_0 (by decide))) ?_
  refine g_iload C 1 dL_law_1151 rfl ?_
  refine g_icmp_eq C 1158 dL_law_1153 rfl hF (fun c hF => ?_) (fun c hF => ?_)
  · refine g_iload C 1 dL_law_1158 rfl ?_
    refine g_if_ne C 1175 dL_law_1160 rfl hF (fun c hF => ?_) (fun c hF => ?_)
    · refine g_goto C 2606 dL_law_1175 rfl ?_
      refine g_iinc (v := (9 : Int32)) C 6 dL_law_2606 rfl rfl (by decide) (gcons rfl (gfk rfl rfl (gfk rfl rfl (gfk rfl rfl (gfk rfl rfl (gfk rfl rfl (gfr rfl (gfd rfl gf0)))))))) ?_
      refine g_goto C 23 dL_law_2609 rfl ?_
      exact g_sub [3, 4, 5, 6, 0] rfl (hk23 a1 a2 a3 (a4 + (9 : Int32)) S8 hF)
    · refine g_aload_n C 5 dL_law_1163 rfl ?_
      refine g_iconst (v := (0 : Int32)) C dL_law_1164 rfl ?_
      refine g_lald C dL_law_1165 hF (fun x10 hF => ?_)
      refine g_iload C 0 dL_law_1166 rfl ?_
      refine g_i2l C dL_law_1168 ?_
      refine g_lcmp C dL_law_1169 ?_
      refine g_if_eq C 1175 dL_law_1170 rfl hF (fun c hF => ?_) (fun c hF => ?_)
      · refine g_goto C 2606 dL_law_1175 rfl ?_
        refine g_iinc (v := (9 : Int32)) C 6 dL_law_2606 rfl rfl (by decide) (gcons rfl (gfk rfl rfl (gfk rfl rfl (gfk rfl rfl (gfk rfl rfl (gfk rfl rfl (gfr rfl (gfd rfl gf0)))))))) ?_
        refine g_goto C 23 dL_law_2609 rfl ?_
        exact g_sub [3, 4, 5, 6, 0] rfl (hk23 a1 a2 a3 (a4 + (9 : Int32)) S8 hF)
      · refine g_iconst (v := (0 : Int32)) C dL_law_1173 rfl ?_
        exact g_law0 hF
  · refine g_iconst (v := (0 : Int32)) C dL_law_1156 rfl ?_
    exact g_law0 hF
theorem wfL_law_j1178 {S1 : gS} {hh : List (Nat × Nat × Nat × Nat)} {nm : String} (C : gCx p l R s m args meth c D K RX0 cL_law 8 (Option.some Jvm.ClassFile.FieldType.boolean) hh nm u0) {b L : Nat} {xs : Nat → Int32} (hLaw : gLaw R K s u0 args b L xs) (hRf : R.frames = 8192) (hRl : R.locals = 100000) (k23 : (Option Nat) → (Option Nat) → (Option Nat) → (Int32) → gS → Option (Int32 × gS)) (hk23 : ∀ (a1 : Option Nat) (a2 : Option Nat) (a3 : Option Nat) (a4 : Int32) (S : gS), k23 a1 a2 a3 a4 S = some ((1 : Int32), S1) → gW p l e R s m args below meth c D K 8 u0 (lw_Z below args s) S 23 [(0, va_rf (some b)), (1, va_rf a1), (2, va_rf a2), (3, va_rf a3), (4, .int a4)] []) : ∀ (a1 : Option Nat) (a2 : Option Nat) (a3 : Option Nat) (a4 : Int32) (S : gS), fL_law_j1178 L xs k23 a1 a2 a3 a4 S = some ((1 : Int32), S1) → gW p l e R s m args below meth c D K 8 u0 (lw_Z below args s) S 1178 [(0, va_rf ((some b))), (1, va_rf a1), (2, va_rf a2), (3, va_rf a3), (4, .int a4)] [] := by
  intro a1 a2 a3 a4 S hF
  unfold fL_law_j1178 at hF
  refine g_aload_n C 1 dL_law_1178 rfl ?_
  obtain ⟨x1, S2, h, hF⟩ := gB_some hF
  obtain ⟨hi, h⟩ := gV_some h
  refine g_after (g_runV (n := 0) C dL_law_1179 rfl hi (mX1_bench C.2.2.2.2.2.2.2.2.2.2.2.1 a1 S _ _ h) (lw_V q855 q856 q857 q99 q858) (by decide +kernel) ⟨by rw [hRf]; exact Nat.le_of_ble_eq_true rfl, by rw [hRl]; exact Nat.le_of_ble_eq_true rfl⟩ rfl rfl (gle gc_0 (by decide))) ?_
  refine g_aload_n C 2 dL_law_1182 rfl ?_
  obtain ⟨x3, S4, h, hF⟩ := gB_some hF
  obtain ⟨hi, h⟩ := gV_some h
  refine g_after (g_runV (n := 0) C dL_law_1183 rfl hi (mX6_bench C.2.2.2.2.2.2.2.2.2.2.2.1 a2 S2 _ _ h) (lw_V q2444 q2445 q2446 q124 q2447) (by decide +kernel) ⟨by rw [hRf]; exact Nat.le_of_ble_eq_true rfl, by rw [hRl]; exact Nat.le_of_ble_eq_true rfl⟩ rfl rfl (gle (gc_i gc_0) (by decide))) ?_
  refine g_icmp_eq C 2606 dL_law_1186 rfl hF (fun c hF => ?_) (fun c hF => ?_)
  · refine g_iinc (v := (9 : Int32)) C 4 dL_law_2606 rfl rfl (by decide) (gcons rfl (gfk rfl rfl (gfk rfl rfl (gfk rfl rfl (gfr rfl (gfd rfl gf0)))))) ?_
    refine g_goto C 23 dL_law_2609 rfl ?_
    exact g_sub [1, 2, 3, 4, 0] rfl (hk23 a1 a2 a3 (a4 + (9 : Int32)) S4 hF)
  · refine g_iconst (v := (0 : Int32)) C dL_law_1189 rfl ?_
    exact g_law0 hF
theorem wfL_law_j1191 {S1 : gS} {hh : List (Nat × Nat × Nat × Nat)} {nm : String} (C : gCx p l R s m args meth c D K RX0 cL_law 8 (Option.some Jvm.ClassFile.FieldType.boolean) hh nm u0) {b L : Nat} {xs : Nat → Int32} (hLaw : gLaw R K s u0 args b L xs) (hRf : R.frames = 8192) (hRl : R.locals = 100000) (k23 : (Option Nat) → (Option Nat) → (Option Nat) → (Int32) → gS → Option (Int32 × gS)) (hk23 : ∀ (a1 : Option Nat) (a2 : Option Nat) (a3 : Option Nat) (a4 : Int32) (S : gS), k23 a1 a2 a3 a4 S = some ((1 : Int32), S1) → gW p l e R s m args below meth c D K 8 u0 (lw_Z below args s) S 23 [(0, va_rf (some b)), (1, va_rf a1), (2, va_rf a2), (3, va_rf a3), (4, .int a4)] []) : ∀ (a1 : Option Nat) (a2 : Option Nat) (a3 : Option Nat) (a4 : Int32) (S : gS), fL_law_j1191 L xs k23 a1 a2 a3 a4 S = some ((1 : Int32), S1) → gW p l e R s m args below meth c D K 8 u0 (lw_Z below args s) S 1191 [(0, va_rf ((some b))), (1, va_rf a1), (2, va_rf a2), (3, va_rf a3), (4, .int a4)] [] := by
  intro a1 a2 a3 a4 S hF
  unfold fL_law_j1191 at hF
  refine g_aload_n C 1 dL_law_1191 rfl ?_
  refine g_aload_n C 0 dL_law_1192 rfl ?_
  refine g_iload C 4 dL_law_1193 rfl ?_
  refine g_iconst (v := (1 : Int32)) C dL_law_1195 rfl ?_
  refine g_iadd C dL_law_1196 ?_
  refine g_sld C hLaw dL_law_1197 hF (fun x1 hF => ?_)
  refine g_aload_n C 3 dL_law_1198 rfl ?_
  obtain ⟨x2, S3, h, hF⟩ := gB_some hF
  refine g_after (g_runSX (n := 3) C dL_law_1199 (mX0_benched C.2.2.2.2.2.2.2.2.2.2.2.1 a1 x1 a3 S _ _ h) (lw_SW q1815 q1816 q98 q1817) (by decide +kernel) ⟨by rw [hRf]; exact Nat.le_of_ble_eq_true rfl, by rw [hRl]; exact Nat.le_of_ble_eq_true rfl⟩ rfl rfl (gle gc_0 (by decide))) ?_
  refine g_istore C dL_law_1202 (by decide) rfl ?_
  refine g_aload_n C 3 dL_law_1204 rfl ?_
  refine g_aload_n C 1 dL_law_1205 rfl ?_
  refine g_iload C 5 dL_law_1206 rfl ?_
  refine g_iconst (v := (1 : Int32)) C dL_law_1208 rfl ?_
  refine g_iadd C dL_law_1209 ?_
  refine g_sld C hLaw dL_law_1210 hF (fun x4 hF => ?_)
  obtain ⟨x5, S6, h, hF⟩ := gB_some hF
  obtain ⟨hi, h⟩ := gV_some h
  refine g_after (g_runV (n := 1) C dL_law_1211 rfl hi (mX6_benched C.2.2.2.2.2.2.2.2.2.2.2.1 a2 x4 S3 _ _ h) (lw_V q2456 q2457 q2458 q124 q2459) (by decide +kernel) ⟨by rw [hRf]; exact Nat.le_of_ble_eq_true rfl, by rw [hRl]; exact Nat.le_of_ble_eq_true rfl⟩ rfl rfl (gle gc_0 (by decide))) ?_
  refine g_istore C dL_law_1214 (by decide) rfl ?_
  refine g_aload_n C 4 dL_law_1216 rfl ?_
  obtain ⟨x7, h, hF⟩ := oB hF
  obtain ⟨hi, h⟩ := gV_some h
  refine g_after (g_runV (n := 0) C dL_law_1217 rfl hi (mX6_thrown C.2.2.2.2.2.2.2.2.2.2.2.1 a2 S6 _ h) (lw_V q2168 q2169 q2170 q124 q2171) (by decide +kernel) ⟨by rw [hRf]; exact Nat.le_of_ble_eq_true rfl, by rw [hRl]; exact Nat.le_of_ble_eq_true rfl⟩ rfl rfl (gle gc_0 (by decide))) ?_
  refine g_iload C 1 dL_law_1220 rfl ?_
  refine g_icmp_eq C 1227 dL_law_1222 rfl hF (fun c hF => ?_) (fun c hF => ?_)
  · refine g_iload C 1 dL_law_1227 rfl ?_
    refine g_if_ne C 1244 dL_law_1229 rfl hF (fun c hF => ?_) (fun c hF => ?_)
    · refine g_goto C 2606 dL_law_1244 rfl ?_
      refine g_iinc (v := (9 : Int32)) C 6 dL_law_2606 rfl rfl (by decide) (gcons rfl (gfk rfl rfl (gfk rfl rfl (gfk rfl rfl (gfk rfl rfl (gfk rfl rfl (gfr rfl (gfd rfl gf0)))))))) ?_
      refine g_goto C 23 dL_law_2609 rfl ?_
      exact g_sub [3, 4, 5, 6, 0] rfl (hk23 a1 a2 a3 (a4 + (9 : Int32)) S6 hF)
    · refine g_aload_n C 5 dL_law_1232 rfl ?_
      refine g_iconst (v := (0 : Int32)) C dL_law_1233 rfl ?_
      refine g_lald C dL_law_1234 hF (fun x8 hF => ?_)
      refine g_iload C 0 dL_law_1235 rfl ?_
      refine g_i2l C dL_law_1237 ?_
      refine g_lcmp C dL_law_1238 ?_
      refine g_if_eq C 1244 dL_law_1239 rfl hF (fun c hF => ?_) (fun c hF => ?_)
      · refine g_goto C 2606 dL_law_1244 rfl ?_
        refine g_iinc (v := (9 : Int32)) C 6 dL_law_2606 rfl rfl (by decide) (gcons rfl (gfk rfl rfl (gfk rfl rfl (gfk rfl rfl (gfk rfl rfl (gfk rfl rfl (gfr rfl (gfd rfl gf0)))))))) ?_
        refine g_goto C 23 dL_law_2609 rfl ?_
        exact g_sub [3, 4, 5, 6, 0] rfl (hk23 a1 a2 a3 (a4 + (9 : Int32)) S6 hF)
      · refine g_iconst (v := (0 : Int32)) C dL_law_1242 rfl ?_
        exact g_law0 hF
  · refine g_iconst (v := (0 : Int32)) C dL_law_1225 rfl ?_
    exact g_law0 hF
theorem wfL_law_j1247 {S1 : gS} {hh : List (Nat × Nat × Nat × Nat)} {nm : String} (C : gCx p l R s m args meth c D K RX0 cL_law 8 (Option.some Jvm.ClassFile.FieldType.boolean) hh nm u0) {b L : Nat} {xs : Nat → Int32} (hLaw : gLaw R K s u0 args b L xs) (hRf : R.frames = 8192) (hRl : R.locals = 100000) (k23 : (Option Nat) → (Option Nat) → (Option Nat) → (Int32) → gS → Option (Int32 × gS)) (hk23 : ∀ (a1 : Option Nat) (a2 : Option Nat) (a3 : Option Nat) (a4 : Int32) (S : gS), k23 a1 a2 a3 a4 S = some ((1 : Int32), S1) → gW p l e R s m args below meth c D K 8 u0 (lw_Z below args s) S 23 [(0, va_rf (some b)), (1, va_rf a1), (2, va_rf a2), (3, va_rf a3), (4, .int a4)] []) : ∀ (a1 : Option Nat) (a2 : Option Nat) (a3 : Option Nat) (a4 : Int32) (S : gS), fL_law_j1247 L xs k23 a1 a2 a3 a4 S = some ((1 : Int32), S1) → gW p l e R s m args below meth c D K 8 u0 (lw_Z below args s) S 1247 [(0, va_rf ((some b))), (1, va_rf a1), (2, va_rf a2), (3, va_rf a3), (4, .int a4)] [] := by
  intro a1 a2 a3 a4 S hF
  unfold fL_law_j1247 at hF
  refine g_aload_n C 1 dL_law_1247 rfl ?_
  obtain ⟨x1, h, hF⟩ := oB hF
  obtain ⟨hi, h⟩ := gV_some h
  refine g_after (g_runV (n := 0) C dL_law_1248 rfl hi (mX1_wording C.2.2.2.2.2.2.2.2.2.2.2.1 a1 S _ h) (lw_V q875 q876 q877 q99 q878) (by decide +kernel) ⟨by rw [hRf]; exact Nat.le_of_ble_eq_true rfl, by rw [hRl]; exact Nat.le_of_ble_eq_true rfl⟩ rfl rfl (gle gc_0 (by decide))) ?_
  refine g_aload_n C 2 dL_law_1251 rfl ?_
  obtain ⟨x2, S3, h, hF⟩ := gB_some hF
  obtain ⟨hi, h⟩ := gV_some h
  refine g_after (g_runV (n := 0) C dL_law_1252 rfl hi (mX6_wording C.2.2.2.2.2.2.2.2.2.2.2.1 a2 S _ _ h) (lw_V q2460 q2461 q2462 q124 q2463) (by decide +kernel) ⟨by rw [hRf]; exact Nat.le_of_ble_eq_true rfl, by rw [hRl]; exact Nat.le_of_ble_eq_true rfl⟩ rfl rfl (gle (gc_i gc_0) (by decide))) ?_
  refine g_icmp_eq C 2606 dL_law_1255 rfl hF (fun c hF => ?_) (fun c hF => ?_)
  · refine g_iinc (v := (9 : Int32)) C 4 dL_law_2606 rfl rfl (by decide) (gcons rfl (gfk rfl rfl (gfk rfl rfl (gfk rfl rfl (gfr rfl (gfd rfl gf0)))))) ?_
    refine g_goto C 23 dL_law_2609 rfl ?_
    exact g_sub [1, 2, 3, 4, 0] rfl (hk23 a1 a2 a3 (a4 + (9 : Int32)) S3 hF)
  · refine g_iconst (v := (0 : Int32)) C dL_law_1258 rfl ?_
    exact g_law0 hF
theorem wfL_law_j1260 {S1 : gS} {hh : List (Nat × Nat × Nat × Nat)} {nm : String} (C : gCx p l R s m args meth c D K RX0 cL_law 8 (Option.some Jvm.ClassFile.FieldType.boolean) hh nm u0) {b L : Nat} {xs : Nat → Int32} (hLaw : gLaw R K s u0 args b L xs) (hRf : R.frames = 8192) (hRl : R.locals = 100000) (k23 : (Option Nat) → (Option Nat) → (Option Nat) → (Int32) → gS → Option (Int32 × gS)) (hk23 : ∀ (a1 : Option Nat) (a2 : Option Nat) (a3 : Option Nat) (a4 : Int32) (S : gS), k23 a1 a2 a3 a4 S = some ((1 : Int32), S1) → gW p l e R s m args below meth c D K 8 u0 (lw_Z below args s) S 23 [(0, va_rf (some b)), (1, va_rf a1), (2, va_rf a2), (3, va_rf a3), (4, .int a4)] []) : ∀ (a1 : Option Nat) (a2 : Option Nat) (a3 : Option Nat) (a4 : Int32) (S : gS), fL_law_j1260 L xs k23 a1 a2 a3 a4 S = some ((1 : Int32), S1) → gW p l e R s m args below meth c D K 8 u0 (lw_Z below args s) S 1260 [(0, va_rf ((some b))), (1, va_rf a1), (2, va_rf a2), (3, va_rf a3), (4, .int a4)] [] := by
  intro a1 a2 a3 a4 S hF
  unfold fL_law_j1260 at hF
  refine g_aload_n C 1 dL_law_1260 rfl ?_
  refine g_aload_n C 0 dL_law_1261 rfl ?_
  refine g_iload C 4 dL_law_1262 rfl ?_
  refine g_iconst (v := (1 : Int32)) C dL_law_1264 rfl ?_
  refine g_iadd C dL_law_1265 ?_
  refine g_sld C hLaw dL_law_1266 hF (fun x1 hF => ?_)
  refine g_aload_n C 3 dL_law_1267 rfl ?_
  obtain ⟨x2, S3, h, hF⟩ := gB_some hF
  refine g_after (g_runSX (n := 3) C dL_law_1268 (mX0_wordings C.2.2.2.2.2.2.2.2.2.2.2.1 a1 x1 a3 S _ _ h) (lw_SW q1822 q1823 q98 q1824) (by decide +kernel) ⟨by rw [hRf]; exact Nat.le_of_ble_eq_true rfl, by rw [hRl]; exact Nat.le_of_ble_eq_true rfl⟩ rfl rfl (gle gc_0 (by decide))) ?_
  refine g_istore C dL_law_1271 (by decide) rfl ?_
  refine g_aload_n C 3 dL_law_1273 rfl ?_
  refine g_aload_n C 1 dL_law_1274 rfl ?_
  refine g_iload C 5 dL_law_1275 rfl ?_
  refine g_iconst (v := (1 : Int32)) C dL_law_1277 rfl ?_
  refine g_iadd C dL_law_1278 ?_
  refine g_sld C hLaw dL_law_1279 hF (fun x4 hF => ?_)
  obtain ⟨x5, S6, h, hF⟩ := gB_some hF
  obtain ⟨hi, h⟩ := gV_some h
  refine g_after (g_runV (n := 1) C dL_law_1280 rfl hi (mX6_wordings C.2.2.2.2.2.2.2.2.2.2.2.1 a2 x4 S3 _ _ h) (lw_V q2464 q2465 q2466 q124 q2467) (by decide +kernel) ⟨by rw [hRf]; exact Nat.le_of_ble_eq_true rfl, by rw [hRl]; exact Nat.le_of_ble_eq_true rfl⟩ rfl rfl (gle gc_0 (by decide))) ?_
  refine g_lstore C dL_law_1283 (by decide) rfl ?_
  refine g_aload_n C 4 dL_law_1285 rfl ?_
  obtain ⟨x7, h, hF⟩ := oB hF
  obtain ⟨hi, h⟩ := gV_some h
  refine g_after (g_runV (n := 0) C dL_law_1286 rfl hi (mX6_thrown C.2.2.2.2.2.2.2.2.2.2.2.1 a2 S6 _ h) (lw_V q2168 q2169 q2170 q124 q2171) (by decide +kernel) ⟨by rw [hRf]; exact Nat.le_of_ble_eq_true rfl, by rw [hRl]; exact Nat.le_of_ble_eq_true rfl⟩ rfl rfl (gle gc_0 (by decide))) ?_
  refine g_iload C 1 dL_law_1289 rfl ?_
  refine g_icmp_eq C 1296 dL_law_1291 rfl hF (fun c hF => ?_) (fun c hF => ?_)
  · refine g_iload C 1 dL_law_1296 rfl ?_
    refine g_if_ne C 1312 dL_law_1298 rfl hF (fun c hF => ?_) (fun c hF => ?_)
    · refine g_goto C 2606 dL_law_1312 rfl ?_
      refine g_iinc (v := (9 : Int32)) C 6 dL_law_2606 rfl rfl (by decide) (gcons rfl (gfk rfl rfl (gfk rfl rfl (gfk rfl rfl (gfk rfl rfl (gfk rfl rfl (gfr rfl (gfd rfl gf0)))))))) ?_
      refine g_goto C 23 dL_law_2609 rfl ?_
      exact g_sub [3, 4, 5, 6, 0] rfl (hk23 a1 a2 a3 (a4 + (9 : Int32)) S6 hF)
    · refine g_aload_n C 5 dL_law_1301 rfl ?_
      refine g_iconst (v := (0 : Int32)) C dL_law_1302 rfl ?_
      refine g_lald C dL_law_1303 hF (fun x8 hF => ?_)
      refine g_lload C 0 dL_law_1304 rfl ?_
      refine g_lcmp C dL_law_1306 ?_
      refine g_if_eq C 1312 dL_law_1307 rfl hF (fun c hF => ?_) (fun c hF => ?_)
      · refine g_goto C 2606 dL_law_1312 rfl ?_
        refine g_iinc (v := (9 : Int32)) C 6 dL_law_2606 rfl rfl (by decide) (gcons rfl (gfk rfl rfl (gfk rfl rfl (gfk rfl rfl (gfk rfl rfl (gfk rfl rfl (gfr rfl (gfd rfl gf0)))))))) ?_
        refine g_goto C 23 dL_law_2609 rfl ?_
        exact g_sub [3, 4, 5, 6, 0] rfl (hk23 a1 a2 a3 (a4 + (9 : Int32)) S6 hF)
      · refine g_iconst (v := (0 : Int32)) C dL_law_1310 rfl ?_
        exact g_law0 hF
  · refine g_iconst (v := (0 : Int32)) C dL_law_1294 rfl ?_
    exact g_law0 hF
theorem wfL_law_j1315 {S1 : gS} {hh : List (Nat × Nat × Nat × Nat)} {nm : String} (C : gCx p l R s m args meth c D K RX0 cL_law 8 (Option.some Jvm.ClassFile.FieldType.boolean) hh nm u0) {b L : Nat} {xs : Nat → Int32} (hLaw : gLaw R K s u0 args b L xs) (hRf : R.frames = 8192) (hRl : R.locals = 100000) (k23 : (Option Nat) → (Option Nat) → (Option Nat) → (Int32) → gS → Option (Int32 × gS)) (hk23 : ∀ (a1 : Option Nat) (a2 : Option Nat) (a3 : Option Nat) (a4 : Int32) (S : gS), k23 a1 a2 a3 a4 S = some ((1 : Int32), S1) → gW p l e R s m args below meth c D K 8 u0 (lw_Z below args s) S 23 [(0, va_rf (some b)), (1, va_rf a1), (2, va_rf a2), (3, va_rf a3), (4, .int a4)] []) : ∀ (a1 : Option Nat) (a2 : Option Nat) (a3 : Option Nat) (a4 : Int32) (S : gS), fL_law_j1315 L xs k23 a1 a2 a3 a4 S = some ((1 : Int32), S1) → gW p l e R s m args below meth c D K 8 u0 (lw_Z below args s) S 1315 [(0, va_rf ((some b))), (1, va_rf a1), (2, va_rf a2), (3, va_rf a3), (4, .int a4)] [] := by
  intro a1 a2 a3 a4 S hF
  unfold fL_law_j1315 at hF
  refine g_aload_n C 1 dL_law_1315 rfl ?_
  refine g_aload_n C 0 dL_law_1316 rfl ?_
  refine g_iload C 4 dL_law_1317 rfl ?_
  refine g_iconst (v := (1 : Int32)) C dL_law_1319 rfl ?_
  refine g_iadd C dL_law_1320 ?_
  refine g_sld C hLaw dL_law_1321 hF (fun x1 hF => ?_)
  refine g_aload_n C 3 dL_law_1322 rfl ?_
  obtain ⟨x2, S3, h, hF⟩ := gB_some hF
  refine g_after (g_runSX (n := 3) C dL_law_1323 (mX0_who C.2.2.2.2.2.2.2.2.2.2.2.1 a1 x1 a3 S _ _ h) (lw_SW q1829 q1830 q98 q1831) (by decide +kernel) ⟨by rw [hRf]; exact Nat.le_of_ble_eq_true rfl, by rw [hRl]; exact Nat.le_of_ble_eq_true rfl⟩ rfl rfl (gle gc_0 (by decide))) ?_
  refine g_istore C dL_law_1326 (by decide) rfl ?_
  refine g_aload_n C 3 dL_law_1328 rfl ?_
  refine g_aload_n C 1 dL_law_1329 rfl ?_
  refine g_iload C 5 dL_law_1330 rfl ?_
  refine g_iconst (v := (1 : Int32)) C dL_law_1332 rfl ?_
  refine g_iadd C dL_law_1333 ?_
  refine g_sld C hLaw dL_law_1334 hF (fun x4 hF => ?_)
  obtain ⟨x5, S6, h, hF⟩ := gB_some hF
  obtain ⟨hi, h⟩ := gV_some h
  refine g_after (g_runV (n := 1) C dL_law_1335 rfl hi (mX6_who C.2.2.2.2.2.2.2.2.2.2.2.1 a2 x4 S3 _ _ h) (lw_V q2468 q2469 q2470 q124 q2471) (by decide +kernel) ⟨by rw [hRf]; exact Nat.le_of_ble_eq_true rfl, by rw [hRl]; exact Nat.le_of_ble_eq_true rfl⟩ rfl rfl (gle gc_0 (by decide))) ?_
  refine g_istore C dL_law_1338 (by decide) rfl ?_
  refine g_aload_n C 4 dL_law_1340 rfl ?_
  obtain ⟨x7, h, hF⟩ := oB hF
  obtain ⟨hi, h⟩ := gV_some h
  refine g_after (g_runV (n := 0) C dL_law_1341 rfl hi (mX6_thrown C.2.2.2.2.2.2.2.2.2.2.2.1 a2 S6 _ h) (lw_V q2168 q2169 q2170 q124 q2171) (by decide +kernel) ⟨by rw [hRf]; exact Nat.le_of_ble_eq_true rfl, by rw [hRl]; exact Nat.le_of_ble_eq_true rfl⟩ rfl rfl (gle gc_0 (by decide))) ?_
  refine g_iload C 1 dL_law_1344 rfl ?_
  refine g_icmp_eq C 1351 dL_law_1346 rfl hF (fun c hF => ?_) (fun c hF => ?_)
  · refine g_iload C 1 dL_law_1351 rfl ?_
    refine g_if_ne C 1368 dL_law_1353 rfl hF (fun c hF => ?_) (fun c hF => ?_)
    · refine g_goto C 2606 dL_law_1368 rfl ?_
      refine g_iinc (v := (9 : Int32)) C 6 dL_law_2606 rfl rfl (by decide) (gcons rfl (gfk rfl rfl (gfk rfl rfl (gfk rfl rfl (gfk rfl rfl (gfk rfl rfl (gfr rfl (gfd rfl gf0)))))))) ?_
      refine g_goto C 23 dL_law_2609 rfl ?_
      exact g_sub [3, 4, 5, 6, 0] rfl (hk23 a1 a2 a3 (a4 + (9 : Int32)) S6 hF)
    · refine g_aload_n C 5 dL_law_1356 rfl ?_
      refine g_iconst (v := (0 : Int32)) C dL_law_1357 rfl ?_
      refine g_lald C dL_law_1358 hF (fun x8 hF => ?_)
      refine g_iload C 0 dL_law_1359 rfl ?_
      refine g_i2l C dL_law_1361 ?_
      refine g_lcmp C dL_law_1362 ?_
      refine g_if_eq C 1368 dL_law_1363 rfl hF (fun c hF => ?_) (fun c hF => ?_)
      · refine g_goto C 2606 dL_law_1368 rfl ?_
        refine g_iinc (v := (9 : Int32)) C 6 dL_law_2606 rfl rfl (by decide) (gcons rfl (gfk rfl rfl (gfk rfl rfl (gfk rfl rfl (gfk rfl rfl (gfk rfl rfl (gfr rfl (gfd rfl gf0)))))))) ?_
        refine g_goto C 23 dL_law_2609 rfl ?_
        exact g_sub [3, 4, 5, 6, 0] rfl (hk23 a1 a2 a3 (a4 + (9 : Int32)) S6 hF)
      · refine g_iconst (v := (0 : Int32)) C dL_law_1366 rfl ?_
        exact g_law0 hF
  · refine g_iconst (v := (0 : Int32)) C dL_law_1349 rfl ?_
    exact g_law0 hF
theorem wfL_law_j1371 {S1 : gS} {hh : List (Nat × Nat × Nat × Nat)} {nm : String} (C : gCx p l R s m args meth c D K RX0 cL_law 8 (Option.some Jvm.ClassFile.FieldType.boolean) hh nm u0) {b L : Nat} {xs : Nat → Int32} (hLaw : gLaw R K s u0 args b L xs) (hRf : R.frames = 8192) (hRl : R.locals = 100000) (k23 : (Option Nat) → (Option Nat) → (Option Nat) → (Int32) → gS → Option (Int32 × gS)) (hk23 : ∀ (a1 : Option Nat) (a2 : Option Nat) (a3 : Option Nat) (a4 : Int32) (S : gS), k23 a1 a2 a3 a4 S = some ((1 : Int32), S1) → gW p l e R s m args below meth c D K 8 u0 (lw_Z below args s) S 23 [(0, va_rf (some b)), (1, va_rf a1), (2, va_rf a2), (3, va_rf a3), (4, .int a4)] []) : ∀ (a1 : Option Nat) (a2 : Option Nat) (a3 : Option Nat) (a4 : Int32) (S : gS), fL_law_j1371 L xs k23 a1 a2 a3 a4 S = some ((1 : Int32), S1) → gW p l e R s m args below meth c D K 8 u0 (lw_Z below args s) S 1371 [(0, va_rf ((some b))), (1, va_rf a1), (2, va_rf a2), (3, va_rf a3), (4, .int a4)] [] := by
  intro a1 a2 a3 a4 S hF
  unfold fL_law_j1371 at hF
  refine g_aload_n C 1 dL_law_1371 rfl ?_
  refine g_aload_n C 0 dL_law_1372 rfl ?_
  refine g_iload C 4 dL_law_1373 rfl ?_
  refine g_iconst (v := (1 : Int32)) C dL_law_1375 rfl ?_
  refine g_iadd C dL_law_1376 ?_
  refine g_sld C hLaw dL_law_1377 hF (fun x1 hF => ?_)
  refine g_aload_n C 3 dL_law_1378 rfl ?_
  obtain ⟨x2, S3, h, hF⟩ := gB_some hF
  refine g_after (g_runSX (n := 3) C dL_law_1379 (mX0_listen C.2.2.2.2.2.2.2.2.2.2.2.1 a1 x1 a3 S _ _ h) (lw_SW q1844 q1845 q98 q1846) (by decide +kernel) ⟨by rw [hRf]; exact Nat.le_of_ble_eq_true rfl, by rw [hRl]; exact Nat.le_of_ble_eq_true rfl⟩ rfl rfl (gle gc_0 (by decide))) ?_
  refine g_istore C dL_law_1382 (by decide) rfl ?_
  refine g_aload_n C 3 dL_law_1384 rfl ?_
  refine g_aload_n C 1 dL_law_1385 rfl ?_
  refine g_iload C 5 dL_law_1386 rfl ?_
  refine g_iconst (v := (1 : Int32)) C dL_law_1388 rfl ?_
  refine g_iadd C dL_law_1389 ?_
  refine g_sld C hLaw dL_law_1390 hF (fun x4 hF => ?_)
  obtain ⟨x5, S6, h, hF⟩ := gB_some hF
  obtain ⟨hi, h⟩ := gV_some h
  refine g_after (g_runV (n := 1) C dL_law_1391 rfl hi (mX6_listen C.2.2.2.2.2.2.2.2.2.2.2.1 a2 x4 S3 _ _ h) (lw_V q2476 q2477 q2478 q124 q2479) (by decide +kernel) ⟨by rw [hRf]; exact Nat.le_of_ble_eq_true rfl, by rw [hRl]; exact Nat.le_of_ble_eq_true rfl⟩ rfl rfl (gle gc_0 (by decide))) ?_
  refine g_istore C dL_law_1394 (by decide) rfl ?_
  refine g_aload_n C 4 dL_law_1396 rfl ?_
  obtain ⟨x7, h, hF⟩ := oB hF
  obtain ⟨hi, h⟩ := gV_some h
  refine g_after (g_runV (n := 0) C dL_law_1397 rfl hi (mX6_thrown C.2.2.2.2.2.2.2.2.2.2.2.1 a2 S6 _ h) (lw_V q2168 q2169 q2170 q124 q2171) (by decide +kernel) ⟨by rw [hRf]; exact Nat.le_of_ble_eq_true rfl, by rw [hRl]; exact Nat.le_of_ble_eq_true rfl⟩ rfl rfl (gle gc_0 (by decide))) ?_
  refine g_iload C 1 dL_law_1400 rfl ?_
  refine g_icmp_eq C 1407 dL_law_1402 rfl hF (fun c hF => ?_) (fun c hF => ?_)
  · refine g_iload C 1 dL_law_1407 rfl ?_
    refine g_if_ne C 1424 dL_law_1409 rfl hF (fun c hF => ?_) (fun c hF => ?_)
    · refine g_goto C 2606 dL_law_1424 rfl ?_
      refine g_iinc (v := (9 : Int32)) C 6 dL_law_2606 rfl rfl (by decide) (gcons rfl (gfk rfl rfl (gfk rfl rfl (gfk rfl rfl (gfk rfl rfl (gfk rfl rfl (gfr rfl (gfd rfl gf0)))))))) ?_
      refine g_goto C 23 dL_law_2609 rfl ?_
      exact g_sub [3, 4, 5, 6, 0] rfl (hk23 a1 a2 a3 (a4 + (9 : Int32)) S6 hF)
    · refine g_aload_n C 5 dL_law_1412 rfl ?_
      refine g_iconst (v := (0 : Int32)) C dL_law_1413 rfl ?_
      refine g_lald C dL_law_1414 hF (fun x8 hF => ?_)
      refine g_iload C 0 dL_law_1415 rfl ?_
      refine g_i2l C dL_law_1417 ?_
      refine g_lcmp C dL_law_1418 ?_
      refine g_if_eq C 1424 dL_law_1419 rfl hF (fun c hF => ?_) (fun c hF => ?_)
      · refine g_goto C 2606 dL_law_1424 rfl ?_
        refine g_iinc (v := (9 : Int32)) C 6 dL_law_2606 rfl rfl (by decide) (gcons rfl (gfk rfl rfl (gfk rfl rfl (gfk rfl rfl (gfk rfl rfl (gfk rfl rfl (gfr rfl (gfd rfl gf0)))))))) ?_
        refine g_goto C 23 dL_law_2609 rfl ?_
        exact g_sub [3, 4, 5, 6, 0] rfl (hk23 a1 a2 a3 (a4 + (9 : Int32)) S6 hF)
      · refine g_iconst (v := (0 : Int32)) C dL_law_1422 rfl ?_
        exact g_law0 hF
  · refine g_iconst (v := (0 : Int32)) C dL_law_1405 rfl ?_
    exact g_law0 hF
theorem wfL_law_j1427 {S1 : gS} {hh : List (Nat × Nat × Nat × Nat)} {nm : String} (C : gCx p l R s m args meth c D K RX0 cL_law 8 (Option.some Jvm.ClassFile.FieldType.boolean) hh nm u0) {b L : Nat} {xs : Nat → Int32} (hLaw : gLaw R K s u0 args b L xs) (hRf : R.frames = 8192) (hRl : R.locals = 100000) (k23 : (Option Nat) → (Option Nat) → (Option Nat) → (Int32) → gS → Option (Int32 × gS)) (hk23 : ∀ (a1 : Option Nat) (a2 : Option Nat) (a3 : Option Nat) (a4 : Int32) (S : gS), k23 a1 a2 a3 a4 S = some ((1 : Int32), S1) → gW p l e R s m args below meth c D K 8 u0 (lw_Z below args s) S 23 [(0, va_rf (some b)), (1, va_rf a1), (2, va_rf a2), (3, va_rf a3), (4, .int a4)] []) : ∀ (a1 : Option Nat) (a2 : Option Nat) (a3 : Option Nat) (a4 : Int32) (S : gS), fL_law_j1427 L xs k23 a1 a2 a3 a4 S = some ((1 : Int32), S1) → gW p l e R s m args below meth c D K 8 u0 (lw_Z below args s) S 1427 [(0, va_rf ((some b))), (1, va_rf a1), (2, va_rf a2), (3, va_rf a3), (4, .int a4)] [] := by
  intro a1 a2 a3 a4 S hF
  unfold fL_law_j1427 at hF
  refine g_aload_n C 1 dL_law_1427 rfl ?_
  refine g_aload_n C 0 dL_law_1428 rfl ?_
  refine g_iload C 4 dL_law_1429 rfl ?_
  refine g_iconst (v := (1 : Int32)) C dL_law_1431 rfl ?_
  refine g_iadd C dL_law_1432 ?_
  refine g_sld C hLaw dL_law_1433 hF (fun x1 hF => ?_)
  refine g_aload_n C 3 dL_law_1434 rfl ?_
  obtain ⟨x2, S3, h, hF⟩ := gB_some hF
  refine g_after (g_runSX (n := 3) C dL_law_1435 (mX0_duty C.2.2.2.2.2.2.2.2.2.2.2.1 a1 x1 a3 S _ _ h) (lw_SW q1855 q1856 q98 q1857) (by decide +kernel) ⟨by rw [hRf]; exact Nat.le_of_ble_eq_true rfl, by rw [hRl]; exact Nat.le_of_ble_eq_true rfl⟩ rfl rfl (gle gc_0 (by decide))) ?_
  refine g_istore C dL_law_1438 (by decide) rfl ?_
  refine g_aload_n C 3 dL_law_1440 rfl ?_
  refine g_aload_n C 1 dL_law_1441 rfl ?_
  refine g_iload C 5 dL_law_1442 rfl ?_
  refine g_iconst (v := (1 : Int32)) C dL_law_1444 rfl ?_
  refine g_iadd C dL_law_1445 ?_
  refine g_sld C hLaw dL_law_1446 hF (fun x4 hF => ?_)
  obtain ⟨x5, S6, h, hF⟩ := gB_some hF
  obtain ⟨hi, h⟩ := gV_some h
  refine g_after (g_runV (n := 1) C dL_law_1447 rfl hi (mX6_duty C.2.2.2.2.2.2.2.2.2.2.2.1 a2 x4 S3 _ _ h) (lw_V q2488 q2489 q2490 q124 q2491) (by decide +kernel) ⟨by rw [hRf]; exact Nat.le_of_ble_eq_true rfl, by rw [hRl]; exact Nat.le_of_ble_eq_true rfl⟩ rfl rfl (gle gc_0 (by decide))) ?_
  refine g_istore C dL_law_1450 (by decide) rfl ?_
  refine g_aload_n C 4 dL_law_1452 rfl ?_
  obtain ⟨x7, h, hF⟩ := oB hF
  obtain ⟨hi, h⟩ := gV_some h
  refine g_after (g_runV (n := 0) C dL_law_1453 rfl hi (mX6_thrown C.2.2.2.2.2.2.2.2.2.2.2.1 a2 S6 _ h) (lw_V q2168 q2169 q2170 q124 q2171) (by decide +kernel) ⟨by rw [hRf]; exact Nat.le_of_ble_eq_true rfl, by rw [hRl]; exact Nat.le_of_ble_eq_true rfl⟩ rfl rfl (gle gc_0 (by decide))) ?_
  refine g_iload C 1 dL_law_1456 rfl ?_
  refine g_icmp_eq C 1463 dL_law_1458 rfl hF (fun c hF => ?_) (fun c hF => ?_)
  · refine g_iload C 1 dL_law_1463 rfl ?_
    refine g_if_ne C 1480 dL_law_1465 rfl hF (fun c hF => ?_) (fun c hF => ?_)
    · refine g_goto C 2606 dL_law_1480 rfl ?_
      refine g_iinc (v := (9 : Int32)) C 6 dL_law_2606 rfl rfl (by decide) (gcons rfl (gfk rfl rfl (gfk rfl rfl (gfk rfl rfl (gfk rfl rfl (gfk rfl rfl (gfr rfl (gfd rfl gf0)))))))) ?_
      refine g_goto C 23 dL_law_2609 rfl ?_
      exact g_sub [3, 4, 5, 6, 0] rfl (hk23 a1 a2 a3 (a4 + (9 : Int32)) S6 hF)
    · refine g_aload_n C 5 dL_law_1468 rfl ?_
      refine g_iconst (v := (0 : Int32)) C dL_law_1469 rfl ?_
      refine g_lald C dL_law_1470 hF (fun x8 hF => ?_)
      refine g_iload C 0 dL_law_1471 rfl ?_
      refine g_i2l C dL_law_1473 ?_
      refine g_lcmp C dL_law_1474 ?_
      refine g_if_eq C 1480 dL_law_1475 rfl hF (fun c hF => ?_) (fun c hF => ?_)
      · refine g_goto C 2606 dL_law_1480 rfl ?_
        refine g_iinc (v := (9 : Int32)) C 6 dL_law_2606 rfl rfl (by decide) (gcons rfl (gfk rfl rfl (gfk rfl rfl (gfk rfl rfl (gfk rfl rfl (gfk rfl rfl (gfr rfl (gfd rfl gf0)))))))) ?_
        refine g_goto C 23 dL_law_2609 rfl ?_
        exact g_sub [3, 4, 5, 6, 0] rfl (hk23 a1 a2 a3 (a4 + (9 : Int32)) S6 hF)
      · refine g_iconst (v := (0 : Int32)) C dL_law_1478 rfl ?_
        exact g_law0 hF
  · refine g_iconst (v := (0 : Int32)) C dL_law_1461 rfl ?_
    exact g_law0 hF
theorem wfL_law_j1483 {S1 : gS} {hh : List (Nat × Nat × Nat × Nat)} {nm : String} (C : gCx p l R s m args meth c D K RX0 cL_law 8 (Option.some Jvm.ClassFile.FieldType.boolean) hh nm u0) {b L : Nat} {xs : Nat → Int32} (hLaw : gLaw R K s u0 args b L xs) (hRf : R.frames = 8192) (hRl : R.locals = 100000) (k23 : (Option Nat) → (Option Nat) → (Option Nat) → (Int32) → gS → Option (Int32 × gS)) (hk23 : ∀ (a1 : Option Nat) (a2 : Option Nat) (a3 : Option Nat) (a4 : Int32) (S : gS), k23 a1 a2 a3 a4 S = some ((1 : Int32), S1) → gW p l e R s m args below meth c D K 8 u0 (lw_Z below args s) S 23 [(0, va_rf (some b)), (1, va_rf a1), (2, va_rf a2), (3, va_rf a3), (4, .int a4)] []) : ∀ (a1 : Option Nat) (a2 : Option Nat) (a3 : Option Nat) (a4 : Int32) (S : gS), fL_law_j1483 L xs k23 a1 a2 a3 a4 S = some ((1 : Int32), S1) → gW p l e R s m args below meth c D K 8 u0 (lw_Z below args s) S 1483 [(0, va_rf ((some b))), (1, va_rf a1), (2, va_rf a2), (3, va_rf a3), (4, .int a4)] [] := by
  intro a1 a2 a3 a4 S hF
  unfold fL_law_j1483 at hF
  refine g_aload_n C 1 dL_law_1483 rfl ?_
  refine g_aload_n C 0 dL_law_1484 rfl ?_
  refine g_iload C 4 dL_law_1485 rfl ?_
  refine g_iconst (v := (1 : Int32)) C dL_law_1487 rfl ?_
  refine g_iadd C dL_law_1488 ?_
  refine g_sld C hLaw dL_law_1489 hF (fun x1 hF => ?_)
  refine g_aload_n C 3 dL_law_1490 rfl ?_
  obtain ⟨x2, S3, h, hF⟩ := gB_some hF
  refine g_after (g_runSX (n := 3) C dL_law_1491 (mX0_range C.2.2.2.2.2.2.2.2.2.2.2.1 a1 x1 a3 S _ _ h) (lw_SW q1863 q1864 q98 q1865) (by decide +kernel) ⟨by rw [hRf]; exact Nat.le_of_ble_eq_true rfl, by rw [hRl]; exact Nat.le_of_ble_eq_true rfl⟩ rfl rfl (gle gc_0 (by decide))) ?_
  refine g_istore C dL_law_1494 (by decide) rfl ?_
  refine g_aload_n C 3 dL_law_1496 rfl ?_
  refine g_aload_n C 1 dL_law_1497 rfl ?_
  refine g_iload C 5 dL_law_1498 rfl ?_
  refine g_iconst (v := (1 : Int32)) C dL_law_1500 rfl ?_
  refine g_iadd C dL_law_1501 ?_
  refine g_sld C hLaw dL_law_1502 hF (fun x4 hF => ?_)
  obtain ⟨x5, S6, h, hF⟩ := gB_some hF
  obtain ⟨hi, h⟩ := gV_some h
  refine g_after (g_runV (n := 1) C dL_law_1503 rfl hi (mX6_range C.2.2.2.2.2.2.2.2.2.2.2.1 a2 x4 S3 _ _ h) (lw_V q2492 q2493 q2494 q124 q2495) (by decide +kernel) ⟨by rw [hRf]; exact Nat.le_of_ble_eq_true rfl, by rw [hRl]; exact Nat.le_of_ble_eq_true rfl⟩ rfl rfl (gle gc_0 (by decide))) ?_
  refine g_istore C dL_law_1506 (by decide) rfl ?_
  refine g_aload_n C 4 dL_law_1508 rfl ?_
  obtain ⟨x7, h, hF⟩ := oB hF
  obtain ⟨hi, h⟩ := gV_some h
  refine g_after (g_runV (n := 0) C dL_law_1509 rfl hi (mX6_thrown C.2.2.2.2.2.2.2.2.2.2.2.1 a2 S6 _ h) (lw_V q2168 q2169 q2170 q124 q2171) (by decide +kernel) ⟨by rw [hRf]; exact Nat.le_of_ble_eq_true rfl, by rw [hRl]; exact Nat.le_of_ble_eq_true rfl⟩ rfl rfl (gle gc_0 (by decide))) ?_
  refine g_iload C 1 dL_law_1512 rfl ?_
  refine g_icmp_eq C 1519 dL_law_1514 rfl hF (fun c hF => ?_) (fun c hF => ?_)
  · refine g_iload C 1 dL_law_1519 rfl ?_
    refine g_if_ne C 1536 dL_law_1521 rfl hF (fun c hF => ?_) (fun c hF => ?_)
    · refine g_goto C 2606 dL_law_1536 rfl ?_
      refine g_iinc (v := (9 : Int32)) C 6 dL_law_2606 rfl rfl (by decide) (gcons rfl (gfk rfl rfl (gfk rfl rfl (gfk rfl rfl (gfk rfl rfl (gfk rfl rfl (gfr rfl (gfd rfl gf0)))))))) ?_
      refine g_goto C 23 dL_law_2609 rfl ?_
      exact g_sub [3, 4, 5, 6, 0] rfl (hk23 a1 a2 a3 (a4 + (9 : Int32)) S6 hF)
    · refine g_aload_n C 5 dL_law_1524 rfl ?_
      refine g_iconst (v := (0 : Int32)) C dL_law_1525 rfl ?_
      refine g_lald C dL_law_1526 hF (fun x8 hF => ?_)
      refine g_iload C 0 dL_law_1527 rfl ?_
      refine g_i2l C dL_law_1529 ?_
      refine g_lcmp C dL_law_1530 ?_
      refine g_if_eq C 1536 dL_law_1531 rfl hF (fun c hF => ?_) (fun c hF => ?_)
      · refine g_goto C 2606 dL_law_1536 rfl ?_
        refine g_iinc (v := (9 : Int32)) C 6 dL_law_2606 rfl rfl (by decide) (gcons rfl (gfk rfl rfl (gfk rfl rfl (gfk rfl rfl (gfk rfl rfl (gfk rfl rfl (gfr rfl (gfd rfl gf0)))))))) ?_
        refine g_goto C 23 dL_law_2609 rfl ?_
        exact g_sub [3, 4, 5, 6, 0] rfl (hk23 a1 a2 a3 (a4 + (9 : Int32)) S6 hF)
      · refine g_iconst (v := (0 : Int32)) C dL_law_1534 rfl ?_
        exact g_law0 hF
  · refine g_iconst (v := (0 : Int32)) C dL_law_1517 rfl ?_
    exact g_law0 hF
theorem wfL_law_j1539 {S1 : gS} {hh : List (Nat × Nat × Nat × Nat)} {nm : String} (C : gCx p l R s m args meth c D K RX0 cL_law 8 (Option.some Jvm.ClassFile.FieldType.boolean) hh nm u0) {b L : Nat} {xs : Nat → Int32} (hLaw : gLaw R K s u0 args b L xs) (hRf : R.frames = 8192) (hRl : R.locals = 100000) (k23 : (Option Nat) → (Option Nat) → (Option Nat) → (Int32) → gS → Option (Int32 × gS)) (hk23 : ∀ (a1 : Option Nat) (a2 : Option Nat) (a3 : Option Nat) (a4 : Int32) (S : gS), k23 a1 a2 a3 a4 S = some ((1 : Int32), S1) → gW p l e R s m args below meth c D K 8 u0 (lw_Z below args s) S 23 [(0, va_rf (some b)), (1, va_rf a1), (2, va_rf a2), (3, va_rf a3), (4, .int a4)] []) : ∀ (a1 : Option Nat) (a2 : Option Nat) (a3 : Option Nat) (a4 : Int32) (S : gS), fL_law_j1539 L xs k23 a1 a2 a3 a4 S = some ((1 : Int32), S1) → gW p l e R s m args below meth c D K 8 u0 (lw_Z below args s) S 1539 [(0, va_rf ((some b))), (1, va_rf a1), (2, va_rf a2), (3, va_rf a3), (4, .int a4)] [] := by
  intro a1 a2 a3 a4 S hF
  unfold fL_law_j1539 at hF
  refine g_aload_n C 1 dL_law_1539 rfl ?_
  refine g_aload_n C 0 dL_law_1540 rfl ?_
  refine g_iload C 4 dL_law_1541 rfl ?_
  refine g_iconst (v := (1 : Int32)) C dL_law_1543 rfl ?_
  refine g_iadd C dL_law_1544 ?_
  refine g_sld C hLaw dL_law_1545 hF (fun x1 hF => ?_)
  refine g_aload_n C 0 dL_law_1546 rfl ?_
  refine g_iload C 4 dL_law_1547 rfl ?_
  refine g_iconst (v := (2 : Int32)) C dL_law_1549 rfl ?_
  refine g_iadd C dL_law_1550 ?_
  refine g_sld C hLaw dL_law_1551 hF (fun x2 hF => ?_)
  refine g_aload_n C 0 dL_law_1552 rfl ?_
  refine g_iload C 4 dL_law_1553 rfl ?_
  refine g_iconst (v := (3 : Int32)) C dL_law_1555 rfl ?_
  refine g_iadd C dL_law_1556 ?_
  refine g_sld C hLaw dL_law_1557 hF (fun x3 hF => ?_)
  refine g_aload_n C 3 dL_law_1558 rfl ?_
  obtain ⟨x4, S5, h, hF⟩ := gB_some hF
  refine g_after (g_runSX (n := 5) C dL_law_1559 (mX0_quarrel C.2.2.2.2.2.2.2.2.2.2.2.1 a1 x1 x2 x3 a3 S _ _ h) (lw_SW q1870 q1871 q98 q1872) (by decide +kernel) ⟨by rw [hRf]; exact Nat.le_of_ble_eq_true rfl, by rw [hRl]; exact Nat.le_of_ble_eq_true rfl⟩ rfl rfl (gle gc_0 (by decide))) ?_
  refine g_istore C dL_law_1562 (by decide) rfl ?_
  refine g_aload_n C 3 dL_law_1564 rfl ?_
  refine g_aload_n C 1 dL_law_1565 rfl ?_
  refine g_iload C 5 dL_law_1566 rfl ?_
  refine g_iconst (v := (1 : Int32)) C dL_law_1568 rfl ?_
  refine g_iadd C dL_law_1569 ?_
  refine g_sld C hLaw dL_law_1570 hF (fun x6 hF => ?_)
  refine g_aload_n C 1 dL_law_1571 rfl ?_
  refine g_iload C 5 dL_law_1572 rfl ?_
  refine g_iconst (v := (2 : Int32)) C dL_law_1574 rfl ?_
  refine g_iadd C dL_law_1575 ?_
  refine g_sld C hLaw dL_law_1576 hF (fun x7 hF => ?_)
  refine g_aload_n C 1 dL_law_1577 rfl ?_
  refine g_iload C 5 dL_law_1578 rfl ?_
  refine g_iconst (v := (3 : Int32)) C dL_law_1580 rfl ?_
  refine g_iadd C dL_law_1581 ?_
  refine g_sld C hLaw dL_law_1582 hF (fun x8 hF => ?_)
  obtain ⟨x9, S10, h, hF⟩ := gB_some hF
  obtain ⟨hi, h⟩ := gV_some h
  refine g_after (g_runV (n := 3) C dL_law_1583 rfl hi (mX6_quarrel C.2.2.2.2.2.2.2.2.2.2.2.1 a2 x6 x7 x8 S5 _ _ h) (lw_V q2496 q2497 q2498 q124 q2499) (by decide +kernel) ⟨by rw [hRf]; exact Nat.le_of_ble_eq_true rfl, by rw [hRl]; exact Nat.le_of_ble_eq_true rfl⟩ rfl rfl (gle gc_0 (by decide))) ?_
  refine g_istore C dL_law_1586 (by decide) rfl ?_
  refine g_aload_n C 4 dL_law_1588 rfl ?_
  obtain ⟨x11, h, hF⟩ := oB hF
  obtain ⟨hi, h⟩ := gV_some h
  refine g_after (g_runV (n := 0) C dL_law_1589 rfl hi (mX6_thrown C.2.2.2.2.2.2.2.2.2.2.2.1 a2 S10 _ h) (lw_V q2168 q2169 q2170 q124 q2171) (by decide +kernel) ⟨by rw [hRf]; exact Nat.le_of_ble_eq_true rfl, by rw [hRl]; exact Nat.le_of_ble_eq_true rfl⟩ rfl rfl (gle gc_0 (by decide))) ?_
  refine g_iload C 1 dL_law_1592 rfl ?_
  refine g_icmp_eq C 1599 dL_law_1594 rfl hF (fun c hF => ?_) (fun c hF => ?_)
  · refine g_iload C 1 dL_law_1599 rfl ?_
    refine g_if_ne C 1616 dL_law_1601 rfl hF (fun c hF => ?_) (fun c hF => ?_)
    · refine g_goto C 2606 dL_law_1616 rfl ?_
      refine g_iinc (v := (9 : Int32)) C 6 dL_law_2606 rfl rfl (by decide) (gcons rfl (gfk rfl rfl (gfk rfl rfl (gfk rfl rfl (gfk rfl rfl (gfk rfl rfl (gfr rfl (gfd rfl gf0)))))))) ?_
      refine g_goto C 23 dL_law_2609 rfl ?_
      exact g_sub [3, 4, 5, 6, 0] rfl (hk23 a1 a2 a3 (a4 + (9 : Int32)) S10 hF)
    · refine g_aload_n C 5 dL_law_1604 rfl ?_
      refine g_iconst (v := (0 : Int32)) C dL_law_1605 rfl ?_
      refine g_lald C dL_law_1606 hF (fun x12 hF => ?_)
      refine g_iload C 0 dL_law_1607 rfl ?_
      refine g_i2l C dL_law_1609 ?_
      refine g_lcmp C dL_law_1610 ?_
      refine g_if_eq C 1616 dL_law_1611 rfl hF (fun c hF => ?_) (fun c hF => ?_)
      · refine g_goto C 2606 dL_law_1616 rfl ?_
        refine g_iinc (v := (9 : Int32)) C 6 dL_law_2606 rfl rfl (by decide) (gcons rfl (gfk rfl rfl (gfk rfl rfl (gfk rfl rfl (gfk rfl rfl (gfk rfl rfl (gfr rfl (gfd rfl gf0)))))))) ?_
        refine g_goto C 23 dL_law_2609 rfl ?_
        exact g_sub [3, 4, 5, 6, 0] rfl (hk23 a1 a2 a3 (a4 + (9 : Int32)) S10 hF)
      · refine g_iconst (v := (0 : Int32)) C dL_law_1614 rfl ?_
        exact g_law0 hF
  · refine g_iconst (v := (0 : Int32)) C dL_law_1597 rfl ?_
    exact g_law0 hF
theorem wfL_law_j1619 {S1 : gS} {hh : List (Nat × Nat × Nat × Nat)} {nm : String} (C : gCx p l R s m args meth c D K RX0 cL_law 8 (Option.some Jvm.ClassFile.FieldType.boolean) hh nm u0) {b L : Nat} {xs : Nat → Int32} (hLaw : gLaw R K s u0 args b L xs) (hRf : R.frames = 8192) (hRl : R.locals = 100000) (k23 : (Option Nat) → (Option Nat) → (Option Nat) → (Int32) → gS → Option (Int32 × gS)) (hk23 : ∀ (a1 : Option Nat) (a2 : Option Nat) (a3 : Option Nat) (a4 : Int32) (S : gS), k23 a1 a2 a3 a4 S = some ((1 : Int32), S1) → gW p l e R s m args below meth c D K 8 u0 (lw_Z below args s) S 23 [(0, va_rf (some b)), (1, va_rf a1), (2, va_rf a2), (3, va_rf a3), (4, .int a4)] []) : ∀ (a1 : Option Nat) (a2 : Option Nat) (a3 : Option Nat) (a4 : Int32) (S : gS), fL_law_j1619 L xs k23 a1 a2 a3 a4 S = some ((1 : Int32), S1) → gW p l e R s m args below meth c D K 8 u0 (lw_Z below args s) S 1619 [(0, va_rf ((some b))), (1, va_rf a1), (2, va_rf a2), (3, va_rf a3), (4, .int a4)] [] := by
  intro a1 a2 a3 a4 S hF
  unfold fL_law_j1619 at hF
  refine g_aload_n C 1 dL_law_1619 rfl ?_
  refine g_aload_n C 0 dL_law_1620 rfl ?_
  refine g_iload C 4 dL_law_1621 rfl ?_
  refine g_iconst (v := (1 : Int32)) C dL_law_1623 rfl ?_
  refine g_iadd C dL_law_1624 ?_
  refine g_sld C hLaw dL_law_1625 hF (fun x1 hF => ?_)
  refine g_aload_n C 0 dL_law_1626 rfl ?_
  refine g_iload C 4 dL_law_1627 rfl ?_
  refine g_iconst (v := (2 : Int32)) C dL_law_1629 rfl ?_
  refine g_iadd C dL_law_1630 ?_
  refine g_sld C hLaw dL_law_1631 hF (fun x2 hF => ?_)
  refine g_aload_n C 0 dL_law_1632 rfl ?_
  refine g_iload C 4 dL_law_1633 rfl ?_
  refine g_iconst (v := (3 : Int32)) C dL_law_1635 rfl ?_
  refine g_iadd C dL_law_1636 ?_
  refine g_sld C hLaw dL_law_1637 hF (fun x3 hF => ?_)
  refine g_aload_n C 0 dL_law_1638 rfl ?_
  refine g_iload C 4 dL_law_1639 rfl ?_
  refine g_iconst (v := (4 : Int32)) C dL_law_1641 rfl ?_
  refine g_iadd C dL_law_1642 ?_
  refine g_sld C hLaw dL_law_1643 hF (fun x4 hF => ?_)
  refine g_aload_n C 3 dL_law_1644 rfl ?_
  obtain ⟨x5, S6, h, hF⟩ := gB_some hF
  refine g_after (g_runSX (n := 6) C dL_law_1645 (mX0_enough C.2.2.2.2.2.2.2.2.2.2.2.1 a1 x1 x2 x3 x4 a3 S _ _ h) (lw_SW q1880 q1881 q98 q1882) (by decide +kernel) ⟨by rw [hRf]; exact Nat.le_of_ble_eq_true rfl, by rw [hRl]; exact Nat.le_of_ble_eq_true rfl⟩ rfl rfl (gle gc_0 (by decide))) ?_
  refine g_istore C dL_law_1648 (by decide) rfl ?_
  refine g_aload_n C 3 dL_law_1650 rfl ?_
  refine g_aload_n C 1 dL_law_1651 rfl ?_
  refine g_iload C 5 dL_law_1652 rfl ?_
  refine g_iconst (v := (1 : Int32)) C dL_law_1654 rfl ?_
  refine g_iadd C dL_law_1655 ?_
  refine g_sld C hLaw dL_law_1656 hF (fun x7 hF => ?_)
  refine g_aload_n C 1 dL_law_1657 rfl ?_
  refine g_iload C 5 dL_law_1658 rfl ?_
  refine g_iconst (v := (2 : Int32)) C dL_law_1660 rfl ?_
  refine g_iadd C dL_law_1661 ?_
  refine g_sld C hLaw dL_law_1662 hF (fun x8 hF => ?_)
  refine g_aload_n C 1 dL_law_1663 rfl ?_
  refine g_iload C 5 dL_law_1664 rfl ?_
  refine g_iconst (v := (3 : Int32)) C dL_law_1666 rfl ?_
  refine g_iadd C dL_law_1667 ?_
  refine g_sld C hLaw dL_law_1668 hF (fun x9 hF => ?_)
  refine g_aload_n C 1 dL_law_1669 rfl ?_
  refine g_iload C 5 dL_law_1670 rfl ?_
  refine g_iconst (v := (4 : Int32)) C dL_law_1672 rfl ?_
  refine g_iadd C dL_law_1673 ?_
  refine g_sld C hLaw dL_law_1674 hF (fun x10 hF => ?_)
  obtain ⟨x11, S12, h, hF⟩ := gB_some hF
  obtain ⟨hi, h⟩ := gV_some h
  refine g_after (g_runV (n := 4) C dL_law_1675 rfl hi (mX6_enough C.2.2.2.2.2.2.2.2.2.2.2.1 a2 x7 x8 x9 x10 S6 _ _ h) (lw_V q2506 q2507 q2508 q124 q2509) (by decide +kernel) ⟨by rw [hRf]; exact Nat.le_of_ble_eq_true rfl, by rw [hRl]; exact Nat.le_of_ble_eq_true rfl⟩ rfl rfl (gle gc_0 (by decide))) ?_
  refine g_lstore C dL_law_1678 (by decide) rfl ?_
  refine g_aload_n C 4 dL_law_1680 rfl ?_
  obtain ⟨x13, h, hF⟩ := oB hF
  obtain ⟨hi, h⟩ := gV_some h
  refine g_after (g_runV (n := 0) C dL_law_1681 rfl hi (mX6_thrown C.2.2.2.2.2.2.2.2.2.2.2.1 a2 S12 _ h) (lw_V q2168 q2169 q2170 q124 q2171) (by decide +kernel) ⟨by rw [hRf]; exact Nat.le_of_ble_eq_true rfl, by rw [hRl]; exact Nat.le_of_ble_eq_true rfl⟩ rfl rfl (gle gc_0 (by decide))) ?_
  refine g_iload C 1 dL_law_1684 rfl ?_
  refine g_icmp_eq C 1691 dL_law_1686 rfl hF (fun c hF => ?_) (fun c hF => ?_)
  · refine g_iload C 1 dL_law_1691 rfl ?_
    refine g_if_ne C 1707 dL_law_1693 rfl hF (fun c hF => ?_) (fun c hF => ?_)
    · refine g_goto C 2606 dL_law_1707 rfl ?_
      refine g_iinc (v := (9 : Int32)) C 6 dL_law_2606 rfl rfl (by decide) (gcons rfl (gfk rfl rfl (gfk rfl rfl (gfk rfl rfl (gfk rfl rfl (gfk rfl rfl (gfr rfl (gfd rfl gf0)))))))) ?_
      refine g_goto C 23 dL_law_2609 rfl ?_
      exact g_sub [3, 4, 5, 6, 0] rfl (hk23 a1 a2 a3 (a4 + (9 : Int32)) S12 hF)
    · refine g_aload_n C 5 dL_law_1696 rfl ?_
      refine g_iconst (v := (0 : Int32)) C dL_law_1697 rfl ?_
      refine g_lald C dL_law_1698 hF (fun x14 hF => ?_)
      refine g_lload C 0 dL_law_1699 rfl ?_
      refine g_lcmp C dL_law_1701 ?_
      refine g_if_eq C 1707 dL_law_1702 rfl hF (fun c hF => ?_) (fun c hF => ?_)
      · refine g_goto C 2606 dL_law_1707 rfl ?_
        refine g_iinc (v := (9 : Int32)) C 6 dL_law_2606 rfl rfl (by decide) (gcons rfl (gfk rfl rfl (gfk rfl rfl (gfk rfl rfl (gfk rfl rfl (gfk rfl rfl (gfr rfl (gfd rfl gf0)))))))) ?_
        refine g_goto C 23 dL_law_2609 rfl ?_
        exact g_sub [3, 4, 5, 6, 0] rfl (hk23 a1 a2 a3 (a4 + (9 : Int32)) S12 hF)
      · refine g_iconst (v := (0 : Int32)) C dL_law_1705 rfl ?_
        exact g_law0 hF
  · refine g_iconst (v := (0 : Int32)) C dL_law_1689 rfl ?_
    exact g_law0 hF
theorem wfL_law_j1710 {S1 : gS} {hh : List (Nat × Nat × Nat × Nat)} {nm : String} (C : gCx p l R s m args meth c D K RX0 cL_law 8 (Option.some Jvm.ClassFile.FieldType.boolean) hh nm u0) {b L : Nat} {xs : Nat → Int32} (hLaw : gLaw R K s u0 args b L xs) (hRf : R.frames = 8192) (hRl : R.locals = 100000) (k23 : (Option Nat) → (Option Nat) → (Option Nat) → (Int32) → gS → Option (Int32 × gS)) (hk23 : ∀ (a1 : Option Nat) (a2 : Option Nat) (a3 : Option Nat) (a4 : Int32) (S : gS), k23 a1 a2 a3 a4 S = some ((1 : Int32), S1) → gW p l e R s m args below meth c D K 8 u0 (lw_Z below args s) S 23 [(0, va_rf (some b)), (1, va_rf a1), (2, va_rf a2), (3, va_rf a3), (4, .int a4)] []) : ∀ (a1 : Option Nat) (a2 : Option Nat) (a3 : Option Nat) (a4 : Int32) (S : gS), fL_law_j1710 L xs k23 a1 a2 a3 a4 S = some ((1 : Int32), S1) → gW p l e R s m args below meth c D K 8 u0 (lw_Z below args s) S 1710 [(0, va_rf ((some b))), (1, va_rf a1), (2, va_rf a2), (3, va_rf a3), (4, .int a4)] [] := by
  intro a1 a2 a3 a4 S hF
  unfold fL_law_j1710 at hF
  refine g_aload_n C 1 dL_law_1710 rfl ?_
  refine g_aload_n C 0 dL_law_1711 rfl ?_
  refine g_iload C 4 dL_law_1712 rfl ?_
  refine g_iconst (v := (1 : Int32)) C dL_law_1714 rfl ?_
  refine g_iadd C dL_law_1715 ?_
  refine g_sld C hLaw dL_law_1716 hF (fun x1 hF => ?_)
  refine g_aload_n C 0 dL_law_1717 rfl ?_
  refine g_iload C 4 dL_law_1718 rfl ?_
  refine g_iconst (v := (2 : Int32)) C dL_law_1720 rfl ?_
  refine g_iadd C dL_law_1721 ?_
  refine g_sld C hLaw dL_law_1722 hF (fun x2 hF => ?_)
  refine g_aload_n C 0 dL_law_1723 rfl ?_
  refine g_iload C 4 dL_law_1724 rfl ?_
  refine g_iconst (v := (3 : Int32)) C dL_law_1726 rfl ?_
  refine g_iadd C dL_law_1727 ?_
  refine g_sld C hLaw dL_law_1728 hF (fun x3 hF => ?_)
  refine g_aload_n C 3 dL_law_1729 rfl ?_
  obtain ⟨x4, S5, h, hF⟩ := gB_some hF
  refine g_after (g_runSX (n := 5) C dL_law_1730 (mX0_rent C.2.2.2.2.2.2.2.2.2.2.2.1 a1 x1 x2 x3 a3 S _ _ h) (lw_SW q1894 q1895 q98 q1896) (by decide +kernel) ⟨by rw [hRf]; exact Nat.le_of_ble_eq_true rfl, by rw [hRl]; exact Nat.le_of_ble_eq_true rfl⟩ rfl rfl (gle gc_0 (by decide))) ?_
  refine g_istore C dL_law_1733 (by decide) rfl ?_
  refine g_aload_n C 3 dL_law_1735 rfl ?_
  refine g_aload_n C 1 dL_law_1736 rfl ?_
  refine g_iload C 5 dL_law_1737 rfl ?_
  refine g_iconst (v := (1 : Int32)) C dL_law_1739 rfl ?_
  refine g_iadd C dL_law_1740 ?_
  refine g_sld C hLaw dL_law_1741 hF (fun x6 hF => ?_)
  refine g_aload_n C 1 dL_law_1742 rfl ?_
  refine g_iload C 5 dL_law_1743 rfl ?_
  refine g_iconst (v := (2 : Int32)) C dL_law_1745 rfl ?_
  refine g_iadd C dL_law_1746 ?_
  refine g_sld C hLaw dL_law_1747 hF (fun x7 hF => ?_)
  refine g_aload_n C 1 dL_law_1748 rfl ?_
  refine g_iload C 5 dL_law_1749 rfl ?_
  refine g_iconst (v := (3 : Int32)) C dL_law_1751 rfl ?_
  refine g_iadd C dL_law_1752 ?_
  refine g_sld C hLaw dL_law_1753 hF (fun x8 hF => ?_)
  obtain ⟨x9, S10, h, hF⟩ := gB_some hF
  obtain ⟨hi, h⟩ := gV_some h
  refine g_after (g_runV (n := 3) C dL_law_1754 rfl hi (mX6_rent C.2.2.2.2.2.2.2.2.2.2.2.1 a2 x6 x7 x8 S5 _ _ h) (lw_V q2510 q2511 q2512 q124 q2513) (by decide +kernel) ⟨by rw [hRf]; exact Nat.le_of_ble_eq_true rfl, by rw [hRl]; exact Nat.le_of_ble_eq_true rfl⟩ rfl rfl (gle gc_0 (by decide))) ?_
  refine g_istore C dL_law_1757 (by decide) rfl ?_
  refine g_aload_n C 4 dL_law_1759 rfl ?_
  obtain ⟨x11, h, hF⟩ := oB hF
  obtain ⟨hi, h⟩ := gV_some h
  refine g_after (g_runV (n := 0) C dL_law_1760 rfl hi (mX6_thrown C.2.2.2.2.2.2.2.2.2.2.2.1 a2 S10 _ h) (lw_V q2168 q2169 q2170 q124 q2171) (by decide +kernel) ⟨by rw [hRf]; exact Nat.le_of_ble_eq_true rfl, by rw [hRl]; exact Nat.le_of_ble_eq_true rfl⟩ rfl rfl (gle gc_0 (by decide))) ?_
  refine g_iload C 1 dL_law_1763 rfl ?_
  refine g_icmp_eq C 1770 dL_law_1765 rfl hF (fun c hF => ?_) (fun c hF => ?_)
  · refine g_iload C 1 dL_law_1770 rfl ?_
    refine g_if_ne C 1787 dL_law_1772 rfl hF (fun c hF => ?_) (fun c hF => ?_)
    · refine g_goto C 2606 dL_law_1787 rfl ?_
      refine g_iinc (v := (9 : Int32)) C 6 dL_law_2606 rfl rfl (by decide) (gcons rfl (gfk rfl rfl (gfk rfl rfl (gfk rfl rfl (gfk rfl rfl (gfk rfl rfl (gfr rfl (gfd rfl gf0)))))))) ?_
      refine g_goto C 23 dL_law_2609 rfl ?_
      exact g_sub [3, 4, 5, 6, 0] rfl (hk23 a1 a2 a3 (a4 + (9 : Int32)) S10 hF)
    · refine g_aload_n C 5 dL_law_1775 rfl ?_
      refine g_iconst (v := (0 : Int32)) C dL_law_1776 rfl ?_
      refine g_lald C dL_law_1777 hF (fun x12 hF => ?_)
      refine g_iload C 0 dL_law_1778 rfl ?_
      refine g_i2l C dL_law_1780 ?_
      refine g_lcmp C dL_law_1781 ?_
      refine g_if_eq C 1787 dL_law_1782 rfl hF (fun c hF => ?_) (fun c hF => ?_)
      · refine g_goto C 2606 dL_law_1787 rfl ?_
        refine g_iinc (v := (9 : Int32)) C 6 dL_law_2606 rfl rfl (by decide) (gcons rfl (gfk rfl rfl (gfk rfl rfl (gfk rfl rfl (gfk rfl rfl (gfk rfl rfl (gfr rfl (gfd rfl gf0)))))))) ?_
        refine g_goto C 23 dL_law_2609 rfl ?_
        exact g_sub [3, 4, 5, 6, 0] rfl (hk23 a1 a2 a3 (a4 + (9 : Int32)) S10 hF)
      · refine g_iconst (v := (0 : Int32)) C dL_law_1785 rfl ?_
        exact g_law0 hF
  · refine g_iconst (v := (0 : Int32)) C dL_law_1768 rfl ?_
    exact g_law0 hF
theorem wfL_law_j1790 {S1 : gS} {hh : List (Nat × Nat × Nat × Nat)} {nm : String} (C : gCx p l R s m args meth c D K RX0 cL_law 8 (Option.some Jvm.ClassFile.FieldType.boolean) hh nm u0) {b L : Nat} {xs : Nat → Int32} (hLaw : gLaw R K s u0 args b L xs) (hRf : R.frames = 8192) (hRl : R.locals = 100000) (k23 : (Option Nat) → (Option Nat) → (Option Nat) → (Int32) → gS → Option (Int32 × gS)) (hk23 : ∀ (a1 : Option Nat) (a2 : Option Nat) (a3 : Option Nat) (a4 : Int32) (S : gS), k23 a1 a2 a3 a4 S = some ((1 : Int32), S1) → gW p l e R s m args below meth c D K 8 u0 (lw_Z below args s) S 23 [(0, va_rf (some b)), (1, va_rf a1), (2, va_rf a2), (3, va_rf a3), (4, .int a4)] []) : ∀ (a1 : Option Nat) (a2 : Option Nat) (a3 : Option Nat) (a4 : Int32) (S : gS), fL_law_j1790 L xs k23 a1 a2 a3 a4 S = some ((1 : Int32), S1) → gW p l e R s m args below meth c D K 8 u0 (lw_Z below args s) S 1790 [(0, va_rf ((some b))), (1, va_rf a1), (2, va_rf a2), (3, va_rf a3), (4, .int a4)] [] := by
  intro a1 a2 a3 a4 S hF
  unfold fL_law_j1790 at hF
  refine g_aload_n C 1 dL_law_1790 rfl ?_
  refine g_aload_n C 0 dL_law_1791 rfl ?_
  refine g_iload C 4 dL_law_1792 rfl ?_
  refine g_iconst (v := (1 : Int32)) C dL_law_1794 rfl ?_
  refine g_iadd C dL_law_1795 ?_
  refine g_sld C hLaw dL_law_1796 hF (fun x1 hF => ?_)
  refine g_aload_n C 3 dL_law_1797 rfl ?_
  obtain ⟨x2, S3, h, hF⟩ := gB_some hF
  refine g_after (g_runSX (n := 3) C dL_law_1798 (mX0_dearest C.2.2.2.2.2.2.2.2.2.2.2.1 a1 x1 a3 S _ _ h) (lw_SW q1905 q1906 q98 q1907) (by decide +kernel) ⟨by rw [hRf]; exact Nat.le_of_ble_eq_true rfl, by rw [hRl]; exact Nat.le_of_ble_eq_true rfl⟩ rfl rfl (gle gc_0 (by decide))) ?_
  refine g_istore C dL_law_1801 (by decide) rfl ?_
  refine g_aload_n C 3 dL_law_1803 rfl ?_
  refine g_aload_n C 1 dL_law_1804 rfl ?_
  refine g_iload C 5 dL_law_1805 rfl ?_
  refine g_iconst (v := (1 : Int32)) C dL_law_1807 rfl ?_
  refine g_iadd C dL_law_1808 ?_
  refine g_sld C hLaw dL_law_1809 hF (fun x4 hF => ?_)
  obtain ⟨x5, S6, h, hF⟩ := gB_some hF
  obtain ⟨hi, h⟩ := gV_some h
  refine g_after (g_runV (n := 1) C dL_law_1810 rfl hi (mX6_dearest C.2.2.2.2.2.2.2.2.2.2.2.1 a2 x4 S3 _ _ h) (lw_V q2518 q2519 q2520 q124 q2521) (by decide +kernel) ⟨by rw [hRf]; exact Nat.le_of_ble_eq_true rfl, by rw [hRl]; exact Nat.le_of_ble_eq_true rfl⟩ rfl rfl (gle gc_0 (by decide))) ?_
  refine g_istore C dL_law_1813 (by decide) rfl ?_
  refine g_aload_n C 4 dL_law_1815 rfl ?_
  obtain ⟨x7, h, hF⟩ := oB hF
  obtain ⟨hi, h⟩ := gV_some h
  refine g_after (g_runV (n := 0) C dL_law_1816 rfl hi (mX6_thrown C.2.2.2.2.2.2.2.2.2.2.2.1 a2 S6 _ h) (lw_V q2168 q2169 q2170 q124 q2171) (by decide +kernel) ⟨by rw [hRf]; exact Nat.le_of_ble_eq_true rfl, by rw [hRl]; exact Nat.le_of_ble_eq_true rfl⟩ rfl rfl (gle gc_0 (by decide))) ?_
  refine g_iload C 1 dL_law_1819 rfl ?_
  refine g_icmp_eq C 1826 dL_law_1821 rfl hF (fun c hF => ?_) (fun c hF => ?_)
  · refine g_iload C 1 dL_law_1826 rfl ?_
    refine g_if_ne C 1843 dL_law_1828 rfl hF (fun c hF => ?_) (fun c hF => ?_)
    · refine g_goto C 2606 dL_law_1843 rfl ?_
      refine g_iinc (v := (9 : Int32)) C 6 dL_law_2606 rfl rfl (by decide) (gcons rfl (gfk rfl rfl (gfk rfl rfl (gfk rfl rfl (gfk rfl rfl (gfk rfl rfl (gfr rfl (gfd rfl gf0)))))))) ?_
      refine g_goto C 23 dL_law_2609 rfl ?_
      exact g_sub [3, 4, 5, 6, 0] rfl (hk23 a1 a2 a3 (a4 + (9 : Int32)) S6 hF)
    · refine g_aload_n C 5 dL_law_1831 rfl ?_
      refine g_iconst (v := (0 : Int32)) C dL_law_1832 rfl ?_
      refine g_lald C dL_law_1833 hF (fun x8 hF => ?_)
      refine g_iload C 0 dL_law_1834 rfl ?_
      refine g_i2l C dL_law_1836 ?_
      refine g_lcmp C dL_law_1837 ?_
      refine g_if_eq C 1843 dL_law_1838 rfl hF (fun c hF => ?_) (fun c hF => ?_)
      · refine g_goto C 2606 dL_law_1843 rfl ?_
        refine g_iinc (v := (9 : Int32)) C 6 dL_law_2606 rfl rfl (by decide) (gcons rfl (gfk rfl rfl (gfk rfl rfl (gfk rfl rfl (gfk rfl rfl (gfk rfl rfl (gfr rfl (gfd rfl gf0)))))))) ?_
        refine g_goto C 23 dL_law_2609 rfl ?_
        exact g_sub [3, 4, 5, 6, 0] rfl (hk23 a1 a2 a3 (a4 + (9 : Int32)) S6 hF)
      · refine g_iconst (v := (0 : Int32)) C dL_law_1841 rfl ?_
        exact g_law0 hF
  · refine g_iconst (v := (0 : Int32)) C dL_law_1824 rfl ?_
    exact g_law0 hF
theorem wfL_law_j1846 {S1 : gS} {hh : List (Nat × Nat × Nat × Nat)} {nm : String} (C : gCx p l R s m args meth c D K RX0 cL_law 8 (Option.some Jvm.ClassFile.FieldType.boolean) hh nm u0) {b L : Nat} {xs : Nat → Int32} (hLaw : gLaw R K s u0 args b L xs) (hRf : R.frames = 8192) (hRl : R.locals = 100000) (k23 : (Option Nat) → (Option Nat) → (Option Nat) → (Int32) → gS → Option (Int32 × gS)) (hk23 : ∀ (a1 : Option Nat) (a2 : Option Nat) (a3 : Option Nat) (a4 : Int32) (S : gS), k23 a1 a2 a3 a4 S = some ((1 : Int32), S1) → gW p l e R s m args below meth c D K 8 u0 (lw_Z below args s) S 23 [(0, va_rf (some b)), (1, va_rf a1), (2, va_rf a2), (3, va_rf a3), (4, .int a4)] []) : ∀ (a1 : Option Nat) (a2 : Option Nat) (a3 : Option Nat) (a4 : Int32) (S : gS), fL_law_j1846 L xs k23 a1 a2 a3 a4 S = some ((1 : Int32), S1) → gW p l e R s m args below meth c D K 8 u0 (lw_Z below args s) S 1846 [(0, va_rf ((some b))), (1, va_rf a1), (2, va_rf a2), (3, va_rf a3), (4, .int a4)] [] := by
  intro a1 a2 a3 a4 S hF
  unfold fL_law_j1846 at hF
  refine g_aload_n C 1 dL_law_1846 rfl ?_
  refine g_aload_n C 0 dL_law_1847 rfl ?_
  refine g_iload C 4 dL_law_1848 rfl ?_
  refine g_iconst (v := (1 : Int32)) C dL_law_1850 rfl ?_
  refine g_iadd C dL_law_1851 ?_
  refine g_sld C hLaw dL_law_1852 hF (fun x1 hF => ?_)
  refine g_aload_n C 3 dL_law_1853 rfl ?_
  obtain ⟨x2, S3, h, hF⟩ := gB_some hF
  refine g_after (g_runSX (n := 3) C dL_law_1854 (mX0_voices C.2.2.2.2.2.2.2.2.2.2.2.1 a1 x1 a3 S _ _ h) (lw_SW q1912 q1913 q98 q1914) (by decide +kernel) ⟨by rw [hRf]; exact Nat.le_of_ble_eq_true rfl, by rw [hRl]; exact Nat.le_of_ble_eq_true rfl⟩ rfl rfl (gle gc_0 (by decide))) ?_
  refine g_istore C dL_law_1857 (by decide) rfl ?_
  refine g_aload_n C 3 dL_law_1859 rfl ?_
  refine g_aload_n C 1 dL_law_1860 rfl ?_
  refine g_iload C 5 dL_law_1861 rfl ?_
  refine g_iconst (v := (1 : Int32)) C dL_law_1863 rfl ?_
  refine g_iadd C dL_law_1864 ?_
  refine g_sld C hLaw dL_law_1865 hF (fun x4 hF => ?_)
  obtain ⟨x5, S6, h, hF⟩ := gB_some hF
  obtain ⟨hi, h⟩ := gV_some h
  refine g_after (g_runV (n := 1) C dL_law_1866 rfl hi (mX6_voices C.2.2.2.2.2.2.2.2.2.2.2.1 a2 x4 S3 _ _ h) (lw_V q2522 q2523 q2524 q124 q2525) (by decide +kernel) ⟨by rw [hRf]; exact Nat.le_of_ble_eq_true rfl, by rw [hRl]; exact Nat.le_of_ble_eq_true rfl⟩ rfl rfl (gle gc_0 (by decide))) ?_
  refine g_istore C dL_law_1869 (by decide) rfl ?_
  refine g_aload_n C 4 dL_law_1871 rfl ?_
  obtain ⟨x7, h, hF⟩ := oB hF
  obtain ⟨hi, h⟩ := gV_some h
  refine g_after (g_runV (n := 0) C dL_law_1872 rfl hi (mX6_thrown C.2.2.2.2.2.2.2.2.2.2.2.1 a2 S6 _ h) (lw_V q2168 q2169 q2170 q124 q2171) (by decide +kernel) ⟨by rw [hRf]; exact Nat.le_of_ble_eq_true rfl, by rw [hRl]; exact Nat.le_of_ble_eq_true rfl⟩ rfl rfl (gle gc_0 (by decide))) ?_
  refine g_iload C 1 dL_law_1875 rfl ?_
  refine g_icmp_eq C 1882 dL_law_1877 rfl hF (fun c hF => ?_) (fun c hF => ?_)
  · refine g_iload C 1 dL_law_1882 rfl ?_
    refine g_if_ne C 1899 dL_law_1884 rfl hF (fun c hF => ?_) (fun c hF => ?_)
    · refine g_goto C 2606 dL_law_1899 rfl ?_
      refine g_iinc (v := (9 : Int32)) C 6 dL_law_2606 rfl rfl (by decide) (gcons rfl (gfk rfl rfl (gfk rfl rfl (gfk rfl rfl (gfk rfl rfl (gfk rfl rfl (gfr rfl (gfd rfl gf0)))))))) ?_
      refine g_goto C 23 dL_law_2609 rfl ?_
      exact g_sub [3, 4, 5, 6, 0] rfl (hk23 a1 a2 a3 (a4 + (9 : Int32)) S6 hF)
    · refine g_aload_n C 5 dL_law_1887 rfl ?_
      refine g_iconst (v := (0 : Int32)) C dL_law_1888 rfl ?_
      refine g_lald C dL_law_1889 hF (fun x8 hF => ?_)
      refine g_iload C 0 dL_law_1890 rfl ?_
      refine g_i2l C dL_law_1892 ?_
      refine g_lcmp C dL_law_1893 ?_
      refine g_if_eq C 1899 dL_law_1894 rfl hF (fun c hF => ?_) (fun c hF => ?_)
      · refine g_goto C 2606 dL_law_1899 rfl ?_
        refine g_iinc (v := (9 : Int32)) C 6 dL_law_2606 rfl rfl (by decide) (gcons rfl (gfk rfl rfl (gfk rfl rfl (gfk rfl rfl (gfk rfl rfl (gfk rfl rfl (gfr rfl (gfd rfl gf0)))))))) ?_
        refine g_goto C 23 dL_law_2609 rfl ?_
        exact g_sub [3, 4, 5, 6, 0] rfl (hk23 a1 a2 a3 (a4 + (9 : Int32)) S6 hF)
      · refine g_iconst (v := (0 : Int32)) C dL_law_1897 rfl ?_
        exact g_law0 hF
  · refine g_iconst (v := (0 : Int32)) C dL_law_1880 rfl ?_
    exact g_law0 hF
theorem wfL_law_j1902 {S1 : gS} {hh : List (Nat × Nat × Nat × Nat)} {nm : String} (C : gCx p l R s m args meth c D K RX0 cL_law 8 (Option.some Jvm.ClassFile.FieldType.boolean) hh nm u0) {b L : Nat} {xs : Nat → Int32} (hLaw : gLaw R K s u0 args b L xs) (hRf : R.frames = 8192) (hRl : R.locals = 100000) (k23 : (Option Nat) → (Option Nat) → (Option Nat) → (Int32) → gS → Option (Int32 × gS)) (hk23 : ∀ (a1 : Option Nat) (a2 : Option Nat) (a3 : Option Nat) (a4 : Int32) (S : gS), k23 a1 a2 a3 a4 S = some ((1 : Int32), S1) → gW p l e R s m args below meth c D K 8 u0 (lw_Z below args s) S 23 [(0, va_rf (some b)), (1, va_rf a1), (2, va_rf a2), (3, va_rf a3), (4, .int a4)] []) : ∀ (a1 : Option Nat) (a2 : Option Nat) (a3 : Option Nat) (a4 : Int32) (S : gS), fL_law_j1902 L xs k23 a1 a2 a3 a4 S = some ((1 : Int32), S1) → gW p l e R s m args below meth c D K 8 u0 (lw_Z below args s) S 1902 [(0, va_rf ((some b))), (1, va_rf a1), (2, va_rf a2), (3, va_rf a3), (4, .int a4)] [] := by
  intro a1 a2 a3 a4 S hF
  unfold fL_law_j1902 at hF
  refine g_aload_n C 1 dL_law_1902 rfl ?_
  refine g_aload_n C 0 dL_law_1903 rfl ?_
  refine g_iload C 4 dL_law_1904 rfl ?_
  refine g_iconst (v := (1 : Int32)) C dL_law_1906 rfl ?_
  refine g_iadd C dL_law_1907 ?_
  refine g_sld C hLaw dL_law_1908 hF (fun x1 hF => ?_)
  refine g_aload_n C 3 dL_law_1909 rfl ?_
  obtain ⟨x2, S3, h, hF⟩ := gB_some hF
  refine g_after (g_runSX (n := 3) C dL_law_1910 (mX0_sounds C.2.2.2.2.2.2.2.2.2.2.2.1 a1 x1 a3 S _ _ h) (lw_SW q1919 q1920 q98 q1921) (by decide +kernel) ⟨by rw [hRf]; exact Nat.le_of_ble_eq_true rfl, by rw [hRl]; exact Nat.le_of_ble_eq_true rfl⟩ rfl rfl (gle gc_0 (by decide))) ?_
  refine g_istore C dL_law_1913 (by decide) rfl ?_
  refine g_aload_n C 3 dL_law_1915 rfl ?_
  refine g_aload_n C 1 dL_law_1916 rfl ?_
  refine g_iload C 5 dL_law_1917 rfl ?_
  refine g_iconst (v := (1 : Int32)) C dL_law_1919 rfl ?_
  refine g_iadd C dL_law_1920 ?_
  refine g_sld C hLaw dL_law_1921 hF (fun x4 hF => ?_)
  obtain ⟨x5, S6, h, hF⟩ := gB_some hF
  obtain ⟨hi, h⟩ := gV_some h
  refine g_after (g_runV (n := 1) C dL_law_1922 rfl hi (mX6_sounds C.2.2.2.2.2.2.2.2.2.2.2.1 a2 x4 S3 _ _ h) (lw_V q2526 q2527 q2528 q124 q2529) (by decide +kernel) ⟨by rw [hRf]; exact Nat.le_of_ble_eq_true rfl, by rw [hRl]; exact Nat.le_of_ble_eq_true rfl⟩ rfl rfl (gle gc_0 (by decide))) ?_
  refine g_istore C dL_law_1925 (by decide) rfl ?_
  refine g_aload_n C 4 dL_law_1927 rfl ?_
  obtain ⟨x7, h, hF⟩ := oB hF
  obtain ⟨hi, h⟩ := gV_some h
  refine g_after (g_runV (n := 0) C dL_law_1928 rfl hi (mX6_thrown C.2.2.2.2.2.2.2.2.2.2.2.1 a2 S6 _ h) (lw_V q2168 q2169 q2170 q124 q2171) (by decide +kernel) ⟨by rw [hRf]; exact Nat.le_of_ble_eq_true rfl, by rw [hRl]; exact Nat.le_of_ble_eq_true rfl⟩ rfl rfl (gle gc_0 (by decide))) ?_
  refine g_iload C 1 dL_law_1931 rfl ?_
  refine g_icmp_eq C 1938 dL_law_1933 rfl hF (fun c hF => ?_) (fun c hF => ?_)
  · refine g_iload C 1 dL_law_1938 rfl ?_
    refine g_if_ne C 1955 dL_law_1940 rfl hF (fun c hF => ?_) (fun c hF => ?_)
    · refine g_goto C 2606 dL_law_1955 rfl ?_
      refine g_iinc (v := (9 : Int32)) C 6 dL_law_2606 rfl rfl (by decide) (gcons rfl (gfk rfl rfl (gfk rfl rfl (gfk rfl rfl (gfk rfl rfl (gfk rfl rfl (gfr rfl (gfd rfl gf0)))))))) ?_
      refine g_goto C 23 dL_law_2609 rfl ?_
      exact g_sub [3, 4, 5, 6, 0] rfl (hk23 a1 a2 a3 (a4 + (9 : Int32)) S6 hF)
    · refine g_aload_n C 5 dL_law_1943 rfl ?_
      refine g_iconst (v := (0 : Int32)) C dL_law_1944 rfl ?_
      refine g_lald C dL_law_1945 hF (fun x8 hF => ?_)
      refine g_iload C 0 dL_law_1946 rfl ?_
      refine g_i2l C dL_law_1948 ?_
      refine g_lcmp C dL_law_1949 ?_
      refine g_if_eq C 1955 dL_law_1950 rfl hF (fun c hF => ?_) (fun c hF => ?_)
      · refine g_goto C 2606 dL_law_1955 rfl ?_
        refine g_iinc (v := (9 : Int32)) C 6 dL_law_2606 rfl rfl (by decide) (gcons rfl (gfk rfl rfl (gfk rfl rfl (gfk rfl rfl (gfk rfl rfl (gfk rfl rfl (gfr rfl (gfd rfl gf0)))))))) ?_
        refine g_goto C 23 dL_law_2609 rfl ?_
        exact g_sub [3, 4, 5, 6, 0] rfl (hk23 a1 a2 a3 (a4 + (9 : Int32)) S6 hF)
      · refine g_iconst (v := (0 : Int32)) C dL_law_1953 rfl ?_
        exact g_law0 hF
  · refine g_iconst (v := (0 : Int32)) C dL_law_1936 rfl ?_
    exact g_law0 hF
theorem wfL_law_j1958 {S1 : gS} {hh : List (Nat × Nat × Nat × Nat)} {nm : String} (C : gCx p l R s m args meth c D K RX0 cL_law 8 (Option.some Jvm.ClassFile.FieldType.boolean) hh nm u0) {b L : Nat} {xs : Nat → Int32} (hLaw : gLaw R K s u0 args b L xs) (hRf : R.frames = 8192) (hRl : R.locals = 100000) (k23 : (Option Nat) → (Option Nat) → (Option Nat) → (Int32) → gS → Option (Int32 × gS)) (hk23 : ∀ (a1 : Option Nat) (a2 : Option Nat) (a3 : Option Nat) (a4 : Int32) (S : gS), k23 a1 a2 a3 a4 S = some ((1 : Int32), S1) → gW p l e R s m args below meth c D K 8 u0 (lw_Z below args s) S 23 [(0, va_rf (some b)), (1, va_rf a1), (2, va_rf a2), (3, va_rf a3), (4, .int a4)] []) : ∀ (a1 : Option Nat) (a2 : Option Nat) (a3 : Option Nat) (a4 : Int32) (S : gS), fL_law_j1958 L xs k23 a1 a2 a3 a4 S = some ((1 : Int32), S1) → gW p l e R s m args below meth c D K 8 u0 (lw_Z below args s) S 1958 [(0, va_rf ((some b))), (1, va_rf a1), (2, va_rf a2), (3, va_rf a3), (4, .int a4)] [] := by
  intro a1 a2 a3 a4 S hF
  unfold fL_law_j1958 at hF
  refine g_aload_n C 1 dL_law_1958 rfl ?_
  refine g_aload_n C 0 dL_law_1959 rfl ?_
  refine g_iload C 4 dL_law_1960 rfl ?_
  refine g_iconst (v := (1 : Int32)) C dL_law_1962 rfl ?_
  refine g_iadd C dL_law_1963 ?_
  refine g_sld C hLaw dL_law_1964 hF (fun x1 hF => ?_)
  refine g_aload_n C 3 dL_law_1965 rfl ?_
  obtain ⟨x2, S3, h, hF⟩ := gB_some hF
  refine g_after (g_runSX (n := 3) C dL_law_1966 (mX0_beats C.2.2.2.2.2.2.2.2.2.2.2.1 a1 x1 a3 S _ _ h) (lw_SW q1930 q1931 q98 q1932) (by decide +kernel) ⟨by rw [hRf]; exact Nat.le_of_ble_eq_true rfl, by rw [hRl]; exact Nat.le_of_ble_eq_true rfl⟩ rfl rfl (gle gc_0 (by decide))) ?_
  refine g_istore C dL_law_1969 (by decide) rfl ?_
  refine g_aload_n C 3 dL_law_1971 rfl ?_
  refine g_aload_n C 1 dL_law_1972 rfl ?_
  refine g_iload C 5 dL_law_1973 rfl ?_
  refine g_iconst (v := (1 : Int32)) C dL_law_1975 rfl ?_
  refine g_iadd C dL_law_1976 ?_
  refine g_sld C hLaw dL_law_1977 hF (fun x4 hF => ?_)
  obtain ⟨x5, S6, h, hF⟩ := gB_some hF
  obtain ⟨hi, h⟩ := gV_some h
  refine g_after (g_runV (n := 1) C dL_law_1978 rfl hi (mX6_beats C.2.2.2.2.2.2.2.2.2.2.2.1 a2 x4 S3 _ _ h) (lw_V q2530 q2531 q2532 q124 q2533) (by decide +kernel) ⟨by rw [hRf]; exact Nat.le_of_ble_eq_true rfl, by rw [hRl]; exact Nat.le_of_ble_eq_true rfl⟩ rfl rfl (gle gc_0 (by decide))) ?_
  refine g_istore C dL_law_1981 (by decide) rfl ?_
  refine g_aload_n C 4 dL_law_1983 rfl ?_
  obtain ⟨x7, h, hF⟩ := oB hF
  obtain ⟨hi, h⟩ := gV_some h
  refine g_after (g_runV (n := 0) C dL_law_1984 rfl hi (mX6_thrown C.2.2.2.2.2.2.2.2.2.2.2.1 a2 S6 _ h) (lw_V q2168 q2169 q2170 q124 q2171) (by decide +kernel) ⟨by rw [hRf]; exact Nat.le_of_ble_eq_true rfl, by rw [hRl]; exact Nat.le_of_ble_eq_true rfl⟩ rfl rfl (gle gc_0 (by decide))) ?_
  refine g_iload C 1 dL_law_1987 rfl ?_
  refine g_icmp_eq C 1994 dL_law_1989 rfl hF (fun c hF => ?_) (fun c hF => ?_)
  · refine g_iload C 1 dL_law_1994 rfl ?_
    refine g_if_ne C 2011 dL_law_1996 rfl hF (fun c hF => ?_) (fun c hF => ?_)
    · refine g_goto C 2606 dL_law_2011 rfl ?_
      refine g_iinc (v := (9 : Int32)) C 6 dL_law_2606 rfl rfl (by decide) (gcons rfl (gfk rfl rfl (gfk rfl rfl (gfk rfl rfl (gfk rfl rfl (gfk rfl rfl (gfr rfl (gfd rfl gf0)))))))) ?_
      refine g_goto C 23 dL_law_2609 rfl ?_
      exact g_sub [3, 4, 5, 6, 0] rfl (hk23 a1 a2 a3 (a4 + (9 : Int32)) S6 hF)
    · refine g_aload_n C 5 dL_law_1999 rfl ?_
      refine g_iconst (v := (0 : Int32)) C dL_law_2000 rfl ?_
      refine g_lald C dL_law_2001 hF (fun x8 hF => ?_)
      refine g_iload C 0 dL_law_2002 rfl ?_
      refine g_i2l C dL_law_2004 ?_
      refine g_lcmp C dL_law_2005 ?_
      refine g_if_eq C 2011 dL_law_2006 rfl hF (fun c hF => ?_) (fun c hF => ?_)
      · refine g_goto C 2606 dL_law_2011 rfl ?_
        refine g_iinc (v := (9 : Int32)) C 6 dL_law_2606 rfl rfl (by decide) (gcons rfl (gfk rfl rfl (gfk rfl rfl (gfk rfl rfl (gfk rfl rfl (gfk rfl rfl (gfr rfl (gfd rfl gf0)))))))) ?_
        refine g_goto C 23 dL_law_2609 rfl ?_
        exact g_sub [3, 4, 5, 6, 0] rfl (hk23 a1 a2 a3 (a4 + (9 : Int32)) S6 hF)
      · refine g_iconst (v := (0 : Int32)) C dL_law_2009 rfl ?_
        exact g_law0 hF
  · refine g_iconst (v := (0 : Int32)) C dL_law_1992 rfl ?_
    exact g_law0 hF
theorem wfL_law_j2014 {S1 : gS} {hh : List (Nat × Nat × Nat × Nat)} {nm : String} (C : gCx p l R s m args meth c D K RX0 cL_law 8 (Option.some Jvm.ClassFile.FieldType.boolean) hh nm u0) {b L : Nat} {xs : Nat → Int32} (hLaw : gLaw R K s u0 args b L xs) (hRf : R.frames = 8192) (hRl : R.locals = 100000) (k23 : (Option Nat) → (Option Nat) → (Option Nat) → (Int32) → gS → Option (Int32 × gS)) (hk23 : ∀ (a1 : Option Nat) (a2 : Option Nat) (a3 : Option Nat) (a4 : Int32) (S : gS), k23 a1 a2 a3 a4 S = some ((1 : Int32), S1) → gW p l e R s m args below meth c D K 8 u0 (lw_Z below args s) S 23 [(0, va_rf (some b)), (1, va_rf a1), (2, va_rf a2), (3, va_rf a3), (4, .int a4)] []) : ∀ (a1 : Option Nat) (a2 : Option Nat) (a3 : Option Nat) (a4 : Int32) (S : gS), fL_law_j2014 L xs k23 a1 a2 a3 a4 S = some ((1 : Int32), S1) → gW p l e R s m args below meth c D K 8 u0 (lw_Z below args s) S 2014 [(0, va_rf ((some b))), (1, va_rf a1), (2, va_rf a2), (3, va_rf a3), (4, .int a4)] [] := by
  intro a1 a2 a3 a4 S hF
  unfold fL_law_j2014 at hF
  refine g_aload_n C 1 dL_law_2014 rfl ?_
  refine g_aload_n C 0 dL_law_2015 rfl ?_
  refine g_iload C 4 dL_law_2016 rfl ?_
  refine g_iconst (v := (1 : Int32)) C dL_law_2018 rfl ?_
  refine g_iadd C dL_law_2019 ?_
  refine g_sld C hLaw dL_law_2020 hF (fun x1 hF => ?_)
  refine g_aload_n C 3 dL_law_2021 rfl ?_
  obtain ⟨x2, S3, h, hF⟩ := gB_some hF
  refine g_after (g_runSX (n := 3) C dL_law_2022 (mX0_words C.2.2.2.2.2.2.2.2.2.2.2.1 a1 x1 a3 S _ _ h) (lw_SW q1937 q1938 q98 q1939) (by decide +kernel) ⟨by rw [hRf]; exact Nat.le_of_ble_eq_true rfl, by rw [hRl]; exact Nat.le_of_ble_eq_true rfl⟩ rfl rfl (gle gc_0 (by decide))) ?_
  refine g_istore C dL_law_2025 (by decide) rfl ?_
  refine g_aload_n C 3 dL_law_2027 rfl ?_
  refine g_aload_n C 1 dL_law_2028 rfl ?_
  refine g_iload C 5 dL_law_2029 rfl ?_
  refine g_iconst (v := (1 : Int32)) C dL_law_2031 rfl ?_
  refine g_iadd C dL_law_2032 ?_
  refine g_sld C hLaw dL_law_2033 hF (fun x4 hF => ?_)
  obtain ⟨x5, S6, h, hF⟩ := gB_some hF
  obtain ⟨hi, h⟩ := gV_some h
  refine g_after (g_runV (n := 1) C dL_law_2034 rfl hi (mX6_words C.2.2.2.2.2.2.2.2.2.2.2.1 a2 x4 S3 _ _ h) (lw_V q2534 q2535 q2536 q124 q2537) (by decide +kernel) ⟨by rw [hRf]; exact Nat.le_of_ble_eq_true rfl, by rw [hRl]; exact Nat.le_of_ble_eq_true rfl⟩ rfl rfl (gle gc_0 (by decide))) ?_
  refine g_istore C dL_law_2037 (by decide) rfl ?_
  refine g_aload_n C 4 dL_law_2039 rfl ?_
  obtain ⟨x7, h, hF⟩ := oB hF
  obtain ⟨hi, h⟩ := gV_some h
  refine g_after (g_runV (n := 0) C dL_law_2040 rfl hi (mX6_thrown C.2.2.2.2.2.2.2.2.2.2.2.1 a2 S6 _ h) (lw_V q2168 q2169 q2170 q124 q2171) (by decide +kernel) ⟨by rw [hRf]; exact Nat.le_of_ble_eq_true rfl, by rw [hRl]; exact Nat.le_of_ble_eq_true rfl⟩ rfl rfl (gle gc_0 (by decide))) ?_
  refine g_iload C 1 dL_law_2043 rfl ?_
  refine g_icmp_eq C 2050 dL_law_2045 rfl hF (fun c hF => ?_) (fun c hF => ?_)
  · refine g_iload C 1 dL_law_2050 rfl ?_
    refine g_if_ne C 2067 dL_law_2052 rfl hF (fun c hF => ?_) (fun c hF => ?_)
    · refine g_goto C 2606 dL_law_2067 rfl ?_
      refine g_iinc (v := (9 : Int32)) C 6 dL_law_2606 rfl rfl (by decide) (gcons rfl (gfk rfl rfl (gfk rfl rfl (gfk rfl rfl (gfk rfl rfl (gfk rfl rfl (gfr rfl (gfd rfl gf0)))))))) ?_
      refine g_goto C 23 dL_law_2609 rfl ?_
      exact g_sub [3, 4, 5, 6, 0] rfl (hk23 a1 a2 a3 (a4 + (9 : Int32)) S6 hF)
    · refine g_aload_n C 5 dL_law_2055 rfl ?_
      refine g_iconst (v := (0 : Int32)) C dL_law_2056 rfl ?_
      refine g_lald C dL_law_2057 hF (fun x8 hF => ?_)
      refine g_iload C 0 dL_law_2058 rfl ?_
      refine g_i2l C dL_law_2060 ?_
      refine g_lcmp C dL_law_2061 ?_
      refine g_if_eq C 2067 dL_law_2062 rfl hF (fun c hF => ?_) (fun c hF => ?_)
      · refine g_goto C 2606 dL_law_2067 rfl ?_
        refine g_iinc (v := (9 : Int32)) C 6 dL_law_2606 rfl rfl (by decide) (gcons rfl (gfk rfl rfl (gfk rfl rfl (gfk rfl rfl (gfk rfl rfl (gfk rfl rfl (gfr rfl (gfd rfl gf0)))))))) ?_
        refine g_goto C 23 dL_law_2609 rfl ?_
        exact g_sub [3, 4, 5, 6, 0] rfl (hk23 a1 a2 a3 (a4 + (9 : Int32)) S6 hF)
      · refine g_iconst (v := (0 : Int32)) C dL_law_2065 rfl ?_
        exact g_law0 hF
  · refine g_iconst (v := (0 : Int32)) C dL_law_2048 rfl ?_
    exact g_law0 hF
theorem wfL_law_j2070 {S1 : gS} {hh : List (Nat × Nat × Nat × Nat)} {nm : String} (C : gCx p l R s m args meth c D K RX0 cL_law 8 (Option.some Jvm.ClassFile.FieldType.boolean) hh nm u0) {b L : Nat} {xs : Nat → Int32} (hLaw : gLaw R K s u0 args b L xs) (hRf : R.frames = 8192) (hRl : R.locals = 100000) (k23 : (Option Nat) → (Option Nat) → (Option Nat) → (Int32) → gS → Option (Int32 × gS)) (hk23 : ∀ (a1 : Option Nat) (a2 : Option Nat) (a3 : Option Nat) (a4 : Int32) (S : gS), k23 a1 a2 a3 a4 S = some ((1 : Int32), S1) → gW p l e R s m args below meth c D K 8 u0 (lw_Z below args s) S 23 [(0, va_rf (some b)), (1, va_rf a1), (2, va_rf a2), (3, va_rf a3), (4, .int a4)] []) : ∀ (a1 : Option Nat) (a2 : Option Nat) (a3 : Option Nat) (a4 : Int32) (S : gS), fL_law_j2070 L xs k23 a1 a2 a3 a4 S = some ((1 : Int32), S1) → gW p l e R s m args below meth c D K 8 u0 (lw_Z below args s) S 2070 [(0, va_rf ((some b))), (1, va_rf a1), (2, va_rf a2), (3, va_rf a3), (4, .int a4)] [] := by
  intro a1 a2 a3 a4 S hF
  unfold fL_law_j2070 at hF
  refine g_aload_n C 1 dL_law_2070 rfl ?_
  obtain ⟨x1, S2, h, hF⟩ := gB_some hF
  obtain ⟨hi, h⟩ := gV_some h
  refine g_after (g_runV (n := 0) C dL_law_2071 rfl hi (mX1_mute C.2.2.2.2.2.2.2.2.2.2.2.1 a1 S _ _ h) (lw_V q745 q746 q747 q99 q748) (by decide +kernel) ⟨by rw [hRf]; exact Nat.le_of_ble_eq_true rfl, by rw [hRl]; exact Nat.le_of_ble_eq_true rfl⟩ rfl rfl (gle gc_0 (by decide))) ?_
  refine g_aload_n C 2 dL_law_2074 rfl ?_
  obtain ⟨x3, S4, h, hF⟩ := gB_some hF
  obtain ⟨hi, h⟩ := gV_some h
  refine g_after (g_runV (n := 0) C dL_law_2075 rfl hi (mX6_mute C.2.2.2.2.2.2.2.2.2.2.2.1 a2 S2 _ _ h) (lw_V q2538 q2539 q2540 q124 q2541) (by decide +kernel) ⟨by rw [hRf]; exact Nat.le_of_ble_eq_true rfl, by rw [hRl]; exact Nat.le_of_ble_eq_true rfl⟩ rfl rfl (gle (gc_i gc_0) (by decide))) ?_
  refine g_icmp_eq C 2606 dL_law_2078 rfl hF (fun c hF => ?_) (fun c hF => ?_)
  · refine g_iinc (v := (9 : Int32)) C 4 dL_law_2606 rfl rfl (by decide) (gcons rfl (gfk rfl rfl (gfk rfl rfl (gfk rfl rfl (gfr rfl (gfd rfl gf0)))))) ?_
    refine g_goto C 23 dL_law_2609 rfl ?_
    exact g_sub [1, 2, 3, 4, 0] rfl (hk23 a1 a2 a3 (a4 + (9 : Int32)) S4 hF)
  · refine g_iconst (v := (0 : Int32)) C dL_law_2081 rfl ?_
    exact g_law0 hF
theorem wfL_law_j2083 {S1 : gS} {hh : List (Nat × Nat × Nat × Nat)} {nm : String} (C : gCx p l R s m args meth c D K RX0 cL_law 8 (Option.some Jvm.ClassFile.FieldType.boolean) hh nm u0) {b L : Nat} {xs : Nat → Int32} (hLaw : gLaw R K s u0 args b L xs) (hRf : R.frames = 8192) (hRl : R.locals = 100000) (k23 : (Option Nat) → (Option Nat) → (Option Nat) → (Int32) → gS → Option (Int32 × gS)) (hk23 : ∀ (a1 : Option Nat) (a2 : Option Nat) (a3 : Option Nat) (a4 : Int32) (S : gS), k23 a1 a2 a3 a4 S = some ((1 : Int32), S1) → gW p l e R s m args below meth c D K 8 u0 (lw_Z below args s) S 23 [(0, va_rf (some b)), (1, va_rf a1), (2, va_rf a2), (3, va_rf a3), (4, .int a4)] []) : ∀ (a1 : Option Nat) (a2 : Option Nat) (a3 : Option Nat) (a4 : Int32) (S : gS), fL_law_j2083 L xs k23 a1 a2 a3 a4 S = some ((1 : Int32), S1) → gW p l e R s m args below meth c D K 8 u0 (lw_Z below args s) S 2083 [(0, va_rf ((some b))), (1, va_rf a1), (2, va_rf a2), (3, va_rf a3), (4, .int a4)] [] := by
  intro a1 a2 a3 a4 S hF
  unfold fL_law_j2083 at hF
  refine g_aload_n C 1 dL_law_2083 rfl ?_
  obtain ⟨x1, S2, h, hF⟩ := gB_some hF
  obtain ⟨hi, h⟩ := gV_some h
  refine g_after (g_runV (n := 0) C dL_law_2084 rfl hi (mX1_idle C.2.2.2.2.2.2.2.2.2.2.2.1 a1 S _ _ h) (lw_V q816 q817 q818 q99 q819) (by decide +kernel) ⟨by rw [hRf]; exact Nat.le_of_ble_eq_true rfl, by rw [hRl]; exact Nat.le_of_ble_eq_true rfl⟩ rfl rfl (gle gc_0 (by decide))) ?_
  refine g_aload_n C 2 dL_law_2087 rfl ?_
  obtain ⟨x3, S4, h, hF⟩ := gB_some hF
  obtain ⟨hi, h⟩ := gV_some h
  refine g_after (g_runV (n := 0) C dL_law_2088 rfl hi (mX6_idle C.2.2.2.2.2.2.2.2.2.2.2.1 a2 S2 _ _ h) (lw_V q2542 q2543 q2544 q124 q2545) (by decide +kernel) ⟨by rw [hRf]; exact Nat.le_of_ble_eq_true rfl, by rw [hRl]; exact Nat.le_of_ble_eq_true rfl⟩ rfl rfl (gle (gc_i gc_0) (by decide))) ?_
  refine g_icmp_eq C 2606 dL_law_2091 rfl hF (fun c hF => ?_) (fun c hF => ?_)
  · refine g_iinc (v := (9 : Int32)) C 4 dL_law_2606 rfl rfl (by decide) (gcons rfl (gfk rfl rfl (gfk rfl rfl (gfk rfl rfl (gfr rfl (gfd rfl gf0)))))) ?_
    refine g_goto C 23 dL_law_2609 rfl ?_
    exact g_sub [1, 2, 3, 4, 0] rfl (hk23 a1 a2 a3 (a4 + (9 : Int32)) S4 hF)
  · refine g_iconst (v := (0 : Int32)) C dL_law_2094 rfl ?_
    exact g_law0 hF
theorem wfL_law_j2096 {S1 : gS} {hh : List (Nat × Nat × Nat × Nat)} {nm : String} (C : gCx p l R s m args meth c D K RX0 cL_law 8 (Option.some Jvm.ClassFile.FieldType.boolean) hh nm u0) {b L : Nat} {xs : Nat → Int32} (hLaw : gLaw R K s u0 args b L xs) (hRf : R.frames = 8192) (hRl : R.locals = 100000) (k23 : (Option Nat) → (Option Nat) → (Option Nat) → (Int32) → gS → Option (Int32 × gS)) (hk23 : ∀ (a1 : Option Nat) (a2 : Option Nat) (a3 : Option Nat) (a4 : Int32) (S : gS), k23 a1 a2 a3 a4 S = some ((1 : Int32), S1) → gW p l e R s m args below meth c D K 8 u0 (lw_Z below args s) S 23 [(0, va_rf (some b)), (1, va_rf a1), (2, va_rf a2), (3, va_rf a3), (4, .int a4)] []) : ∀ (a1 : Option Nat) (a2 : Option Nat) (a3 : Option Nat) (a4 : Int32) (S : gS), fL_law_j2096 L xs k23 a1 a2 a3 a4 S = some ((1 : Int32), S1) → gW p l e R s m args below meth c D K 8 u0 (lw_Z below args s) S 2096 [(0, va_rf ((some b))), (1, va_rf a1), (2, va_rf a2), (3, va_rf a3), (4, .int a4)] [] := by
  intro a1 a2 a3 a4 S hF
  unfold fL_law_j2096 at hF
  refine g_aload_n C 1 dL_law_2096 rfl ?_
  refine g_aload_n C 0 dL_law_2097 rfl ?_
  refine g_iload C 4 dL_law_2098 rfl ?_
  refine g_iconst (v := (1 : Int32)) C dL_law_2100 rfl ?_
  refine g_iadd C dL_law_2101 ?_
  refine g_sld C hLaw dL_law_2102 hF (fun x1 hF => ?_)
  refine g_aload_n C 3 dL_law_2103 rfl ?_
  obtain ⟨x2, S3, h, hF⟩ := gB_some hF
  refine g_after (g_runSX (n := 3) C dL_law_2104 (mX0_alone C.2.2.2.2.2.2.2.2.2.2.2.1 a1 x1 a3 S _ _ h) (lw_SW q1944 q1945 q98 q1946) (by decide +kernel) ⟨by rw [hRf]; exact Nat.le_of_ble_eq_true rfl, by rw [hRl]; exact Nat.le_of_ble_eq_true rfl⟩ rfl rfl (gle gc_0 (by decide))) ?_
  refine g_istore C dL_law_2107 (by decide) rfl ?_
  refine g_aload_n C 3 dL_law_2109 rfl ?_
  refine g_aload_n C 1 dL_law_2110 rfl ?_
  refine g_iload C 5 dL_law_2111 rfl ?_
  refine g_iconst (v := (1 : Int32)) C dL_law_2113 rfl ?_
  refine g_iadd C dL_law_2114 ?_
  refine g_sld C hLaw dL_law_2115 hF (fun x4 hF => ?_)
  obtain ⟨x5, S6, h, hF⟩ := gB_some hF
  obtain ⟨hi, h⟩ := gV_some h
  refine g_after (g_runV (n := 1) C dL_law_2116 rfl hi (mX6_alone C.2.2.2.2.2.2.2.2.2.2.2.1 a2 x4 S3 _ _ h) (lw_V q2546 q2547 q2548 q124 q2549) (by decide +kernel) ⟨by rw [hRf]; exact Nat.le_of_ble_eq_true rfl, by rw [hRl]; exact Nat.le_of_ble_eq_true rfl⟩ rfl rfl (gle gc_0 (by decide))) ?_
  refine g_istore C dL_law_2119 (by decide) rfl ?_
  refine g_aload_n C 4 dL_law_2121 rfl ?_
  obtain ⟨x7, h, hF⟩ := oB hF
  obtain ⟨hi, h⟩ := gV_some h
  refine g_after (g_runV (n := 0) C dL_law_2122 rfl hi (mX6_thrown C.2.2.2.2.2.2.2.2.2.2.2.1 a2 S6 _ h) (lw_V q2168 q2169 q2170 q124 q2171) (by decide +kernel) ⟨by rw [hRf]; exact Nat.le_of_ble_eq_true rfl, by rw [hRl]; exact Nat.le_of_ble_eq_true rfl⟩ rfl rfl (gle gc_0 (by decide))) ?_
  refine g_iload C 1 dL_law_2125 rfl ?_
  refine g_icmp_eq C 2132 dL_law_2127 rfl hF (fun c hF => ?_) (fun c hF => ?_)
  · refine g_iload C 1 dL_law_2132 rfl ?_
    refine g_if_ne C 2149 dL_law_2134 rfl hF (fun c hF => ?_) (fun c hF => ?_)
    · refine g_goto C 2606 dL_law_2149 rfl ?_
      refine g_iinc (v := (9 : Int32)) C 6 dL_law_2606 rfl rfl (by decide) (gcons rfl (gfk rfl rfl (gfk rfl rfl (gfk rfl rfl (gfk rfl rfl (gfk rfl rfl (gfr rfl (gfd rfl gf0)))))))) ?_
      refine g_goto C 23 dL_law_2609 rfl ?_
      exact g_sub [3, 4, 5, 6, 0] rfl (hk23 a1 a2 a3 (a4 + (9 : Int32)) S6 hF)
    · refine g_aload_n C 5 dL_law_2137 rfl ?_
      refine g_iconst (v := (0 : Int32)) C dL_law_2138 rfl ?_
      refine g_lald C dL_law_2139 hF (fun x8 hF => ?_)
      refine g_iload C 0 dL_law_2140 rfl ?_
      refine g_i2l C dL_law_2142 ?_
      refine g_lcmp C dL_law_2143 ?_
      refine g_if_eq C 2149 dL_law_2144 rfl hF (fun c hF => ?_) (fun c hF => ?_)
      · refine g_goto C 2606 dL_law_2149 rfl ?_
        refine g_iinc (v := (9 : Int32)) C 6 dL_law_2606 rfl rfl (by decide) (gcons rfl (gfk rfl rfl (gfk rfl rfl (gfk rfl rfl (gfk rfl rfl (gfk rfl rfl (gfr rfl (gfd rfl gf0)))))))) ?_
        refine g_goto C 23 dL_law_2609 rfl ?_
        exact g_sub [3, 4, 5, 6, 0] rfl (hk23 a1 a2 a3 (a4 + (9 : Int32)) S6 hF)
      · refine g_iconst (v := (0 : Int32)) C dL_law_2147 rfl ?_
        exact g_law0 hF
  · refine g_iconst (v := (0 : Int32)) C dL_law_2130 rfl ?_
    exact g_law0 hF
theorem wfL_law_j2152 {S1 : gS} {hh : List (Nat × Nat × Nat × Nat)} {nm : String} (C : gCx p l R s m args meth c D K RX0 cL_law 8 (Option.some Jvm.ClassFile.FieldType.boolean) hh nm u0) {b L : Nat} {xs : Nat → Int32} (hLaw : gLaw R K s u0 args b L xs) (hRf : R.frames = 8192) (hRl : R.locals = 100000) (k23 : (Option Nat) → (Option Nat) → (Option Nat) → (Int32) → gS → Option (Int32 × gS)) (hk23 : ∀ (a1 : Option Nat) (a2 : Option Nat) (a3 : Option Nat) (a4 : Int32) (S : gS), k23 a1 a2 a3 a4 S = some ((1 : Int32), S1) → gW p l e R s m args below meth c D K 8 u0 (lw_Z below args s) S 23 [(0, va_rf (some b)), (1, va_rf a1), (2, va_rf a2), (3, va_rf a3), (4, .int a4)] []) : ∀ (a1 : Option Nat) (a2 : Option Nat) (a3 : Option Nat) (a4 : Int32) (S : gS), fL_law_j2152 L xs k23 a1 a2 a3 a4 S = some ((1 : Int32), S1) → gW p l e R s m args below meth c D K 8 u0 (lw_Z below args s) S 2152 [(0, va_rf ((some b))), (1, va_rf a1), (2, va_rf a2), (3, va_rf a3), (4, .int a4)] [] := by
  intro a1 a2 a3 a4 S hF
  unfold fL_law_j2152 at hF
  refine g_aload_n C 1 dL_law_2152 rfl ?_
  refine g_aload_n C 0 dL_law_2153 rfl ?_
  refine g_iload C 4 dL_law_2154 rfl ?_
  refine g_iconst (v := (1 : Int32)) C dL_law_2156 rfl ?_
  refine g_iadd C dL_law_2157 ?_
  refine g_sld C hLaw dL_law_2158 hF (fun x1 hF => ?_)
  refine g_aload_n C 3 dL_law_2159 rfl ?_
  obtain ⟨x2, S3, h, hF⟩ := gB_some hF
  refine g_after (g_runSX (n := 3) C dL_law_2160 (mX0_longest C.2.2.2.2.2.2.2.2.2.2.2.1 a1 x1 a3 S _ _ h) (lw_SW q1956 q1957 q98 q1958) (by decide +kernel) ⟨by rw [hRf]; exact Nat.le_of_ble_eq_true rfl, by rw [hRl]; exact Nat.le_of_ble_eq_true rfl⟩ rfl rfl (gle gc_0 (by decide))) ?_
  refine g_istore C dL_law_2163 (by decide) rfl ?_
  refine g_aload_n C 3 dL_law_2165 rfl ?_
  refine g_aload_n C 1 dL_law_2166 rfl ?_
  refine g_iload C 5 dL_law_2167 rfl ?_
  refine g_iconst (v := (1 : Int32)) C dL_law_2169 rfl ?_
  refine g_iadd C dL_law_2170 ?_
  refine g_sld C hLaw dL_law_2171 hF (fun x4 hF => ?_)
  obtain ⟨x5, S6, h, hF⟩ := gB_some hF
  obtain ⟨hi, h⟩ := gV_some h
  refine g_after (g_runV (n := 1) C dL_law_2172 rfl hi (mX6_longest C.2.2.2.2.2.2.2.2.2.2.2.1 a2 x4 S3 _ _ h) (lw_V q2550 q2551 q2552 q124 q2553) (by decide +kernel) ⟨by rw [hRf]; exact Nat.le_of_ble_eq_true rfl, by rw [hRl]; exact Nat.le_of_ble_eq_true rfl⟩ rfl rfl (gle gc_0 (by decide))) ?_
  refine g_istore C dL_law_2175 (by decide) rfl ?_
  refine g_aload_n C 4 dL_law_2177 rfl ?_
  obtain ⟨x7, h, hF⟩ := oB hF
  obtain ⟨hi, h⟩ := gV_some h
  refine g_after (g_runV (n := 0) C dL_law_2178 rfl hi (mX6_thrown C.2.2.2.2.2.2.2.2.2.2.2.1 a2 S6 _ h) (lw_V q2168 q2169 q2170 q124 q2171) (by decide +kernel) ⟨by rw [hRf]; exact Nat.le_of_ble_eq_true rfl, by rw [hRl]; exact Nat.le_of_ble_eq_true rfl⟩ rfl rfl (gle gc_0 (by decide))) ?_
  refine g_iload C 1 dL_law_2181 rfl ?_
  refine g_icmp_eq C 2188 dL_law_2183 rfl hF (fun c hF => ?_) (fun c hF => ?_)
  · refine g_iload C 1 dL_law_2188 rfl ?_
    refine g_if_ne C 2205 dL_law_2190 rfl hF (fun c hF => ?_) (fun c hF => ?_)
    · refine g_goto C 2606 dL_law_2205 rfl ?_
      refine g_iinc (v := (9 : Int32)) C 6 dL_law_2606 rfl rfl (by decide) (gcons rfl (gfk rfl rfl (gfk rfl rfl (gfk rfl rfl (gfk rfl rfl (gfk rfl rfl (gfr rfl (gfd rfl gf0)))))))) ?_
      refine g_goto C 23 dL_law_2609 rfl ?_
      exact g_sub [3, 4, 5, 6, 0] rfl (hk23 a1 a2 a3 (a4 + (9 : Int32)) S6 hF)
    · refine g_aload_n C 5 dL_law_2193 rfl ?_
      refine g_iconst (v := (0 : Int32)) C dL_law_2194 rfl ?_
      refine g_lald C dL_law_2195 hF (fun x8 hF => ?_)
      refine g_iload C 0 dL_law_2196 rfl ?_
      refine g_i2l C dL_law_2198 ?_
      refine g_lcmp C dL_law_2199 ?_
      refine g_if_eq C 2205 dL_law_2200 rfl hF (fun c hF => ?_) (fun c hF => ?_)
      · refine g_goto C 2606 dL_law_2205 rfl ?_
        refine g_iinc (v := (9 : Int32)) C 6 dL_law_2606 rfl rfl (by decide) (gcons rfl (gfk rfl rfl (gfk rfl rfl (gfk rfl rfl (gfk rfl rfl (gfk rfl rfl (gfr rfl (gfd rfl gf0)))))))) ?_
        refine g_goto C 23 dL_law_2609 rfl ?_
        exact g_sub [3, 4, 5, 6, 0] rfl (hk23 a1 a2 a3 (a4 + (9 : Int32)) S6 hF)
      · refine g_iconst (v := (0 : Int32)) C dL_law_2203 rfl ?_
        exact g_law0 hF
  · refine g_iconst (v := (0 : Int32)) C dL_law_2186 rfl ?_
    exact g_law0 hF
theorem wfL_law_j2208 {S1 : gS} {hh : List (Nat × Nat × Nat × Nat)} {nm : String} (C : gCx p l R s m args meth c D K RX0 cL_law 8 (Option.some Jvm.ClassFile.FieldType.boolean) hh nm u0) {b L : Nat} {xs : Nat → Int32} (hLaw : gLaw R K s u0 args b L xs) (hRf : R.frames = 8192) (hRl : R.locals = 100000) (k23 : (Option Nat) → (Option Nat) → (Option Nat) → (Int32) → gS → Option (Int32 × gS)) (hk23 : ∀ (a1 : Option Nat) (a2 : Option Nat) (a3 : Option Nat) (a4 : Int32) (S : gS), k23 a1 a2 a3 a4 S = some ((1 : Int32), S1) → gW p l e R s m args below meth c D K 8 u0 (lw_Z below args s) S 23 [(0, va_rf (some b)), (1, va_rf a1), (2, va_rf a2), (3, va_rf a3), (4, .int a4)] []) : ∀ (a1 : Option Nat) (a2 : Option Nat) (a3 : Option Nat) (a4 : Int32) (S : gS), fL_law_j2208 L xs k23 a1 a2 a3 a4 S = some ((1 : Int32), S1) → gW p l e R s m args below meth c D K 8 u0 (lw_Z below args s) S 2208 [(0, va_rf ((some b))), (1, va_rf a1), (2, va_rf a2), (3, va_rf a3), (4, .int a4)] [] := by
  intro a1 a2 a3 a4 S hF
  unfold fL_law_j2208 at hF
  refine g_aload_n C 1 dL_law_2208 rfl ?_
  refine g_aload_n C 0 dL_law_2209 rfl ?_
  refine g_iload C 4 dL_law_2210 rfl ?_
  refine g_iconst (v := (1 : Int32)) C dL_law_2212 rfl ?_
  refine g_iadd C dL_law_2213 ?_
  refine g_sld C hLaw dL_law_2214 hF (fun x1 hF => ?_)
  refine g_aload_n C 3 dL_law_2215 rfl ?_
  obtain ⟨x2, S3, h, hF⟩ := gB_some hF
  refine g_after (g_runSX (n := 3) C dL_law_2216 (mX0_chorus C.2.2.2.2.2.2.2.2.2.2.2.1 a1 x1 a3 S _ _ h) (lw_SW q1963 q1964 q98 q1965) (by decide +kernel) ⟨by rw [hRf]; exact Nat.le_of_ble_eq_true rfl, by rw [hRl]; exact Nat.le_of_ble_eq_true rfl⟩ rfl rfl (gle gc_0 (by decide))) ?_
  refine g_istore C dL_law_2219 (by decide) rfl ?_
  refine g_aload_n C 3 dL_law_2221 rfl ?_
  refine g_aload_n C 1 dL_law_2222 rfl ?_
  refine g_iload C 5 dL_law_2223 rfl ?_
  refine g_iconst (v := (1 : Int32)) C dL_law_2225 rfl ?_
  refine g_iadd C dL_law_2226 ?_
  refine g_sld C hLaw dL_law_2227 hF (fun x4 hF => ?_)
  obtain ⟨x5, S6, h, hF⟩ := gB_some hF
  obtain ⟨hi, h⟩ := gV_some h
  refine g_after (g_runV (n := 1) C dL_law_2228 rfl hi (mX6_chorus C.2.2.2.2.2.2.2.2.2.2.2.1 a2 x4 S3 _ _ h) (lw_V q2554 q2555 q2556 q124 q2557) (by decide +kernel) ⟨by rw [hRf]; exact Nat.le_of_ble_eq_true rfl, by rw [hRl]; exact Nat.le_of_ble_eq_true rfl⟩ rfl rfl (gle gc_0 (by decide))) ?_
  refine g_istore C dL_law_2231 (by decide) rfl ?_
  refine g_aload_n C 4 dL_law_2233 rfl ?_
  obtain ⟨x7, h, hF⟩ := oB hF
  obtain ⟨hi, h⟩ := gV_some h
  refine g_after (g_runV (n := 0) C dL_law_2234 rfl hi (mX6_thrown C.2.2.2.2.2.2.2.2.2.2.2.1 a2 S6 _ h) (lw_V q2168 q2169 q2170 q124 q2171) (by decide +kernel) ⟨by rw [hRf]; exact Nat.le_of_ble_eq_true rfl, by rw [hRl]; exact Nat.le_of_ble_eq_true rfl⟩ rfl rfl (gle gc_0 (by decide))) ?_
  refine g_iload C 1 dL_law_2237 rfl ?_
  refine g_icmp_eq C 2244 dL_law_2239 rfl hF (fun c hF => ?_) (fun c hF => ?_)
  · refine g_iload C 1 dL_law_2244 rfl ?_
    refine g_if_ne C 2261 dL_law_2246 rfl hF (fun c hF => ?_) (fun c hF => ?_)
    · refine g_goto C 2606 dL_law_2261 rfl ?_
      refine g_iinc (v := (9 : Int32)) C 6 dL_law_2606 rfl rfl (by decide) (gcons rfl (gfk rfl rfl (gfk rfl rfl (gfk rfl rfl (gfk rfl rfl (gfk rfl rfl (gfr rfl (gfd rfl gf0)))))))) ?_
      refine g_goto C 23 dL_law_2609 rfl ?_
      exact g_sub [3, 4, 5, 6, 0] rfl (hk23 a1 a2 a3 (a4 + (9 : Int32)) S6 hF)
    · refine g_aload_n C 5 dL_law_2249 rfl ?_
      refine g_iconst (v := (0 : Int32)) C dL_law_2250 rfl ?_
      refine g_lald C dL_law_2251 hF (fun x8 hF => ?_)
      refine g_iload C 0 dL_law_2252 rfl ?_
      refine g_i2l C dL_law_2254 ?_
      refine g_lcmp C dL_law_2255 ?_
      refine g_if_eq C 2261 dL_law_2256 rfl hF (fun c hF => ?_) (fun c hF => ?_)
      · refine g_goto C 2606 dL_law_2261 rfl ?_
        refine g_iinc (v := (9 : Int32)) C 6 dL_law_2606 rfl rfl (by decide) (gcons rfl (gfk rfl rfl (gfk rfl rfl (gfk rfl rfl (gfk rfl rfl (gfk rfl rfl (gfr rfl (gfd rfl gf0)))))))) ?_
        refine g_goto C 23 dL_law_2609 rfl ?_
        exact g_sub [3, 4, 5, 6, 0] rfl (hk23 a1 a2 a3 (a4 + (9 : Int32)) S6 hF)
      · refine g_iconst (v := (0 : Int32)) C dL_law_2259 rfl ?_
        exact g_law0 hF
  · refine g_iconst (v := (0 : Int32)) C dL_law_2242 rfl ?_
    exact g_law0 hF
theorem wfL_law_j2264 {S1 : gS} {hh : List (Nat × Nat × Nat × Nat)} {nm : String} (C : gCx p l R s m args meth c D K RX0 cL_law 8 (Option.some Jvm.ClassFile.FieldType.boolean) hh nm u0) {b L : Nat} {xs : Nat → Int32} (hLaw : gLaw R K s u0 args b L xs) (hRf : R.frames = 8192) (hRl : R.locals = 100000) (k23 : (Option Nat) → (Option Nat) → (Option Nat) → (Int32) → gS → Option (Int32 × gS)) (hk23 : ∀ (a1 : Option Nat) (a2 : Option Nat) (a3 : Option Nat) (a4 : Int32) (S : gS), k23 a1 a2 a3 a4 S = some ((1 : Int32), S1) → gW p l e R s m args below meth c D K 8 u0 (lw_Z below args s) S 23 [(0, va_rf (some b)), (1, va_rf a1), (2, va_rf a2), (3, va_rf a3), (4, .int a4)] []) : ∀ (a1 : Option Nat) (a2 : Option Nat) (a3 : Option Nat) (a4 : Int32) (S : gS), fL_law_j2264 L xs k23 a1 a2 a3 a4 S = some ((1 : Int32), S1) → gW p l e R s m args below meth c D K 8 u0 (lw_Z below args s) S 2264 [(0, va_rf ((some b))), (1, va_rf a1), (2, va_rf a2), (3, va_rf a3), (4, .int a4)] [] := by
  intro a1 a2 a3 a4 S hF
  unfold fL_law_j2264 at hF
  refine g_aload_n C 1 dL_law_2264 rfl ?_
  refine g_aload_n C 0 dL_law_2265 rfl ?_
  refine g_iload C 4 dL_law_2266 rfl ?_
  refine g_iconst (v := (1 : Int32)) C dL_law_2268 rfl ?_
  refine g_iadd C dL_law_2269 ?_
  refine g_sld C hLaw dL_law_2270 hF (fun x1 hF => ?_)
  refine g_aload_n C 3 dL_law_2271 rfl ?_
  obtain ⟨x2, S3, h, hF⟩ := gB_some hF
  refine g_after (g_runSX (n := 3) C dL_law_2272 (mX0_spare C.2.2.2.2.2.2.2.2.2.2.2.1 a1 x1 a3 S _ _ h) (lw_SW q1970 q1971 q98 q1972) (by decide +kernel) ⟨by rw [hRf]; exact Nat.le_of_ble_eq_true rfl, by rw [hRl]; exact Nat.le_of_ble_eq_true rfl⟩ rfl rfl (gle gc_0 (by decide))) ?_
  refine g_istore C dL_law_2275 (by decide) rfl ?_
  refine g_aload_n C 3 dL_law_2277 rfl ?_
  refine g_aload_n C 1 dL_law_2278 rfl ?_
  refine g_iload C 5 dL_law_2279 rfl ?_
  refine g_iconst (v := (1 : Int32)) C dL_law_2281 rfl ?_
  refine g_iadd C dL_law_2282 ?_
  refine g_sld C hLaw dL_law_2283 hF (fun x4 hF => ?_)
  obtain ⟨x5, S6, h, hF⟩ := gB_some hF
  obtain ⟨hi, h⟩ := gV_some h
  refine g_after (g_runV (n := 1) C dL_law_2284 rfl hi (mX6_spare C.2.2.2.2.2.2.2.2.2.2.2.1 a2 x4 S3 _ _ h) (lw_V q2558 q2559 q2560 q124 q2561) (by decide +kernel) ⟨by rw [hRf]; exact Nat.le_of_ble_eq_true rfl, by rw [hRl]; exact Nat.le_of_ble_eq_true rfl⟩ rfl rfl (gle gc_0 (by decide))) ?_
  refine g_istore C dL_law_2287 (by decide) rfl ?_
  refine g_aload_n C 4 dL_law_2289 rfl ?_
  obtain ⟨x7, h, hF⟩ := oB hF
  obtain ⟨hi, h⟩ := gV_some h
  refine g_after (g_runV (n := 0) C dL_law_2290 rfl hi (mX6_thrown C.2.2.2.2.2.2.2.2.2.2.2.1 a2 S6 _ h) (lw_V q2168 q2169 q2170 q124 q2171) (by decide +kernel) ⟨by rw [hRf]; exact Nat.le_of_ble_eq_true rfl, by rw [hRl]; exact Nat.le_of_ble_eq_true rfl⟩ rfl rfl (gle gc_0 (by decide))) ?_
  refine g_iload C 1 dL_law_2293 rfl ?_
  refine g_icmp_eq C 2300 dL_law_2295 rfl hF (fun c hF => ?_) (fun c hF => ?_)
  · refine g_iload C 1 dL_law_2300 rfl ?_
    refine g_if_ne C 2317 dL_law_2302 rfl hF (fun c hF => ?_) (fun c hF => ?_)
    · refine g_goto C 2606 dL_law_2317 rfl ?_
      refine g_iinc (v := (9 : Int32)) C 6 dL_law_2606 rfl rfl (by decide) (gcons rfl (gfk rfl rfl (gfk rfl rfl (gfk rfl rfl (gfk rfl rfl (gfk rfl rfl (gfr rfl (gfd rfl gf0)))))))) ?_
      refine g_goto C 23 dL_law_2609 rfl ?_
      exact g_sub [3, 4, 5, 6, 0] rfl (hk23 a1 a2 a3 (a4 + (9 : Int32)) S6 hF)
    · refine g_aload_n C 5 dL_law_2305 rfl ?_
      refine g_iconst (v := (0 : Int32)) C dL_law_2306 rfl ?_
      refine g_lald C dL_law_2307 hF (fun x8 hF => ?_)
      refine g_iload C 0 dL_law_2308 rfl ?_
      refine g_i2l C dL_law_2310 ?_
      refine g_lcmp C dL_law_2311 ?_
      refine g_if_eq C 2317 dL_law_2312 rfl hF (fun c hF => ?_) (fun c hF => ?_)
      · refine g_goto C 2606 dL_law_2317 rfl ?_
        refine g_iinc (v := (9 : Int32)) C 6 dL_law_2606 rfl rfl (by decide) (gcons rfl (gfk rfl rfl (gfk rfl rfl (gfk rfl rfl (gfk rfl rfl (gfk rfl rfl (gfr rfl (gfd rfl gf0)))))))) ?_
        refine g_goto C 23 dL_law_2609 rfl ?_
        exact g_sub [3, 4, 5, 6, 0] rfl (hk23 a1 a2 a3 (a4 + (9 : Int32)) S6 hF)
      · refine g_iconst (v := (0 : Int32)) C dL_law_2315 rfl ?_
        exact g_law0 hF
  · refine g_iconst (v := (0 : Int32)) C dL_law_2298 rfl ?_
    exact g_law0 hF
theorem wfL_law_j2320 {S1 : gS} {hh : List (Nat × Nat × Nat × Nat)} {nm : String} (C : gCx p l R s m args meth c D K RX0 cL_law 8 (Option.some Jvm.ClassFile.FieldType.boolean) hh nm u0) {b L : Nat} {xs : Nat → Int32} (hLaw : gLaw R K s u0 args b L xs) (hRf : R.frames = 8192) (hRl : R.locals = 100000) (k23 : (Option Nat) → (Option Nat) → (Option Nat) → (Int32) → gS → Option (Int32 × gS)) (hk23 : ∀ (a1 : Option Nat) (a2 : Option Nat) (a3 : Option Nat) (a4 : Int32) (S : gS), k23 a1 a2 a3 a4 S = some ((1 : Int32), S1) → gW p l e R s m args below meth c D K 8 u0 (lw_Z below args s) S 23 [(0, va_rf (some b)), (1, va_rf a1), (2, va_rf a2), (3, va_rf a3), (4, .int a4)] []) : ∀ (a1 : Option Nat) (a2 : Option Nat) (a3 : Option Nat) (a4 : Int32) (S : gS), fL_law_j2320 L xs k23 a1 a2 a3 a4 S = some ((1 : Int32), S1) → gW p l e R s m args below meth c D K 8 u0 (lw_Z below args s) S 2320 [(0, va_rf ((some b))), (1, va_rf a1), (2, va_rf a2), (3, va_rf a3), (4, .int a4)] [] := by
  intro a1 a2 a3 a4 S hF
  unfold fL_law_j2320 at hF
  refine g_aload_n C 1 dL_law_2320 rfl ?_
  refine g_aload_n C 0 dL_law_2321 rfl ?_
  refine g_iload C 4 dL_law_2322 rfl ?_
  refine g_iconst (v := (1 : Int32)) C dL_law_2324 rfl ?_
  refine g_iadd C dL_law_2325 ?_
  refine g_sld C hLaw dL_law_2326 hF (fun x1 hF => ?_)
  refine g_aload_n C 0 dL_law_2327 rfl ?_
  refine g_iload C 4 dL_law_2328 rfl ?_
  refine g_iconst (v := (2 : Int32)) C dL_law_2330 rfl ?_
  refine g_iadd C dL_law_2331 ?_
  refine g_sld C hLaw dL_law_2332 hF (fun x2 hF => ?_)
  refine g_aload_n C 0 dL_law_2333 rfl ?_
  refine g_iload C 4 dL_law_2334 rfl ?_
  refine g_iconst (v := (3 : Int32)) C dL_law_2336 rfl ?_
  refine g_iadd C dL_law_2337 ?_
  refine g_sld C hLaw dL_law_2338 hF (fun x3 hF => ?_)
  refine g_aload_n C 0 dL_law_2339 rfl ?_
  refine g_iload C 4 dL_law_2340 rfl ?_
  refine g_iconst (v := (4 : Int32)) C dL_law_2342 rfl ?_
  refine g_iadd C dL_law_2343 ?_
  refine g_sld C hLaw dL_law_2344 hF (fun x4 hF => ?_)
  refine g_aload_n C 3 dL_law_2345 rfl ?_
  obtain ⟨x5, S6, h, hF⟩ := gB_some hF
  refine g_after (g_runSX (n := 6) C dL_law_2346 (mX0_sunday C.2.2.2.2.2.2.2.2.2.2.2.1 a1 x1 x2 x3 x4 a3 S _ _ h) (lw_SW q1977 q1978 q98 q1979) (by decide +kernel) ⟨by rw [hRf]; exact Nat.le_of_ble_eq_true rfl, by rw [hRl]; exact Nat.le_of_ble_eq_true rfl⟩ rfl rfl (gle gc_0 (by decide))) ?_
  refine g_istore C dL_law_2349 (by decide) rfl ?_
  refine g_aload_n C 3 dL_law_2351 rfl ?_
  refine g_aload_n C 1 dL_law_2352 rfl ?_
  refine g_iload C 5 dL_law_2353 rfl ?_
  refine g_iconst (v := (1 : Int32)) C dL_law_2355 rfl ?_
  refine g_iadd C dL_law_2356 ?_
  refine g_sld C hLaw dL_law_2357 hF (fun x7 hF => ?_)
  refine g_aload_n C 1 dL_law_2358 rfl ?_
  refine g_iload C 5 dL_law_2359 rfl ?_
  refine g_iconst (v := (2 : Int32)) C dL_law_2361 rfl ?_
  refine g_iadd C dL_law_2362 ?_
  refine g_sld C hLaw dL_law_2363 hF (fun x8 hF => ?_)
  refine g_aload_n C 1 dL_law_2364 rfl ?_
  refine g_iload C 5 dL_law_2365 rfl ?_
  refine g_iconst (v := (3 : Int32)) C dL_law_2367 rfl ?_
  refine g_iadd C dL_law_2368 ?_
  refine g_sld C hLaw dL_law_2369 hF (fun x9 hF => ?_)
  refine g_aload_n C 1 dL_law_2370 rfl ?_
  refine g_iload C 5 dL_law_2371 rfl ?_
  refine g_iconst (v := (4 : Int32)) C dL_law_2373 rfl ?_
  refine g_iadd C dL_law_2374 ?_
  refine g_sld C hLaw dL_law_2375 hF (fun x10 hF => ?_)
  obtain ⟨x11, S12, h, hF⟩ := gB_some hF
  obtain ⟨hi, h⟩ := gV_some h
  refine g_after (g_runV (n := 4) C dL_law_2376 rfl hi (mX6_sunday C.2.2.2.2.2.2.2.2.2.2.2.1 a2 x7 x8 x9 x10 S6 _ _ h) (lw_V q2562 q2563 q2564 q124 q2565) (by decide +kernel) ⟨by rw [hRf]; exact Nat.le_of_ble_eq_true rfl, by rw [hRl]; exact Nat.le_of_ble_eq_true rfl⟩ rfl rfl (gle gc_0 (by decide))) ?_
  refine g_istore C dL_law_2379 (by decide) rfl ?_
  refine g_aload_n C 4 dL_law_2381 rfl ?_
  obtain ⟨x13, h, hF⟩ := oB hF
  obtain ⟨hi, h⟩ := gV_some h
  refine g_after (g_runV (n := 0) C dL_law_2382 rfl hi (mX6_thrown C.2.2.2.2.2.2.2.2.2.2.2.1 a2 S12 _ h) (lw_V q2168 q2169 q2170 q124 q2171) (by decide +kernel) ⟨by rw [hRf]; exact Nat.le_of_ble_eq_true rfl, by rw [hRl]; exact Nat.le_of_ble_eq_true rfl⟩ rfl rfl (gle gc_0 (by decide))) ?_
  refine g_iload C 1 dL_law_2385 rfl ?_
  refine g_icmp_eq C 2392 dL_law_2387 rfl hF (fun c hF => ?_) (fun c hF => ?_)
  · refine g_iload C 1 dL_law_2392 rfl ?_
    refine g_if_ne C 2409 dL_law_2394 rfl hF (fun c hF => ?_) (fun c hF => ?_)
    · refine g_goto C 2606 dL_law_2409 rfl ?_
      refine g_iinc (v := (9 : Int32)) C 6 dL_law_2606 rfl rfl (by decide) (gcons rfl (gfk rfl rfl (gfk rfl rfl (gfk rfl rfl (gfk rfl rfl (gfk rfl rfl (gfr rfl (gfd rfl gf0)))))))) ?_
      refine g_goto C 23 dL_law_2609 rfl ?_
      exact g_sub [3, 4, 5, 6, 0] rfl (hk23 a1 a2 a3 (a4 + (9 : Int32)) S12 hF)
    · refine g_aload_n C 5 dL_law_2397 rfl ?_
      refine g_iconst (v := (0 : Int32)) C dL_law_2398 rfl ?_
      refine g_lald C dL_law_2399 hF (fun x14 hF => ?_)
      refine g_iload C 0 dL_law_2400 rfl ?_
      refine g_i2l C dL_law_2402 ?_
      refine g_lcmp C dL_law_2403 ?_
      refine g_if_eq C 2409 dL_law_2404 rfl hF (fun c hF => ?_) (fun c hF => ?_)
      · refine g_goto C 2606 dL_law_2409 rfl ?_
        refine g_iinc (v := (9 : Int32)) C 6 dL_law_2606 rfl rfl (by decide) (gcons rfl (gfk rfl rfl (gfk rfl rfl (gfk rfl rfl (gfk rfl rfl (gfk rfl rfl (gfr rfl (gfd rfl gf0)))))))) ?_
        refine g_goto C 23 dL_law_2609 rfl ?_
        exact g_sub [3, 4, 5, 6, 0] rfl (hk23 a1 a2 a3 (a4 + (9 : Int32)) S12 hF)
      · refine g_iconst (v := (0 : Int32)) C dL_law_2407 rfl ?_
        exact g_law0 hF
  · refine g_iconst (v := (0 : Int32)) C dL_law_2390 rfl ?_
    exact g_law0 hF
theorem wfL_law_j2412 {S1 : gS} {hh : List (Nat × Nat × Nat × Nat)} {nm : String} (C : gCx p l R s m args meth c D K RX0 cL_law 8 (Option.some Jvm.ClassFile.FieldType.boolean) hh nm u0) {b L : Nat} {xs : Nat → Int32} (hLaw : gLaw R K s u0 args b L xs) (hRf : R.frames = 8192) (hRl : R.locals = 100000) (k23 : (Option Nat) → (Option Nat) → (Option Nat) → (Int32) → gS → Option (Int32 × gS)) (hk23 : ∀ (a1 : Option Nat) (a2 : Option Nat) (a3 : Option Nat) (a4 : Int32) (S : gS), k23 a1 a2 a3 a4 S = some ((1 : Int32), S1) → gW p l e R s m args below meth c D K 8 u0 (lw_Z below args s) S 23 [(0, va_rf (some b)), (1, va_rf a1), (2, va_rf a2), (3, va_rf a3), (4, .int a4)] []) : ∀ (a1 : Option Nat) (a2 : Option Nat) (a3 : Option Nat) (a4 : Int32) (S : gS), fL_law_j2412 L xs k23 a1 a2 a3 a4 S = some ((1 : Int32), S1) → gW p l e R s m args below meth c D K 8 u0 (lw_Z below args s) S 2412 [(0, va_rf ((some b))), (1, va_rf a1), (2, va_rf a2), (3, va_rf a3), (4, .int a4)] [] := by
  intro a1 a2 a3 a4 S hF
  unfold fL_law_j2412 at hF
  refine g_aload_n C 1 dL_law_2412 rfl ?_
  refine g_aload_n C 0 dL_law_2413 rfl ?_
  refine g_iload C 4 dL_law_2414 rfl ?_
  refine g_iconst (v := (1 : Int32)) C dL_law_2416 rfl ?_
  refine g_iadd C dL_law_2417 ?_
  refine g_sld C hLaw dL_law_2418 hF (fun x1 hF => ?_)
  refine g_aload_n C 0 dL_law_2419 rfl ?_
  refine g_iload C 4 dL_law_2420 rfl ?_
  refine g_iconst (v := (2 : Int32)) C dL_law_2422 rfl ?_
  refine g_iadd C dL_law_2423 ?_
  refine g_sld C hLaw dL_law_2424 hF (fun x2 hF => ?_)
  refine g_aload_n C 0 dL_law_2425 rfl ?_
  refine g_iload C 4 dL_law_2426 rfl ?_
  refine g_iconst (v := (3 : Int32)) C dL_law_2428 rfl ?_
  refine g_iadd C dL_law_2429 ?_
  refine g_sld C hLaw dL_law_2430 hF (fun x3 hF => ?_)
  refine g_aload_n C 0 dL_law_2431 rfl ?_
  refine g_iload C 4 dL_law_2432 rfl ?_
  refine g_iconst (v := (4 : Int32)) C dL_law_2434 rfl ?_
  refine g_iadd C dL_law_2435 ?_
  refine g_sld C hLaw dL_law_2436 hF (fun x4 hF => ?_)
  refine g_aload_n C 0 dL_law_2437 rfl ?_
  refine g_iload C 4 dL_law_2438 rfl ?_
  refine g_iconst (v := (5 : Int32)) C dL_law_2440 rfl ?_
  refine g_iadd C dL_law_2441 ?_
  refine g_sld C hLaw dL_law_2442 hF (fun x5 hF => ?_)
  refine g_aload_n C 0 dL_law_2443 rfl ?_
  refine g_iload C 4 dL_law_2444 rfl ?_
  refine g_bipush (v := (6 : Int32)) C dL_law_2446 rfl ?_
  refine g_iadd C dL_law_2448 ?_
  refine g_sld C hLaw dL_law_2449 hF (fun x6 hF => ?_)
  refine g_aload_n C 3 dL_law_2450 rfl ?_
  obtain ⟨x7, S8, h, hF⟩ := gB_some hF
  refine g_after (g_runSX (n := 8) C dL_law_2451 (mX0_span C.2.2.2.2.2.2.2.2.2.2.2.1 a1 x1 x2 x3 x4 x5 x6 a3 S _ _ h) (lw_SW q1998 q1999 q98 q2000) (by decide +kernel) ⟨by rw [hRf]; exact Nat.le_of_ble_eq_true rfl, by rw [hRl]; exact Nat.le_of_ble_eq_true rfl⟩ rfl rfl (gle gc_0 (by decide))) ?_
  refine g_istore C dL_law_2454 (by decide) rfl ?_
  refine g_aload_n C 3 dL_law_2456 rfl ?_
  refine g_aload_n C 1 dL_law_2457 rfl ?_
  refine g_iload C 5 dL_law_2458 rfl ?_
  refine g_iconst (v := (1 : Int32)) C dL_law_2460 rfl ?_
  refine g_iadd C dL_law_2461 ?_
  refine g_sld C hLaw dL_law_2462 hF (fun x9 hF => ?_)
  refine g_aload_n C 1 dL_law_2463 rfl ?_
  refine g_iload C 5 dL_law_2464 rfl ?_
  refine g_iconst (v := (2 : Int32)) C dL_law_2466 rfl ?_
  refine g_iadd C dL_law_2467 ?_
  refine g_sld C hLaw dL_law_2468 hF (fun x10 hF => ?_)
  refine g_aload_n C 1 dL_law_2469 rfl ?_
  refine g_iload C 5 dL_law_2470 rfl ?_
  refine g_iconst (v := (3 : Int32)) C dL_law_2472 rfl ?_
  refine g_iadd C dL_law_2473 ?_
  refine g_sld C hLaw dL_law_2474 hF (fun x11 hF => ?_)
  refine g_aload_n C 1 dL_law_2475 rfl ?_
  refine g_iload C 5 dL_law_2476 rfl ?_
  refine g_iconst (v := (4 : Int32)) C dL_law_2478 rfl ?_
  refine g_iadd C dL_law_2479 ?_
  refine g_sld C hLaw dL_law_2480 hF (fun x12 hF => ?_)
  refine g_aload_n C 1 dL_law_2481 rfl ?_
  refine g_iload C 5 dL_law_2482 rfl ?_
  refine g_iconst (v := (5 : Int32)) C dL_law_2484 rfl ?_
  refine g_iadd C dL_law_2485 ?_
  refine g_sld C hLaw dL_law_2486 hF (fun x13 hF => ?_)
  refine g_aload_n C 1 dL_law_2487 rfl ?_
  refine g_iload C 5 dL_law_2488 rfl ?_
  refine g_bipush (v := (6 : Int32)) C dL_law_2490 rfl ?_
  refine g_iadd C dL_law_2492 ?_
  refine g_sld C hLaw dL_law_2493 hF (fun x14 hF => ?_)
  obtain ⟨x15, S16, h, hF⟩ := gB_some hF
  obtain ⟨hi, h⟩ := gV_some h
  refine g_after (g_runV (n := 6) C dL_law_2494 rfl hi (mX6_span C.2.2.2.2.2.2.2.2.2.2.2.1 a2 x9 x10 x11 x12 x13 x14 S8 _ _ h) (lw_V q2578 q2579 q2580 q124 q2581) (by decide +kernel) ⟨by rw [hRf]; exact Nat.le_of_ble_eq_true rfl, by rw [hRl]; exact Nat.le_of_ble_eq_true rfl⟩ rfl rfl (gle gc_0 (by decide))) ?_
  refine g_istore C dL_law_2497 (by decide) rfl ?_
  refine g_aload_n C 4 dL_law_2499 rfl ?_
  obtain ⟨x17, h, hF⟩ := oB hF
  obtain ⟨hi, h⟩ := gV_some h
  refine g_after (g_runV (n := 0) C dL_law_2500 rfl hi (mX6_thrown C.2.2.2.2.2.2.2.2.2.2.2.1 a2 S16 _ h) (lw_V q2168 q2169 q2170 q124 q2171) (by decide +kernel) ⟨by rw [hRf]; exact Nat.le_of_ble_eq_true rfl, by rw [hRl]; exact Nat.le_of_ble_eq_true rfl⟩ rfl rfl (gle gc_0 (by decide))) ?_
  refine g_iload C 1 dL_law_2503 rfl ?_
  refine g_icmp_eq C 2510 dL_law_2505 rfl hF (fun c hF => ?_) (fun c hF => ?_)
  · refine g_iload C 1 dL_law_2510 rfl ?_
    refine g_if_ne C 2527 dL_law_2512 rfl hF (fun c hF => ?_) (fun c hF => ?_)
    · refine g_goto C 2606 dL_law_2527 rfl ?_
      refine g_iinc (v := (9 : Int32)) C 6 dL_law_2606 rfl rfl (by decide) (gcons rfl (gfk rfl rfl (gfk rfl rfl (gfk rfl rfl (gfk rfl rfl (gfk rfl rfl (gfr rfl (gfd rfl gf0)))))))) ?_
      refine g_goto C 23 dL_law_2609 rfl ?_
      exact g_sub [3, 4, 5, 6, 0] rfl (hk23 a1 a2 a3 (a4 + (9 : Int32)) S16 hF)
    · refine g_aload_n C 5 dL_law_2515 rfl ?_
      refine g_iconst (v := (0 : Int32)) C dL_law_2516 rfl ?_
      refine g_lald C dL_law_2517 hF (fun x18 hF => ?_)
      refine g_iload C 0 dL_law_2518 rfl ?_
      refine g_i2l C dL_law_2520 ?_
      refine g_lcmp C dL_law_2521 ?_
      refine g_if_eq C 2527 dL_law_2522 rfl hF (fun c hF => ?_) (fun c hF => ?_)
      · refine g_goto C 2606 dL_law_2527 rfl ?_
        refine g_iinc (v := (9 : Int32)) C 6 dL_law_2606 rfl rfl (by decide) (gcons rfl (gfk rfl rfl (gfk rfl rfl (gfk rfl rfl (gfk rfl rfl (gfk rfl rfl (gfr rfl (gfd rfl gf0)))))))) ?_
        refine g_goto C 23 dL_law_2609 rfl ?_
        exact g_sub [3, 4, 5, 6, 0] rfl (hk23 a1 a2 a3 (a4 + (9 : Int32)) S16 hF)
      · refine g_iconst (v := (0 : Int32)) C dL_law_2525 rfl ?_
        exact g_law0 hF
  · refine g_iconst (v := (0 : Int32)) C dL_law_2508 rfl ?_
    exact g_law0 hF
theorem wfL_law_j2530 {S1 : gS} {hh : List (Nat × Nat × Nat × Nat)} {nm : String} (C : gCx p l R s m args meth c D K RX0 cL_law 8 (Option.some Jvm.ClassFile.FieldType.boolean) hh nm u0) {b L : Nat} {xs : Nat → Int32} (hLaw : gLaw R K s u0 args b L xs) (hRf : R.frames = 8192) (hRl : R.locals = 100000) (k23 : (Option Nat) → (Option Nat) → (Option Nat) → (Int32) → gS → Option (Int32 × gS)) (hk23 : ∀ (a1 : Option Nat) (a2 : Option Nat) (a3 : Option Nat) (a4 : Int32) (S : gS), k23 a1 a2 a3 a4 S = some ((1 : Int32), S1) → gW p l e R s m args below meth c D K 8 u0 (lw_Z below args s) S 23 [(0, va_rf (some b)), (1, va_rf a1), (2, va_rf a2), (3, va_rf a3), (4, .int a4)] []) : ∀ (a1 : Option Nat) (a2 : Option Nat) (a3 : Option Nat) (a4 : Int32) (S : gS), fL_law_j2530 L xs k23 a1 a2 a3 a4 S = some ((1 : Int32), S1) → gW p l e R s m args below meth c D K 8 u0 (lw_Z below args s) S 2530 [(0, va_rf ((some b))), (1, va_rf a1), (2, va_rf a2), (3, va_rf a3), (4, .int a4)] [] := by
  intro a1 a2 a3 a4 S hF
  unfold fL_law_j2530 at hF
  refine g_aload_n C 1 dL_law_2530 rfl ?_
  obtain ⟨x1, S2, h, hF⟩ := gB_some hF
  obtain ⟨hi, h⟩ := gV_some h
  refine g_after (g_runV (n := 0) C dL_law_2531 rfl hi (mX1_image C.2.2.2.2.2.2.2.2.2.2.2.1 a1 S _ _ h) (lw_V q889 q890 q891 q99 q892) (by decide +kernel) ⟨by rw [hRf]; exact Nat.le_of_ble_eq_true rfl, by rw [hRl]; exact Nat.le_of_ble_eq_true rfl⟩ rfl rfl (gle gc_0 (by decide))) ?_
  refine g_aload_n C 2 dL_law_2534 rfl ?_
  obtain ⟨x3, S4, h, hF⟩ := gB_some hF
  obtain ⟨hi, h⟩ := gV_some h
  refine g_after (g_runV (n := 0) C dL_law_2535 rfl hi (mX6_image C.2.2.2.2.2.2.2.2.2.2.2.1 a2 S2 _ _ h) (lw_V q2582 q2583 q2584 q124 q2585) (by decide +kernel) ⟨by rw [hRf]; exact Nat.le_of_ble_eq_true rfl, by rw [hRl]; exact Nat.le_of_ble_eq_true rfl⟩ rfl rfl (gle (gc_i gc_0) (by decide))) ?_
  refine g_icmp_eq C 2606 dL_law_2538 rfl hF (fun c hF => ?_) (fun c hF => ?_)
  · refine g_iinc (v := (9 : Int32)) C 4 dL_law_2606 rfl rfl (by decide) (gcons rfl (gfk rfl rfl (gfk rfl rfl (gfk rfl rfl (gfr rfl (gfd rfl gf0)))))) ?_
    refine g_goto C 23 dL_law_2609 rfl ?_
    exact g_sub [1, 2, 3, 4, 0] rfl (hk23 a1 a2 a3 (a4 + (9 : Int32)) S4 hF)
  · refine g_iconst (v := (0 : Int32)) C dL_law_2541 rfl ?_
    exact g_law0 hF
theorem wfL_law_j2543 {S1 : gS} {hh : List (Nat × Nat × Nat × Nat)} {nm : String} (C : gCx p l R s m args meth c D K RX0 cL_law 8 (Option.some Jvm.ClassFile.FieldType.boolean) hh nm u0) {b L : Nat} {xs : Nat → Int32} (hLaw : gLaw R K s u0 args b L xs) (hRf : R.frames = 8192) (hRl : R.locals = 100000) (k23 : (Option Nat) → (Option Nat) → (Option Nat) → (Int32) → gS → Option (Int32 × gS)) (hk23 : ∀ (a1 : Option Nat) (a2 : Option Nat) (a3 : Option Nat) (a4 : Int32) (S : gS), k23 a1 a2 a3 a4 S = some ((1 : Int32), S1) → gW p l e R s m args below meth c D K 8 u0 (lw_Z below args s) S 23 [(0, va_rf (some b)), (1, va_rf a1), (2, va_rf a2), (3, va_rf a3), (4, .int a4)] []) : ∀ (a1 : Option Nat) (a2 : Option Nat) (a3 : Option Nat) (a4 : Int32) (S : gS), fL_law_j2543 L xs k23 a1 a2 a3 a4 S = some ((1 : Int32), S1) → gW p l e R s m args below meth c D K 8 u0 (lw_Z below args s) S 2543 [(0, va_rf ((some b))), (1, va_rf a1), (2, va_rf a2), (3, va_rf a3), (4, .int a4)] [] := by
  intro a1 a2 a3 a4 S hF
  unfold fL_law_j2543 at hF
  refine g_aload_n C 1 dL_law_2543 rfl ?_
  obtain ⟨x1, S2, h, hF⟩ := gB_some hF
  obtain ⟨hi, h⟩ := gV_some h
  refine g_after (g_runV (n := 0) C dL_law_2544 rfl hi (mX1_restore C.2.2.2.2.2.2.2.2.2.2.2.1 a1 S _ _ h) (lw_V q897 q898 q899 q99 q900) (by decide +kernel) ⟨by rw [hRf]; exact Nat.le_of_ble_eq_true rfl, by rw [hRl]; exact Nat.le_of_ble_eq_true rfl⟩ rfl rfl (gle gc_0 (by decide))) ?_
  refine g_aload_n C 2 dL_law_2547 rfl ?_
  obtain ⟨x3, S4, h, hF⟩ := gB_some hF
  obtain ⟨hi, h⟩ := gV_some h
  refine g_after (g_runV (n := 0) C dL_law_2548 rfl hi (mX6_restore C.2.2.2.2.2.2.2.2.2.2.2.1 a2 S2 _ _ h) (lw_V q2594 q2595 q2596 q124 q2597) (by decide +kernel) ⟨by rw [hRf]; exact Nat.le_of_ble_eq_true rfl, by rw [hRl]; exact Nat.le_of_ble_eq_true rfl⟩ rfl rfl (gle (gc_i gc_0) (by decide))) ?_
  refine g_icmp_eq C 2606 dL_law_2551 rfl hF (fun c hF => ?_) (fun c hF => ?_)
  · refine g_iinc (v := (9 : Int32)) C 4 dL_law_2606 rfl rfl (by decide) (gcons rfl (gfk rfl rfl (gfk rfl rfl (gfk rfl rfl (gfr rfl (gfd rfl gf0)))))) ?_
    refine g_goto C 23 dL_law_2609 rfl ?_
    exact g_sub [1, 2, 3, 4, 0] rfl (hk23 a1 a2 a3 (a4 + (9 : Int32)) S4 hF)
  · refine g_iconst (v := (0 : Int32)) C dL_law_2554 rfl ?_
    exact g_law0 hF
theorem wfL_law_j2556 {S1 : gS} {hh : List (Nat × Nat × Nat × Nat)} {nm : String} (C : gCx p l R s m args meth c D K RX0 cL_law 8 (Option.some Jvm.ClassFile.FieldType.boolean) hh nm u0) {b L : Nat} {xs : Nat → Int32} (hLaw : gLaw R K s u0 args b L xs) (hRf : R.frames = 8192) (hRl : R.locals = 100000) (k23 : (Option Nat) → (Option Nat) → (Option Nat) → (Int32) → gS → Option (Int32 × gS)) (hk23 : ∀ (a1 : Option Nat) (a2 : Option Nat) (a3 : Option Nat) (a4 : Int32) (S : gS), k23 a1 a2 a3 a4 S = some ((1 : Int32), S1) → gW p l e R s m args below meth c D K 8 u0 (lw_Z below args s) S 23 [(0, va_rf (some b)), (1, va_rf a1), (2, va_rf a2), (3, va_rf a3), (4, .int a4)] []) : ∀ (a1 : Option Nat) (a2 : Option Nat) (a3 : Option Nat) (a4 : Int32) (S : gS), fL_law_j2556 L xs k23 a1 a2 a3 a4 S = some ((1 : Int32), S1) → gW p l e R s m args below meth c D K 8 u0 (lw_Z below args s) S 2556 [(0, va_rf ((some b))), (1, va_rf a1), (2, va_rf a2), (3, va_rf a3), (4, .int a4)] [] := by
  intro a1 a2 a3 a4 S hF
  unfold fL_law_j2556 at hF
  refine g_aload_n C 1 dL_law_2556 rfl ?_
  refine g_aload_n C 0 dL_law_2557 rfl ?_
  refine g_iload C 4 dL_law_2558 rfl ?_
  refine g_iconst (v := (1 : Int32)) C dL_law_2560 rfl ?_
  refine g_iadd C dL_law_2561 ?_
  refine g_sld C hLaw dL_law_2562 hF (fun x1 hF => ?_)
  obtain ⟨x2, h, hF⟩ := oB hF
  obtain ⟨hi, h⟩ := gV_some h
  refine g_after (g_runV (n := 1) C dL_law_2563 rfl hi (mX1_status C.2.2.2.2.2.2.2.2.2.2.2.1 a1 x1 S _ h) (lw_V q901 q902 q903 q99 q904) (by decide +kernel) ⟨by rw [hRf]; exact Nat.le_of_ble_eq_true rfl, by rw [hRl]; exact Nat.le_of_ble_eq_true rfl⟩ rfl rfl (gle gc_0 (by decide))) ?_
  refine g_aload_n C 2 dL_law_2566 rfl ?_
  refine g_aload_n C 0 dL_law_2567 rfl ?_
  refine g_iload C 4 dL_law_2568 rfl ?_
  refine g_iconst (v := (1 : Int32)) C dL_law_2570 rfl ?_
  refine g_iadd C dL_law_2571 ?_
  refine g_sld C hLaw dL_law_2572 hF (fun x3 hF => ?_)
  obtain ⟨x4, S5, h, hF⟩ := gB_some hF
  obtain ⟨hi, h⟩ := gV_some h
  refine g_after (g_runV (n := 1) C dL_law_2573 rfl hi (mX6_status C.2.2.2.2.2.2.2.2.2.2.2.1 a2 x3 S _ _ h) (lw_V q2598 q2599 q2600 q124 q2601) (by decide +kernel) ⟨by rw [hRf]; exact Nat.le_of_ble_eq_true rfl, by rw [hRl]; exact Nat.le_of_ble_eq_true rfl⟩ rfl rfl (gle (gc_i gc_0) (by decide))) ?_
  refine g_icmp_eq C 2606 dL_law_2576 rfl hF (fun c hF => ?_) (fun c hF => ?_)
  · refine g_iinc (v := (9 : Int32)) C 4 dL_law_2606 rfl rfl (by decide) (gcons rfl (gfk rfl rfl (gfk rfl rfl (gfk rfl rfl (gfr rfl (gfd rfl gf0)))))) ?_
    refine g_goto C 23 dL_law_2609 rfl ?_
    exact g_sub [1, 2, 3, 4, 0] rfl (hk23 a1 a2 a3 (a4 + (9 : Int32)) S5 hF)
  · refine g_iconst (v := (0 : Int32)) C dL_law_2579 rfl ?_
    exact g_law0 hF
theorem wfL_law_j2581 {S1 : gS} {hh : List (Nat × Nat × Nat × Nat)} {nm : String} (C : gCx p l R s m args meth c D K RX0 cL_law 8 (Option.some Jvm.ClassFile.FieldType.boolean) hh nm u0) {b L : Nat} {xs : Nat → Int32} (hLaw : gLaw R K s u0 args b L xs) (hRf : R.frames = 8192) (hRl : R.locals = 100000) (k23 : (Option Nat) → (Option Nat) → (Option Nat) → (Int32) → gS → Option (Int32 × gS)) (hk23 : ∀ (a1 : Option Nat) (a2 : Option Nat) (a3 : Option Nat) (a4 : Int32) (S : gS), k23 a1 a2 a3 a4 S = some ((1 : Int32), S1) → gW p l e R s m args below meth c D K 8 u0 (lw_Z below args s) S 23 [(0, va_rf (some b)), (1, va_rf a1), (2, va_rf a2), (3, va_rf a3), (4, .int a4)] []) : ∀ (a1 : Option Nat) (a2 : Option Nat) (a3 : Option Nat) (a4 : Int32) (S : gS), fL_law_j2581 L xs k23 a1 a2 a3 a4 S = some ((1 : Int32), S1) → gW p l e R s m args below meth c D K 8 u0 (lw_Z below args s) S 2581 [(0, va_rf ((some b))), (1, va_rf a1), (2, va_rf a2), (3, va_rf a3), (4, .int a4)] [] := by
  intro a1 a2 a3 a4 S hF
  unfold fL_law_j2581 at hF
  refine g_aload_n C 1 dL_law_2581 rfl ?_
  refine g_aload_n C 0 dL_law_2582 rfl ?_
  refine g_iload C 4 dL_law_2583 rfl ?_
  refine g_iconst (v := (1 : Int32)) C dL_law_2585 rfl ?_
  refine g_iadd C dL_law_2586 ?_
  refine g_sld C hLaw dL_law_2587 hF (fun x1 hF => ?_)
  obtain ⟨x2, h, hF⟩ := oB hF
  obtain ⟨hi, h⟩ := gV_some h
  refine g_after (g_runV (n := 1) C dL_law_2588 rfl hi (mX1_count C.2.2.2.2.2.2.2.2.2.2.2.1 a1 x1 S _ h) (lw_V q908 q909 q910 q99 q911) (by decide +kernel) ⟨by rw [hRf]; exact Nat.le_of_ble_eq_true rfl, by rw [hRl]; exact Nat.le_of_ble_eq_true rfl⟩ rfl rfl (gle gc_0 (by decide))) ?_
  refine g_aload_n C 2 dL_law_2591 rfl ?_
  refine g_aload_n C 0 dL_law_2592 rfl ?_
  refine g_iload C 4 dL_law_2593 rfl ?_
  refine g_iconst (v := (1 : Int32)) C dL_law_2595 rfl ?_
  refine g_iadd C dL_law_2596 ?_
  refine g_sld C hLaw dL_law_2597 hF (fun x3 hF => ?_)
  obtain ⟨x4, S5, h, hF⟩ := gB_some hF
  obtain ⟨hi, h⟩ := gV_some h
  refine g_after (g_runV (n := 1) C dL_law_2598 rfl hi (mX6_count C.2.2.2.2.2.2.2.2.2.2.2.1 a2 x3 S _ _ h) (lw_V q2602 q2603 q2604 q124 q2605) (by decide +kernel) ⟨by rw [hRf]; exact Nat.le_of_ble_eq_true rfl, by rw [hRl]; exact Nat.le_of_ble_eq_true rfl⟩ rfl rfl (gle (gc_i gc_0) (by decide))) ?_
  refine g_icmp_eq C 2606 dL_law_2601 rfl hF (fun c hF => ?_) (fun c hF => ?_)
  · refine g_iinc (v := (9 : Int32)) C 4 dL_law_2606 rfl rfl (by decide) (gcons rfl (gfk rfl rfl (gfk rfl rfl (gfk rfl rfl (gfr rfl (gfd rfl gf0)))))) ?_
    refine g_goto C 23 dL_law_2609 rfl ?_
    exact g_sub [1, 2, 3, 4, 0] rfl (hk23 a1 a2 a3 (a4 + (9 : Int32)) S5 hF)
  · refine g_iconst (v := (0 : Int32)) C dL_law_2604 rfl ?_
    exact g_law0 hF
theorem wfL_law_l23 {S1 : gS} {hh : List (Nat × Nat × Nat × Nat)} {nm : String} (C : gCx p l R s m args meth c D K RX0 cL_law 8 (Option.some Jvm.ClassFile.FieldType.boolean) hh nm u0) {b L : Nat} {xs : Nat → Int32} (hLaw : gLaw R K s u0 args b L xs) (hRf : R.frames = 8192) (hRl : R.locals = 100000) : ∀ (n : Nat) (a1 : Option Nat) (a2 : Option Nat) (a3 : Option Nat) (a4 : Int32) (S : gS), fL_law_l23 L xs n a1 a2 a3 a4 S = some ((1 : Int32), S1) → gW p l e R s m args below meth c D K 8 u0 (lw_Z below args s) S 23 [(0, va_rf ((some b))), (1, va_rf a1), (2, va_rf a2), (3, va_rf a3), (4, .int a4)] [] := by
  intro n
  induction n with
  | zero => intro a1 a2 a3 a4 S hF; cases hF
  | succ n hih =>
    intro a1 a2 a3 a4 S hF
    have hF : fL_law_i23 L xs (fL_law_l23 L xs n) a1 a2 a3 a4 S = some ((1 : Int32), S1) := hF
    revert hF hih
    generalize fL_law_l23 L xs n = ih
    intro hih hF
    unfold fL_law_i23 at hF
    refine g_iload C 4 dL_law_23 rfl ?_
    refine g_aload_n C 0 dL_law_25 rfl ?_
    refine g_slen C hLaw dL_law_26 ?_
    refine g_bipush (v := (9 : Int32)) C dL_law_27 rfl ?_
    refine g_isub C dL_law_29 ?_
    refine g_icmp_gt C 2612 dL_law_30 rfl hF (fun c hF => ?_) (fun c hF => ?_)
    · refine g_iconst (v := (1 : Int32)) C dL_law_2612 rfl ?_
      cases hF
      exact g_law1 C hLaw dL_law_2613
    · refine g_aload_n C 0 dL_law_33 rfl ?_
      refine g_iload C 4 dL_law_34 rfl ?_
      refine g_sld C hLaw dL_law_36 hF (fun x1 hF => ?_)
      refine g_bipush (v := (63 : Int32)) C dL_law_37 rfl ?_
      refine g_iand C dL_law_39 ?_
      refine g_case hF (fun c0 hF => ?_) (fun c0 hF => ?_)
      · refine g_tableIn C (0) (192) 232 dL_law_40 (by rw [c0]; rfl) (by decide) (by decide) rfl rfl ?_
        exact g_sub [0, 1, 2, 3, 4] rfl (wfL_law_j232 C hLaw hRf hRl (ih) (hih) a1 a2 a3 a4 S hF)
      refine g_case hF (fun c1 hF => ?_) (fun c1 hF => ?_)
      · refine g_tableIn C (1) (265) 305 dL_law_40 (by rw [c1]; rfl) (by decide) (by decide) rfl rfl ?_
        exact g_sub [0, 1, 2, 3, 4] rfl (wfL_law_j305 C hLaw hRf hRl (ih) (hih) a1 a2 a3 a4 S hF)
      refine g_case hF (fun c2 hF => ?_) (fun c2 hF => ?_)
      · refine g_tableIn C (2) (321) 361 dL_law_40 (by rw [c2]; rfl) (by decide) (by decide) rfl rfl ?_
        exact g_sub [0, 1, 2, 3, 4] rfl (wfL_law_j361 C hLaw hRf hRl (ih) (hih) a1 a2 a3 a4 S hF)
      refine g_case hF (fun c3 hF => ?_) (fun c3 hF => ?_)
      · refine g_tableIn C (3) (377) 417 dL_law_40 (by rw [c3]; rfl) (by decide) (by decide) rfl rfl ?_
        exact g_sub [0, 1, 2, 3, 4] rfl (wfL_law_j417 C hLaw hRf hRl (ih) (hih) a1 a2 a3 a4 S hF)
      refine g_case hF (fun c4 hF => ?_) (fun c4 hF => ?_)
      · refine g_tableIn C (4) (433) 473 dL_law_40 (by rw [c4]; rfl) (by decide) (by decide) rfl rfl ?_
        exact g_sub [0, 1, 2, 3, 4] rfl (wfL_law_j473 C hLaw hRf hRl (ih) (hih) a1 a2 a3 a4 S hF)
      refine g_case hF (fun c5 hF => ?_) (fun c5 hF => ?_)
      · refine g_tableIn C (5) (489) 529 dL_law_40 (by rw [c5]; rfl) (by decide) (by decide) rfl rfl ?_
        exact g_sub [0, 1, 2, 3, 4] rfl (wfL_law_j529 C hLaw hRf hRl (ih) (hih) a1 a2 a3 a4 S hF)
      refine g_case hF (fun c6 hF => ?_) (fun c6 hF => ?_)
      · refine g_tableIn C (6) (502) 542 dL_law_40 (by rw [c6]; rfl) (by decide) (by decide) rfl rfl ?_
        exact g_sub [0, 1, 2, 3, 4] rfl (wfL_law_j542 C hLaw hRf hRl (ih) (hih) a1 a2 a3 a4 S hF)
      refine g_case hF (fun c7 hF => ?_) (fun c7 hF => ?_)
      · refine g_tableIn C (7) (515) 555 dL_law_40 (by rw [c7]; rfl) (by decide) (by decide) rfl rfl ?_
        exact g_sub [0, 1, 2, 3, 4] rfl (wfL_law_j555 C hLaw hRf hRl (ih) (hih) a1 a2 a3 a4 S hF)
      refine g_case hF (fun c8 hF => ?_) (fun c8 hF => ?_)
      · refine g_tableIn C (8) (571) 611 dL_law_40 (by rw [c8]; rfl) (by decide) (by decide) rfl rfl ?_
        exact g_sub [0, 1, 2, 3, 4] rfl (wfL_law_j611 C hLaw hRf hRl (ih) (hih) a1 a2 a3 a4 S hF)
      refine g_case hF (fun c9 hF => ?_) (fun c9 hF => ?_)
      · refine g_tableIn C (9) (639) 679 dL_law_40 (by rw [c9]; rfl) (by decide) (by decide) rfl rfl ?_
        exact g_sub [0, 1, 2, 3, 4] rfl (wfL_law_j679 C hLaw hRf hRl (ih) (hih) a1 a2 a3 a4 S hF)
      refine g_case hF (fun c10 hF => ?_) (fun c10 hF => ?_)
      · refine g_tableIn C (10) (707) 747 dL_law_40 (by rw [c10]; rfl) (by decide) (by decide) rfl rfl ?_
        exact g_sub [0, 1, 2, 3, 4] rfl (wfL_law_j747 C hLaw hRf hRl (ih) (hih) a1 a2 a3 a4 S hF)
      refine g_case hF (fun c11 hF => ?_) (fun c11 hF => ?_)
      · refine g_tableIn C (11) (775) 815 dL_law_40 (by rw [c11]; rfl) (by decide) (by decide) rfl rfl ?_
        exact g_sub [0, 1, 2, 3, 4] rfl (wfL_law_j815 C hLaw hRf hRl (ih) (hih) a1 a2 a3 a4 S hF)
      refine g_case hF (fun c12 hF => ?_) (fun c12 hF => ?_)
      · refine g_tableIn C (12) (843) 883 dL_law_40 (by rw [c12]; rfl) (by decide) (by decide) rfl rfl ?_
        exact g_sub [0, 1, 2, 3, 4] rfl (wfL_law_j883 C hLaw hRf hRl (ih) (hih) a1 a2 a3 a4 S hF)
      refine g_case hF (fun c13 hF => ?_) (fun c13 hF => ?_)
      · refine g_tableIn C (13) (989) 1029 dL_law_40 (by rw [c13]; rfl) (by decide) (by decide) rfl rfl ?_
        exact g_sub [0, 1, 2, 3, 4] rfl (wfL_law_j1029 C hLaw hRf hRl (ih) (hih) a1 a2 a3 a4 S hF)
      refine g_case hF (fun c14 hF => ?_) (fun c14 hF => ?_)
      · refine g_tableIn C (14) (1057) 1097 dL_law_40 (by rw [c14]; rfl) (by decide) (by decide) rfl rfl ?_
        exact g_sub [0, 1, 2, 3, 4] rfl (wfL_law_j1097 C hLaw hRf hRl (ih) (hih) a1 a2 a3 a4 S hF)
      refine g_case hF (fun c15 hF => ?_) (fun c15 hF => ?_)
      · refine g_tableIn C (15) (1070) 1110 dL_law_40 (by rw [c15]; rfl) (by decide) (by decide) rfl rfl ?_
        exact g_sub [0, 1, 2, 3, 4] rfl (wfL_law_j1110 C hLaw hRf hRl (ih) (hih) a1 a2 a3 a4 S hF)
      refine g_case hF (fun c16 hF => ?_) (fun c16 hF => ?_)
      · refine g_tableIn C (16) (1138) 1178 dL_law_40 (by rw [c16]; rfl) (by decide) (by decide) rfl rfl ?_
        exact g_sub [0, 1, 2, 3, 4] rfl (wfL_law_j1178 C hLaw hRf hRl (ih) (hih) a1 a2 a3 a4 S hF)
      refine g_case hF (fun c17 hF => ?_) (fun c17 hF => ?_)
      · refine g_tableIn C (17) (1151) 1191 dL_law_40 (by rw [c17]; rfl) (by decide) (by decide) rfl rfl ?_
        exact g_sub [0, 1, 2, 3, 4] rfl (wfL_law_j1191 C hLaw hRf hRl (ih) (hih) a1 a2 a3 a4 S hF)
      refine g_case hF (fun c18 hF => ?_) (fun c18 hF => ?_)
      · refine g_tableIn C (18) (1207) 1247 dL_law_40 (by rw [c18]; rfl) (by decide) (by decide) rfl rfl ?_
        exact g_sub [0, 1, 2, 3, 4] rfl (wfL_law_j1247 C hLaw hRf hRl (ih) (hih) a1 a2 a3 a4 S hF)
      refine g_case hF (fun c19 hF => ?_) (fun c19 hF => ?_)
      · refine g_tableIn C (19) (1220) 1260 dL_law_40 (by rw [c19]; rfl) (by decide) (by decide) rfl rfl ?_
        exact g_sub [0, 1, 2, 3, 4] rfl (wfL_law_j1260 C hLaw hRf hRl (ih) (hih) a1 a2 a3 a4 S hF)
      refine g_case hF (fun c20 hF => ?_) (fun c20 hF => ?_)
      · refine g_tableIn C (20) (1275) 1315 dL_law_40 (by rw [c20]; rfl) (by decide) (by decide) rfl rfl ?_
        exact g_sub [0, 1, 2, 3, 4] rfl (wfL_law_j1315 C hLaw hRf hRl (ih) (hih) a1 a2 a3 a4 S hF)
      refine g_case hF (fun c21 hF => ?_) (fun c21 hF => ?_)
      · refine g_tableIn C (21) (1331) 1371 dL_law_40 (by rw [c21]; rfl) (by decide) (by decide) rfl rfl ?_
        exact g_sub [0, 1, 2, 3, 4] rfl (wfL_law_j1371 C hLaw hRf hRl (ih) (hih) a1 a2 a3 a4 S hF)
      refine g_case hF (fun c22 hF => ?_) (fun c22 hF => ?_)
      · refine g_tableIn C (22) (1387) 1427 dL_law_40 (by rw [c22]; rfl) (by decide) (by decide) rfl rfl ?_
        exact g_sub [0, 1, 2, 3, 4] rfl (wfL_law_j1427 C hLaw hRf hRl (ih) (hih) a1 a2 a3 a4 S hF)
      refine g_case hF (fun c23 hF => ?_) (fun c23 hF => ?_)
      · refine g_tableIn C (23) (1443) 1483 dL_law_40 (by rw [c23]; rfl) (by decide) (by decide) rfl rfl ?_
        exact g_sub [0, 1, 2, 3, 4] rfl (wfL_law_j1483 C hLaw hRf hRl (ih) (hih) a1 a2 a3 a4 S hF)
      refine g_case hF (fun c24 hF => ?_) (fun c24 hF => ?_)
      · refine g_tableIn C (24) (1499) 1539 dL_law_40 (by rw [c24]; rfl) (by decide) (by decide) rfl rfl ?_
        exact g_sub [0, 1, 2, 3, 4] rfl (wfL_law_j1539 C hLaw hRf hRl (ih) (hih) a1 a2 a3 a4 S hF)
      refine g_case hF (fun c25 hF => ?_) (fun c25 hF => ?_)
      · refine g_tableIn C (25) (1579) 1619 dL_law_40 (by rw [c25]; rfl) (by decide) (by decide) rfl rfl ?_
        exact g_sub [0, 1, 2, 3, 4] rfl (wfL_law_j1619 C hLaw hRf hRl (ih) (hih) a1 a2 a3 a4 S hF)
      refine g_case hF (fun c26 hF => ?_) (fun c26 hF => ?_)
      · refine g_tableIn C (26) (1670) 1710 dL_law_40 (by rw [c26]; rfl) (by decide) (by decide) rfl rfl ?_
        exact g_sub [0, 1, 2, 3, 4] rfl (wfL_law_j1710 C hLaw hRf hRl (ih) (hih) a1 a2 a3 a4 S hF)
      refine g_case hF (fun c27 hF => ?_) (fun c27 hF => ?_)
      · refine g_tableIn C (27) (1750) 1790 dL_law_40 (by rw [c27]; rfl) (by decide) (by decide) rfl rfl ?_
        exact g_sub [0, 1, 2, 3, 4] rfl (wfL_law_j1790 C hLaw hRf hRl (ih) (hih) a1 a2 a3 a4 S hF)
      refine g_case hF (fun c28 hF => ?_) (fun c28 hF => ?_)
      · refine g_tableIn C (28) (1806) 1846 dL_law_40 (by rw [c28]; rfl) (by decide) (by decide) rfl rfl ?_
        exact g_sub [0, 1, 2, 3, 4] rfl (wfL_law_j1846 C hLaw hRf hRl (ih) (hih) a1 a2 a3 a4 S hF)
      refine g_case hF (fun c29 hF => ?_) (fun c29 hF => ?_)
      · refine g_tableIn C (29) (1862) 1902 dL_law_40 (by rw [c29]; rfl) (by decide) (by decide) rfl rfl ?_
        exact g_sub [0, 1, 2, 3, 4] rfl (wfL_law_j1902 C hLaw hRf hRl (ih) (hih) a1 a2 a3 a4 S hF)
      refine g_case hF (fun c30 hF => ?_) (fun c30 hF => ?_)
      · refine g_tableIn C (30) (1918) 1958 dL_law_40 (by rw [c30]; rfl) (by decide) (by decide) rfl rfl ?_
        exact g_sub [0, 1, 2, 3, 4] rfl (wfL_law_j1958 C hLaw hRf hRl (ih) (hih) a1 a2 a3 a4 S hF)
      refine g_case hF (fun c31 hF => ?_) (fun c31 hF => ?_)
      · refine g_tableIn C (31) (1974) 2014 dL_law_40 (by rw [c31]; rfl) (by decide) (by decide) rfl rfl ?_
        exact g_sub [0, 1, 2, 3, 4] rfl (wfL_law_j2014 C hLaw hRf hRl (ih) (hih) a1 a2 a3 a4 S hF)
      refine g_case hF (fun c32 hF => ?_) (fun c32 hF => ?_)
      · refine g_tableIn C (32) (2030) 2070 dL_law_40 (by rw [c32]; rfl) (by decide) (by decide) rfl rfl ?_
        exact g_sub [0, 1, 2, 3, 4] rfl (wfL_law_j2070 C hLaw hRf hRl (ih) (hih) a1 a2 a3 a4 S hF)
      refine g_case hF (fun c33 hF => ?_) (fun c33 hF => ?_)
      · refine g_tableIn C (33) (2043) 2083 dL_law_40 (by rw [c33]; rfl) (by decide) (by decide) rfl rfl ?_
        exact g_sub [0, 1, 2, 3, 4] rfl (wfL_law_j2083 C hLaw hRf hRl (ih) (hih) a1 a2 a3 a4 S hF)
      refine g_case hF (fun c34 hF => ?_) (fun c34 hF => ?_)
      · refine g_tableIn C (34) (2056) 2096 dL_law_40 (by rw [c34]; rfl) (by decide) (by decide) rfl rfl ?_
        exact g_sub [0, 1, 2, 3, 4] rfl (wfL_law_j2096 C hLaw hRf hRl (ih) (hih) a1 a2 a3 a4 S hF)
      refine g_case hF (fun c35 hF => ?_) (fun c35 hF => ?_)
      · refine g_tableIn C (35) (2112) 2152 dL_law_40 (by rw [c35]; rfl) (by decide) (by decide) rfl rfl ?_
        exact g_sub [0, 1, 2, 3, 4] rfl (wfL_law_j2152 C hLaw hRf hRl (ih) (hih) a1 a2 a3 a4 S hF)
      refine g_case hF (fun c36 hF => ?_) (fun c36 hF => ?_)
      · refine g_tableIn C (36) (2168) 2208 dL_law_40 (by rw [c36]; rfl) (by decide) (by decide) rfl rfl ?_
        exact g_sub [0, 1, 2, 3, 4] rfl (wfL_law_j2208 C hLaw hRf hRl (ih) (hih) a1 a2 a3 a4 S hF)
      refine g_case hF (fun c37 hF => ?_) (fun c37 hF => ?_)
      · refine g_tableIn C (37) (2224) 2264 dL_law_40 (by rw [c37]; rfl) (by decide) (by decide) rfl rfl ?_
        exact g_sub [0, 1, 2, 3, 4] rfl (wfL_law_j2264 C hLaw hRf hRl (ih) (hih) a1 a2 a3 a4 S hF)
      refine g_case hF (fun c38 hF => ?_) (fun c38 hF => ?_)
      · refine g_tableIn C (38) (2280) 2320 dL_law_40 (by rw [c38]; rfl) (by decide) (by decide) rfl rfl ?_
        exact g_sub [0, 1, 2, 3, 4] rfl (wfL_law_j2320 C hLaw hRf hRl (ih) (hih) a1 a2 a3 a4 S hF)
      refine g_case hF (fun c39 hF => ?_) (fun c39 hF => ?_)
      · refine g_tableIn C (39) (2372) 2412 dL_law_40 (by rw [c39]; rfl) (by decide) (by decide) rfl rfl ?_
        exact g_sub [0, 1, 2, 3, 4] rfl (wfL_law_j2412 C hLaw hRf hRl (ih) (hih) a1 a2 a3 a4 S hF)
      refine g_case hF (fun c40 hF => ?_) (fun c40 hF => ?_)
      · refine g_tableIn C (40) (2490) 2530 dL_law_40 (by rw [c40]; rfl) (by decide) (by decide) rfl rfl ?_
        exact g_sub [0, 1, 2, 3, 4] rfl (wfL_law_j2530 C hLaw hRf hRl (ih) (hih) a1 a2 a3 a4 S hF)
      refine g_case hF (fun c41 hF => ?_) (fun c41 hF => ?_)
      · refine g_tableIn C (41) (2503) 2543 dL_law_40 (by rw [c41]; rfl) (by decide) (by decide) rfl rfl ?_
        exact g_sub [0, 1, 2, 3, 4] rfl (wfL_law_j2543 C hLaw hRf hRl (ih) (hih) a1 a2 a3 a4 S hF)
      refine g_case hF (fun c42 hF => ?_) (fun c42 hF => ?_)
      · refine g_tableIn C (42) (2516) 2556 dL_law_40 (by rw [c42]; rfl) (by decide) (by decide) rfl rfl ?_
        exact g_sub [0, 1, 2, 3, 4] rfl (wfL_law_j2556 C hLaw hRf hRl (ih) (hih) a1 a2 a3 a4 S hF)
      refine g_case hF (fun c43 hF => ?_) (fun c43 hF => ?_)
      · refine g_tableIn C (43) (2541) 2581 dL_law_40 (by rw [c43]; rfl) (by decide) (by decide) rfl rfl ?_
        exact g_sub [0, 1, 2, 3, 4] rfl (wfL_law_j2581 C hLaw hRf hRl (ih) (hih) a1 a2 a3 a4 S hF)
      have hne := And.intro trivial trivial
      have n0 := lv_neT c0 (show ((0 : Int32)).toInt = 0 by decide)
      have n1 := lv_neT c1 (show ((1 : Int32)).toInt = 1 by decide)
      have n2 := lv_neT c2 (show ((2 : Int32)).toInt = 2 by decide)
      have n3 := lv_neT c3 (show ((3 : Int32)).toInt = 3 by decide)
      have n4 := lv_neT c4 (show ((4 : Int32)).toInt = 4 by decide)
      have n5 := lv_neT c5 (show ((5 : Int32)).toInt = 5 by decide)
      have n6 := lv_neT c6 (show ((6 : Int32)).toInt = 6 by decide)
      have n7 := lv_neT c7 (show ((7 : Int32)).toInt = 7 by decide)
      have n8 := lv_neT c8 (show ((8 : Int32)).toInt = 8 by decide)
      have n9 := lv_neT c9 (show ((9 : Int32)).toInt = 9 by decide)
      have n10 := lv_neT c10 (show ((10 : Int32)).toInt = 10 by decide)
      have n11 := lv_neT c11 (show ((11 : Int32)).toInt = 11 by decide)
      have n12 := lv_neT c12 (show ((12 : Int32)).toInt = 12 by decide)
      have n13 := lv_neT c13 (show ((13 : Int32)).toInt = 13 by decide)
      have n14 := lv_neT c14 (show ((14 : Int32)).toInt = 14 by decide)
      have n15 := lv_neT c15 (show ((15 : Int32)).toInt = 15 by decide)
      have n16 := lv_neT c16 (show ((16 : Int32)).toInt = 16 by decide)
      have n17 := lv_neT c17 (show ((17 : Int32)).toInt = 17 by decide)
      have n18 := lv_neT c18 (show ((18 : Int32)).toInt = 18 by decide)
      have n19 := lv_neT c19 (show ((19 : Int32)).toInt = 19 by decide)
      have n20 := lv_neT c20 (show ((20 : Int32)).toInt = 20 by decide)
      have n21 := lv_neT c21 (show ((21 : Int32)).toInt = 21 by decide)
      have n22 := lv_neT c22 (show ((22 : Int32)).toInt = 22 by decide)
      have n23 := lv_neT c23 (show ((23 : Int32)).toInt = 23 by decide)
      have n24 := lv_neT c24 (show ((24 : Int32)).toInt = 24 by decide)
      have n25 := lv_neT c25 (show ((25 : Int32)).toInt = 25 by decide)
      have n26 := lv_neT c26 (show ((26 : Int32)).toInt = 26 by decide)
      have n27 := lv_neT c27 (show ((27 : Int32)).toInt = 27 by decide)
      have n28 := lv_neT c28 (show ((28 : Int32)).toInt = 28 by decide)
      have n29 := lv_neT c29 (show ((29 : Int32)).toInt = 29 by decide)
      have n30 := lv_neT c30 (show ((30 : Int32)).toInt = 30 by decide)
      have n31 := lv_neT c31 (show ((31 : Int32)).toInt = 31 by decide)
      have n32 := lv_neT c32 (show ((32 : Int32)).toInt = 32 by decide)
      have n33 := lv_neT c33 (show ((33 : Int32)).toInt = 33 by decide)
      have n34 := lv_neT c34 (show ((34 : Int32)).toInt = 34 by decide)
      have n35 := lv_neT c35 (show ((35 : Int32)).toInt = 35 by decide)
      have n36 := lv_neT c36 (show ((36 : Int32)).toInt = 36 by decide)
      have n37 := lv_neT c37 (show ((37 : Int32)).toInt = 37 by decide)
      have n38 := lv_neT c38 (show ((38 : Int32)).toInt = 38 by decide)
      have n39 := lv_neT c39 (show ((39 : Int32)).toInt = 39 by decide)
      have n40 := lv_neT c40 (show ((40 : Int32)).toInt = 40 by decide)
      have n41 := lv_neT c41 (show ((41 : Int32)).toInt = 41 by decide)
      have n42 := lv_neT c42 (show ((42 : Int32)).toInt = 42 by decide)
      have n43 := lv_neT c43 (show ((43 : Int32)).toInt = 43 by decide)
      refine g_tableOut C 2606 dL_law_40 (by omega) rfl ?_
      refine g_iinc (v := (9 : Int32)) C 4 dL_law_2606 rfl rfl (by decide) (gcons rfl (gfk rfl rfl (gfk rfl rfl (gfk rfl rfl (gfr rfl (gfd rfl gf0)))))) ?_
      refine g_goto C 23 dL_law_2609 rfl ?_
      exact g_sub [1, 2, 3, 4, 0] rfl (hih a1 a2 a3 (a4 + (9 : Int32)) S hF)
theorem mL_law {hh : List (Nat × Nat × Nat × Nat)} {nm : String} (C : gCx p l R s m args meth c D K RX0 cL_law 8 (Option.some Jvm.ClassFile.FieldType.boolean) hh nm u0) {b L : Nat} {xs : Nat → Int32} (hLaw : gLaw R K s u0 args b L xs) (hRf : R.frames = 8192) (hRl : R.locals = 100000) (S S1 : gS) (hF : fL_law L xs S = some ((1 : Int32), S1)) : gW p l e R s m args below meth c D K 8 u0 (lw_Z below args s) S 0 [(0, va_rf (some b))] [] := by
  unfold fL_law at hF
  refine g_new (ty := tyX1) C dL_law_0 rfl q153 q154 q99 tyX1_ok rfl hF (fun q1 S2 hF => ?_)
  refine g_dup C dL_law_3 (g_cr _) ?_
  obtain ⟨x3, S4, h, hF⟩ := gB_some hF
  refine g_after (g_runI (n := 0) C dL_law_4 (mX1_init C.2.2.2.2.2.2.2.2.2.2.2.1 (some q1) S2 _ _ h) rfl q157 q99 q155 q156 rfl (by decide +kernel) ⟨by rw [hRf]; exact Nat.le_of_ble_eq_true rfl, by rw [hRl]; exact Nat.le_of_ble_eq_true rfl⟩ rfl rfl (gle (gc_r gc_0) (by decide))) ?_
  refine g_astore_n C dL_law_7 (by decide) (gcons rfl (gfr rfl gf0)) ?_
  refine g_new (ty := tyX6) C dL_law_8 rfl q2005 q2006 q124 tyX6_ok rfl hF (fun q5 S6 hF => ?_)
  refine g_dup C dL_law_11 (g_cr _) ?_
  obtain ⟨x7, S8, h, hF⟩ := gB_some hF
  refine g_after (g_runI (n := 0) C dL_law_12 (mX6_init C.2.2.2.2.2.2.2.2.2.2.2.1 (some q5) S6 _ _ h) rfl q2009 q124 q2007 q2008 rfl (by decide +kernel) ⟨by rw [hRf]; exact Nat.le_of_ble_eq_true rfl, by rw [hRl]; exact Nat.le_of_ble_eq_true rfl⟩ rfl rfl (gle (gc_r gc_0) (by decide))) ?_
  refine g_astore_n C dL_law_15 (by decide) (gcons rfl (gfr rfl (gfk rfl rfl gf0))) ?_
  refine g_iconst (v := (1 : Int32)) C dL_law_16 rfl ?_
  refine g_newaL C dL_law_17 q2167 hF (fun q9 S10 hF => ?_)
  refine g_astore_n C dL_law_19 (by decide) (gcons rfl (gfr rfl (gfk rfl rfl (gfk rfl rfl gf0)))) ?_
  refine g_iconst (v := (0 : Int32)) C dL_law_20 rfl ?_
  refine g_istore C dL_law_21 (by decide) (gcons rfl (gfr rfl (gfk rfl rfl (gfk rfl rfl (gfk rfl rfl gf0))))) ?_
  exact g_sub [4, 3, 2, 1, 0] rfl (wfL_law_l23 C hLaw hRf hRl gFU (some q1) (some q5) (some q9) (0 : Int32) S10 hF)
end s21_law
